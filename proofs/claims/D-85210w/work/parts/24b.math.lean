/-! ===== Math ===== -/
section GMath
variable {ω : gW} {l : Launch} {d kc ks : Nat} {μ : gM} {σ0 σ : gMem} {PR : Option gV → gMem → Prop} {PX : String → gMem → Prop} {pc : Nat} {lv lv' : List (Nat × gV)} {st : List gV}
theorem g_mmax {x y : Int} {idx : Nat} (q1 : Cond.methodLink μ.1.cls idx Lib.Math.max.name ∈ lw_all) (hd : decode μ.2.1 pc = .ok (.invokestatic idx, 3)) (hx : g32 x) (hy : g32 y) (hdm : 1 ≤ d) (hcat : (st.map gcat).sum ≤ 8) (k : G ω l d kc ks μ σ0 PR PX (pc + 3) lv (vI (if x < y then y else x) :: st) σ) : G ω l d kc ks μ σ0 PR PX pc lv (vI y :: vI x :: st) σ := by
  intro p e s m args below meth c H locs cells slots mc ms ls hC hK hS hA hE hz hr hl
  have hts := hC.2.2.2.2.2.2.1
  have w := k p e s m args below meth c H locs cells slots mc ms ls hC hK hS hA hE hz hr hl
  have e : Int32.ofInt (if x < y then y else x) = (if Int32.ofInt x < Int32.ofInt y then Int32.ofInt y else Int32.ofInt x) := by
    have hc : (Int32.ofInt x < Int32.ofInt y) ↔ x < y := g32_lt hx hy
    by_cases c : x < y
    · rw [if_pos c, if_pos (hc.mpr c)]
    · rw [if_neg c, if_neg (fun z => c (hc.mp z))]
  rw [List.map_cons, show gval (vI (if x < y then y else x)) = Value.int (if Int32.ofInt x < Int32.ofInt y then Int32.ofInt y else Int32.ofInt x) from congrArg _ e] at w
  exact va_mmax hC.1 hC.2.1 (by rw [hC.2.2.1]; exact hl.1.symm) hC.2.2.2.2.2.1 (hts _ q1) (hts _ q862) (hts _ q260) (hts _ q863) hdm (by show _ + _ ≤ 64 * d; rw [gcats]; omega) (by show cells ≤ mc; omega) (by show slots ≤ ms; omega) hd w
theorem x_mmax {α : Type} {F : α → gR} {Rl : gMem → gMem → Prop} {t : Option α} {x y : Int} {idx : Nat} (q1 : Cond.methodLink μ.1.cls idx Lib.Math.max.name ∈ lw_all) (hd : decode μ.2.1 pc = .ok (.invokestatic idx, 3)) (hx : g32 x) (hy : g32 y) (hdm : 1 ≤ d) (hcat : (st.map gcat).sum ≤ 8) (k : GG F Rl ω l d μ σ0 (pc + 3) lv (vI (if x < y then y else x) :: st) σ t) : GG F Rl ω l d μ σ0 pc lv (vI y :: vI x :: st) σ t := fun ok a0 h => ⟨(k ok a0 h).1, fun kc ks h1 h2 => g_mmax q1 hd hx hy hdm hcat ((k ok a0 h).2 kc ks h1 h2)⟩
theorem g_mmin {x y : Int} {idx : Nat} (q1 : Cond.methodLink μ.1.cls idx Lib.Math.min.name ∈ lw_all) (hd : decode μ.2.1 pc = .ok (.invokestatic idx, 3)) (hx : g32 x) (hy : g32 y) (hdm : 1 ≤ d) (hcat : (st.map gcat).sum ≤ 8) (k : G ω l d kc ks μ σ0 PR PX (pc + 3) lv (vI (if y < x then y else x) :: st) σ) : G ω l d kc ks μ σ0 PR PX pc lv (vI y :: vI x :: st) σ := by
  intro p e s m args below meth c H locs cells slots mc ms ls hC hK hS hA hE hz hr hl
  have hts := hC.2.2.2.2.2.2.1
  have w := k p e s m args below meth c H locs cells slots mc ms ls hC hK hS hA hE hz hr hl
  have e : Int32.ofInt (if y < x then y else x) = (if Int32.ofInt y < Int32.ofInt x then Int32.ofInt y else Int32.ofInt x) := by
    have hc : (Int32.ofInt y < Int32.ofInt x) ↔ y < x := g32_lt hy hx
    by_cases c : y < x
    · rw [if_pos c, if_pos (hc.mpr c)]
    · rw [if_neg c, if_neg (fun z => c (hc.mp z))]
  rw [List.map_cons, show gval (vI (if y < x then y else x)) = Value.int (if Int32.ofInt y < Int32.ofInt x then Int32.ofInt y else Int32.ofInt x) from congrArg _ e] at w
  exact va_mmin hC.1 hC.2.1 (by rw [hC.2.2.1]; exact hl.1.symm) hC.2.2.2.2.2.1 (hts _ q1) (hts _ q859) (hts _ q260) (hts _ q860) hdm (by show _ + _ ≤ 64 * d; rw [gcats]; omega) (by show cells ≤ mc; omega) (by show slots ≤ ms; omega) hd w
theorem x_mmin {α : Type} {F : α → gR} {Rl : gMem → gMem → Prop} {t : Option α} {x y : Int} {idx : Nat} (q1 : Cond.methodLink μ.1.cls idx Lib.Math.min.name ∈ lw_all) (hd : decode μ.2.1 pc = .ok (.invokestatic idx, 3)) (hx : g32 x) (hy : g32 y) (hdm : 1 ≤ d) (hcat : (st.map gcat).sum ≤ 8) (k : GG F Rl ω l d μ σ0 (pc + 3) lv (vI (if y < x then y else x) :: st) σ t) : GG F Rl ω l d μ σ0 pc lv (vI y :: vI x :: st) σ t := fun ok a0 h => ⟨(k ok a0 h).1, fun kc ks h1 h2 => g_mmin q1 hd hx hy hdm hcat ((k ok a0 h).2 kc ks h1 h2)⟩
theorem g_mabs {x : Int} {idx : Nat} (q1 : Cond.methodLink μ.1.cls idx Lib.Math.abs.name ∈ lw_all) (hd : decode μ.2.1 pc = .ok (.invokestatic idx, 3)) (hx : g32 x) (hdm : 1 ≤ d) (hcat : (st.map gcat).sum ≤ 8) (k : G ω l d kc ks μ σ0 PR PX (pc + 3) lv (vI (if 0 ≤ x then x else 0 - x) :: st) σ) : G ω l d kc ks μ σ0 PR PX pc lv (vI x :: st) σ := by
  intro p e s m args below meth c H locs cells slots mc ms ls hC hK hS hA hE hz hr hl
  have hts := hC.2.2.2.2.2.2.1
  have w := k p e s m args below meth c H locs cells slots mc ms ls hC hK hS hA hE hz hr hl
  have e : Int32.ofInt (if 0 ≤ x then x else 0 - x) = (if 0 ≤ Int32.ofInt x then Int32.ofInt x else 0 - Int32.ofInt x) := by
    have hc : (0 ≤ Int32.ofInt x) ↔ 0 ≤ x := (g32_le (x := 0) (by decide) hx)
    by_cases c : 0 ≤ x
    · rw [if_pos c, if_pos (hc.mpr c)]
    · rw [if_neg c, if_neg (fun z => c (hc.mp z))]; first | rfl | exact Int32.ofInt_sub 0 x
  rw [List.map_cons, show gval (vI (if 0 ≤ x then x else 0 - x)) = Value.int (if 0 ≤ Int32.ofInt x then Int32.ofInt x else 0 - Int32.ofInt x) from congrArg _ e] at w
  exact va_mabs hC.1 hC.2.1 (by rw [hC.2.2.1]; exact hl.1.symm) hC.2.2.2.2.2.1 (hts _ q1) (hts _ q2258) (hts _ q260) (hts _ q2259) hdm (by show _ + _ ≤ 64 * d; rw [gcats]; omega) (by show cells ≤ mc; omega) (by show slots ≤ ms; omega) hd w
theorem x_mabs {α : Type} {F : α → gR} {Rl : gMem → gMem → Prop} {t : Option α} {x : Int} {idx : Nat} (q1 : Cond.methodLink μ.1.cls idx Lib.Math.abs.name ∈ lw_all) (hd : decode μ.2.1 pc = .ok (.invokestatic idx, 3)) (hx : g32 x) (hdm : 1 ≤ d) (hcat : (st.map gcat).sum ≤ 8) (k : GG F Rl ω l d μ σ0 (pc + 3) lv (vI (if 0 ≤ x then x else 0 - x) :: st) σ t) : GG F Rl ω l d μ σ0 pc lv (vI x :: st) σ t := fun ok a0 h => ⟨(k ok a0 h).1, fun kc ks h1 h2 => g_mabs q1 hd hx hdm hcat ((k ok a0 h).2 kc ks h1 h2)⟩
theorem g_mmax_long {x y : Int} {idx : Nat} (q1 : Cond.methodLink μ.1.cls idx Lib.MathLoose.max_long.x ∈ lw_all) (hd : decode μ.2.1 pc = .ok (.invokestatic idx, 3)) (hx : g64 x) (hy : g64 y) (hdm : 1 ≤ d) (hcat : (st.map gcat).sum ≤ 8) (k : G ω l d kc ks μ σ0 PR PX (pc + 3) lv (vL (if y < x then x else y) :: st) σ) : G ω l d kc ks μ σ0 PR PX pc lv (vL y :: vL x :: st) σ := by
  intro p e s m args below meth c H locs cells slots mc ms ls hC hK hS hA hE hz hr hl
  have hts := hC.2.2.2.2.2.2.1
  have w := k p e s m args below meth c H locs cells slots mc ms ls hC hK hS hA hE hz hr hl
  have e : Int64.ofInt (if y < x then x else y) = (if Int64.ofInt y < Int64.ofInt x then Int64.ofInt x else Int64.ofInt y) := by
    have hc : (Int64.ofInt y < Int64.ofInt x) ↔ y < x := g64_lt hy hx
    by_cases c : y < x
    · rw [if_pos c, if_pos (hc.mpr c)]
    · rw [if_neg c, if_neg (fun z => c (hc.mp z))]
  rw [List.map_cons, show gval (vL (if y < x then x else y)) = Value.long (if Int64.ofInt y < Int64.ofInt x then Int64.ofInt x else Int64.ofInt y) from congrArg _ e] at w
  exact va_mmax_long hC.1 hC.2.1 (by rw [hC.2.2.1]; exact hl.1.symm) hC.2.2.2.2.2.1 (hts _ q1) (hts _ q1254) (hts _ q260) (hts _ q1255) hdm (by show _ + _ ≤ 64 * d; rw [gcats]; omega) (by show cells ≤ mc; omega) (by show slots ≤ ms; omega) hd w
theorem x_mmax_long {α : Type} {F : α → gR} {Rl : gMem → gMem → Prop} {t : Option α} {x y : Int} {idx : Nat} (q1 : Cond.methodLink μ.1.cls idx Lib.MathLoose.max_long.x ∈ lw_all) (hd : decode μ.2.1 pc = .ok (.invokestatic idx, 3)) (hx : g64 x) (hy : g64 y) (hdm : 1 ≤ d) (hcat : (st.map gcat).sum ≤ 8) (k : GG F Rl ω l d μ σ0 (pc + 3) lv (vL (if y < x then x else y) :: st) σ t) : GG F Rl ω l d μ σ0 pc lv (vL y :: vL x :: st) σ t := fun ok a0 h => ⟨(k ok a0 h).1, fun kc ks h1 h2 => g_mmax_long q1 hd hx hy hdm hcat ((k ok a0 h).2 kc ks h1 h2)⟩
theorem g_mmin_long {x y : Int} {idx : Nat} (q1 : Cond.methodLink μ.1.cls idx Lib.MathLoose.min_long.x ∈ lw_all) (hd : decode μ.2.1 pc = .ok (.invokestatic idx, 3)) (hx : g64 x) (hy : g64 y) (hdm : 1 ≤ d) (hcat : (st.map gcat).sum ≤ 8) (k : G ω l d kc ks μ σ0 PR PX (pc + 3) lv (vL (if y < x then y else x) :: st) σ) : G ω l d kc ks μ σ0 PR PX pc lv (vL y :: vL x :: st) σ := by
  intro p e s m args below meth c H locs cells slots mc ms ls hC hK hS hA hE hz hr hl
  have hts := hC.2.2.2.2.2.2.1
  have w := k p e s m args below meth c H locs cells slots mc ms ls hC hK hS hA hE hz hr hl
  have e : Int64.ofInt (if y < x then y else x) = (if Int64.ofInt y < Int64.ofInt x then Int64.ofInt y else Int64.ofInt x) := by
    have hc : (Int64.ofInt y < Int64.ofInt x) ↔ y < x := g64_lt hy hx
    by_cases c : y < x
    · rw [if_pos c, if_pos (hc.mpr c)]
    · rw [if_neg c, if_neg (fun z => c (hc.mp z))]
  rw [List.map_cons, show gval (vL (if y < x then y else x)) = Value.long (if Int64.ofInt y < Int64.ofInt x then Int64.ofInt y else Int64.ofInt x) from congrArg _ e] at w
  exact va_mmin_long hC.1 hC.2.1 (by rw [hC.2.2.1]; exact hl.1.symm) hC.2.2.2.2.2.1 (hts _ q1) (hts _ q1251) (hts _ q260) (hts _ q1252) hdm (by show _ + _ ≤ 64 * d; rw [gcats]; omega) (by show cells ≤ mc; omega) (by show slots ≤ ms; omega) hd w
theorem x_mmin_long {α : Type} {F : α → gR} {Rl : gMem → gMem → Prop} {t : Option α} {x y : Int} {idx : Nat} (q1 : Cond.methodLink μ.1.cls idx Lib.MathLoose.min_long.x ∈ lw_all) (hd : decode μ.2.1 pc = .ok (.invokestatic idx, 3)) (hx : g64 x) (hy : g64 y) (hdm : 1 ≤ d) (hcat : (st.map gcat).sum ≤ 8) (k : GG F Rl ω l d μ σ0 (pc + 3) lv (vL (if y < x then y else x) :: st) σ t) : GG F Rl ω l d μ σ0 pc lv (vL y :: vL x :: st) σ t := fun ok a0 h => ⟨(k ok a0 h).1, fun kc ks h1 h2 => g_mmin_long q1 hd hx hy hdm hcat ((k ok a0 h).2 kc ks h1 h2)⟩
theorem g_mabs_long {x : Int} {idx : Nat} (q1 : Cond.methodLink μ.1.cls idx Lib.MathLoose.abs_long.x ∈ lw_all) (hd : decode μ.2.1 pc = .ok (.invokestatic idx, 3)) (hx : g64 x) (hdm : 1 ≤ d) (hcat : (st.map gcat).sum ≤ 8) (k : G ω l d kc ks μ σ0 PR PX (pc + 3) lv (vL (if 0 < x then x else -x) :: st) σ) : G ω l d kc ks μ σ0 PR PX pc lv (vL x :: st) σ := by
  intro p e s m args below meth c H locs cells slots mc ms ls hC hK hS hA hE hz hr hl
  have hts := hC.2.2.2.2.2.2.1
  have w := k p e s m args below meth c H locs cells slots mc ms ls hC hK hS hA hE hz hr hl
  have e : Int64.ofInt (if 0 < x then x else -x) = (if 0 < Int64.ofInt x then Int64.ofInt x else -Int64.ofInt x) := by
    have hc : (0 < Int64.ofInt x) ↔ 0 < x := (g64_lt (x := 0) (by decide) hx)
    by_cases c : 0 < x
    · rw [if_pos c, if_pos (hc.mpr c)]
    · rw [if_neg c, if_neg (fun z => c (hc.mp z))]; exact Int64.ofInt_neg x
  rw [List.map_cons, show gval (vL (if 0 < x then x else -x)) = Value.long (if 0 < Int64.ofInt x then Int64.ofInt x else -Int64.ofInt x) from congrArg _ e] at w
  exact va_mabs_long hC.1 hC.2.1 (by rw [hC.2.2.1]; exact hl.1.symm) hC.2.2.2.2.2.1 (hts _ q1) (hts _ q1187) (hts _ q260) (hts _ q1188) hdm (by show _ + _ ≤ 64 * d; rw [gcats]; omega) (by show cells ≤ mc; omega) (by show slots ≤ ms; omega) hd w
theorem x_mabs_long {α : Type} {F : α → gR} {Rl : gMem → gMem → Prop} {t : Option α} {x : Int} {idx : Nat} (q1 : Cond.methodLink μ.1.cls idx Lib.MathLoose.abs_long.x ∈ lw_all) (hd : decode μ.2.1 pc = .ok (.invokestatic idx, 3)) (hx : g64 x) (hdm : 1 ≤ d) (hcat : (st.map gcat).sum ≤ 8) (k : GG F Rl ω l d μ σ0 (pc + 3) lv (vL (if 0 < x then x else -x) :: st) σ t) : GG F Rl ω l d μ σ0 pc lv (vL x :: st) σ t := fun ok a0 h => ⟨(k ok a0 h).1, fun kc ks h1 h2 => g_mabs_long q1 hd hx hdm hcat ((k ok a0 h).2 kc ks h1 h2)⟩
end GMath
