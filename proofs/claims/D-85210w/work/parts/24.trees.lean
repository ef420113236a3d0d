/-! ===== trees: what the code from here on comes to, as a value ===== -/
abbrev gR : Type := (Option gV ⊕ String) × gMem
/-- a 32-bit value -/
def w32 (x : Int) : Int := (Int32.ofInt x).toInt
def w64 (x : Int) : Int := (Int64.ofInt x).toInt
theorem w32_id {x : Int} (h : g32 x) : w32 x = x := g32_of h
theorem w64_id {x : Int} (h : g64 x) : w64 x = x := g64_of h
theorem w32_rng (x : Int) : g32 (w32 x) := ⟨Int32.le_toInt _, by have := Int32.toInt_lt (Int32.ofInt x); unfold w32; omega⟩
theorem w64_rng (x : Int) : g64 (w64 x) := ⟨Int64.le_toInt _, by have := Int64.toInt_lt (Int64.ofInt x); unfold w64; omega⟩
/-- an int or long that is returned is in its range -/
def gRng : Option gV ⊕ String → Prop
  | .inl (some (.inl x)) => g32 x
  | .inl (some (.inr (.inl x))) => g64 x
  | _ => True
def GG {α : Type} (F : α → gR) (Rl : gMem → gMem → Prop) (ω : gW) (l : Launch) (d : Nat) (μ : gM) (σ0 : gMem) (pc : Nat) (lv : List (Nat × gV)) (st : List gV) (σ : gMem) (t : Option α) : Prop :=
  gOk σ → ∀ a0 : α, t = some a0 → (Rl σ (F a0).2 ∧ gRng (F a0).1) ∧ ∀ kc ks : Nat, mZ (F a0).2 - mZ σ ≤ kc → mS (F a0).2 - mS σ ≤ ks → G ω l d kc ks μ σ0 (fun v s => (F a0).1 = .inl v ∧ s = (F a0).2) (fun E s => (F a0).1 = .inr E ∧ s = (F a0).2) pc lv st σ
section GT
variable {α : Type} {F : α → gR} {Rl : gMem → gMem → Prop} {ω : gW} {l : Launch} {d : Nat} {μ : gM} {σ0 σ : gMem} {pc : Nat} {lv lv' : List (Nat × gV)} {st : List gV} {t t1 t2 : Option α}
theorem x_none : GG F Rl ω l d μ σ0 pc lv st σ none := fun _ a0 h => by cases h
theorem x_eq {s : Option α} (h : t = s) (k : GG F Rl ω l d μ σ0 pc lv st σ s) : GG F Rl ω l d μ σ0 pc lv st σ t := h ▸ k
theorem x_if {c : Prop} [Decidable c] (k : c → GG F Rl ω l d μ σ0 pc lv st σ t) : GG F Rl ω l d μ σ0 pc lv st σ (if c then t else none) := by
  by_cases h : c
  · rw [if_pos h]; exact k h
  · rw [if_neg h]; exact x_none
theorem x_iconst {n : Int} (hd : decode μ.2.1 pc = .ok (.iconst n, 1)) (k : GG F Rl ω l d μ σ0 (pc + 1) lv (vI n :: st) σ t) : GG F Rl ω l d μ σ0 pc lv (st) σ t := fun ok a0 h => ⟨(k ok a0 h).1, fun kc ks h1 h2 => g_iconst hd ((k ok a0 h).2 kc ks h1 h2)⟩
theorem x_bipush {n : Int} (hd : decode μ.2.1 pc = .ok (.bipush n, 2)) (hv : -128 ≤ n ∧ n ≤ 127) (k : GG F Rl ω l d μ σ0 (pc + 2) lv (vI n :: st) σ t) : GG F Rl ω l d μ σ0 pc lv (st) σ t := fun ok a0 h => ⟨(k ok a0 h).1, fun kc ks h1 h2 => g_bipush hd hv ((k ok a0 h).2 kc ks h1 h2)⟩
theorem x_sipush {n : Int} (hd : decode μ.2.1 pc = .ok (.sipush n, 3)) (hv : -32768 ≤ n ∧ n ≤ 32767) (k : GG F Rl ω l d μ σ0 (pc + 3) lv (vI n :: st) σ t) : GG F Rl ω l d μ σ0 pc lv (st) σ t := fun ok a0 h => ⟨(k ok a0 h).1, fun kc ks h1 h2 => g_sipush hd hv ((k ok a0 h).2 kc ks h1 h2)⟩
theorem x_lconst {n : Fin 2} (hd : decode μ.2.1 pc = .ok (.lconst n, 1)) (k : GG F Rl ω l d μ σ0 (pc + 1) lv (vL ((n : Nat) : Int) :: st) σ t) : GG F Rl ω l d μ σ0 pc lv (st) σ t := fun ok a0 h => ⟨(k ok a0 h).1, fun kc ks h1 h2 => g_lconst hd ((k ok a0 h).2 kc ks h1 h2)⟩
theorem x_null (hd : decode μ.2.1 pc = .ok (.aconst_null, 1)) (k : GG F Rl ω l d μ σ0 (pc + 1) lv (vR 0 :: st) σ t) : GG F Rl ω l d μ σ0 pc lv (st) σ t := fun ok a0 h => ⟨(k ok a0 h).1, fun kc ks h1 h2 => g_null hd ((k ok a0 h).2 kc ks h1 h2)⟩
theorem x_ldc {i : Nat} {n : Int} (hd : decode μ.2.1 pc = .ok (.ldc i, 2)) (hq : Cond.constant μ.1.cls i (Int32.ofInt n) ∈ lw_all) (k : GG F Rl ω l d μ σ0 (pc + 2) lv (vI n :: st) σ t) : GG F Rl ω l d μ σ0 pc lv (st) σ t := fun ok a0 h => ⟨(k ok a0 h).1, fun kc ks h1 h2 => g_ldc hd hq ((k ok a0 h).2 kc ks h1 h2)⟩
theorem x_ldcw {i : Nat} {n : Int} (hd : decode μ.2.1 pc = .ok (.ldc_w i, 3)) (hq : Cond.constant μ.1.cls i (Int32.ofInt n) ∈ lw_all) (k : GG F Rl ω l d μ σ0 (pc + 3) lv (vI n :: st) σ t) : GG F Rl ω l d μ σ0 pc lv (st) σ t := fun ok a0 h => ⟨(k ok a0 h).1, fun kc ks h1 h2 => g_ldcw hd hq ((k ok a0 h).2 kc ks h1 h2)⟩
theorem x_ldc2 {i : Nat} {n : Int} (hd : decode μ.2.1 pc = .ok (.ldc2_w i, 3)) (hq : Cond.constantLong μ.1.cls i (Int64.ofInt n) ∈ lw_all) (k : GG F Rl ω l d μ σ0 (pc + 3) lv (vL n :: st) σ t) : GG F Rl ω l d μ σ0 pc lv (st) σ t := fun ok a0 h => ⟨(k ok a0 h).1, fun kc ks h1 h2 => g_ldc2 hd hq ((k ok a0 h).2 kc ks h1 h2)⟩
theorem x_iload_n {k0 : Fin 4} {x : Int} (j : Nat) (hd : decode μ.2.1 pc = .ok (.iload_n k0, 1)) (hj : lv[j]? = some ((k0 : Nat), vI x)) (k : GG F Rl ω l d μ σ0 (pc + 1) lv (vI x :: st) σ t) : GG F Rl ω l d μ σ0 pc lv (st) σ t := fun ok a0 h => ⟨(k ok a0 h).1, fun kc ks h1 h2 => g_iload_n j hd hj ((k ok a0 h).2 kc ks h1 h2)⟩
theorem x_iload {i : Nat} {x : Int} (j : Nat) (hd : decode μ.2.1 pc = .ok (.iload i, 2)) (hj : lv[j]? = some (i, vI x)) (k : GG F Rl ω l d μ σ0 (pc + 2) lv (vI x :: st) σ t) : GG F Rl ω l d μ σ0 pc lv (st) σ t := fun ok a0 h => ⟨(k ok a0 h).1, fun kc ks h1 h2 => g_iload j hd hj ((k ok a0 h).2 kc ks h1 h2)⟩
theorem x_istore_n {k0 : Fin 4} {i : Nat} {x : Int} (hd : decode μ.2.1 pc = .ok (.istore_n k0, 1)) (hi : (k0 : Nat) = i) (hn : i < μ.2.2.1) (hv : gsto1 lv i (vI x) = lv') (k : GG F Rl ω l d μ σ0 (pc + 1) lv' (st) σ t) : GG F Rl ω l d μ σ0 pc lv (vI x :: st) σ t := fun ok a0 h => ⟨(k ok a0 h).1, fun kc ks h1 h2 => g_istore_n hd hi hn hv ((k ok a0 h).2 kc ks h1 h2)⟩
theorem x_istore {i : Nat} {x : Int} (hd : decode μ.2.1 pc = .ok (.istore i, 2)) (hn : i < μ.2.2.1) (hv : gsto1 lv i (vI x) = lv') (k : GG F Rl ω l d μ σ0 (pc + 2) lv' (st) σ t) : GG F Rl ω l d μ σ0 pc lv (vI x :: st) σ t := fun ok a0 h => ⟨(k ok a0 h).1, fun kc ks h1 h2 => g_istore hd hn hv ((k ok a0 h).2 kc ks h1 h2)⟩
theorem x_lload_n {k0 : Fin 4} {x : Int} (j : Nat) (hd : decode μ.2.1 pc = .ok (.lload_n k0, 1)) (hj : lv[j]? = some ((k0 : Nat), vL x)) (k : GG F Rl ω l d μ σ0 (pc + 1) lv (vL x :: st) σ t) : GG F Rl ω l d μ σ0 pc lv (st) σ t := fun ok a0 h => ⟨(k ok a0 h).1, fun kc ks h1 h2 => g_lload_n j hd hj ((k ok a0 h).2 kc ks h1 h2)⟩
theorem x_lload {i : Nat} {x : Int} (j : Nat) (hd : decode μ.2.1 pc = .ok (.lload i, 2)) (hj : lv[j]? = some (i, vL x)) (k : GG F Rl ω l d μ σ0 (pc + 2) lv (vL x :: st) σ t) : GG F Rl ω l d μ σ0 pc lv (st) σ t := fun ok a0 h => ⟨(k ok a0 h).1, fun kc ks h1 h2 => g_lload j hd hj ((k ok a0 h).2 kc ks h1 h2)⟩
theorem x_lstore_n {k0 : Fin 4} {i : Nat} {x : Int} (hd : decode μ.2.1 pc = .ok (.lstore_n k0, 1)) (hi : (k0 : Nat) = i) (hn : i + 1 < μ.2.2.1) (hv : gsto2 lv i (vL x) = lv') (k : GG F Rl ω l d μ σ0 (pc + 1) lv' (st) σ t) : GG F Rl ω l d μ σ0 pc lv (vL x :: st) σ t := fun ok a0 h => ⟨(k ok a0 h).1, fun kc ks h1 h2 => g_lstore_n hd hi hn hv ((k ok a0 h).2 kc ks h1 h2)⟩
theorem x_lstore {i : Nat} {x : Int} (hd : decode μ.2.1 pc = .ok (.lstore i, 2)) (hn : i + 1 < μ.2.2.1) (hv : gsto2 lv i (vL x) = lv') (k : GG F Rl ω l d μ σ0 (pc + 2) lv' (st) σ t) : GG F Rl ω l d μ σ0 pc lv (vL x :: st) σ t := fun ok a0 h => ⟨(k ok a0 h).1, fun kc ks h1 h2 => g_lstore hd hn hv ((k ok a0 h).2 kc ks h1 h2)⟩
theorem x_aload_n {k0 : Fin 4} {x : Nat} (j : Nat) (hd : decode μ.2.1 pc = .ok (.aload_n k0, 1)) (hj : lv[j]? = some ((k0 : Nat), vR x)) (k : GG F Rl ω l d μ σ0 (pc + 1) lv (vR x :: st) σ t) : GG F Rl ω l d μ σ0 pc lv (st) σ t := fun ok a0 h => ⟨(k ok a0 h).1, fun kc ks h1 h2 => g_aload_n j hd hj ((k ok a0 h).2 kc ks h1 h2)⟩
theorem x_aload {i : Nat} {x : Nat} (j : Nat) (hd : decode μ.2.1 pc = .ok (.aload i, 2)) (hj : lv[j]? = some (i, vR x)) (k : GG F Rl ω l d μ σ0 (pc + 2) lv (vR x :: st) σ t) : GG F Rl ω l d μ σ0 pc lv (st) σ t := fun ok a0 h => ⟨(k ok a0 h).1, fun kc ks h1 h2 => g_aload j hd hj ((k ok a0 h).2 kc ks h1 h2)⟩
theorem x_astore_n {k0 : Fin 4} {i : Nat} {x : Nat} (hd : decode μ.2.1 pc = .ok (.astore_n k0, 1)) (hi : (k0 : Nat) = i) (hn : i < μ.2.2.1) (hv : gsto1 lv i (vR x) = lv') (k : GG F Rl ω l d μ σ0 (pc + 1) lv' (st) σ t) : GG F Rl ω l d μ σ0 pc lv (vR x :: st) σ t := fun ok a0 h => ⟨(k ok a0 h).1, fun kc ks h1 h2 => g_astore_n hd hi hn hv ((k ok a0 h).2 kc ks h1 h2)⟩
theorem x_astore {i : Nat} {x : Nat} (hd : decode μ.2.1 pc = .ok (.astore i, 2)) (hn : i < μ.2.2.1) (hv : gsto1 lv i (vR x) = lv') (k : GG F Rl ω l d μ σ0 (pc + 2) lv' (st) σ t) : GG F Rl ω l d μ σ0 pc lv (vR x :: st) σ t := fun ok a0 h => ⟨(k ok a0 h).1, fun kc ks h1 h2 => g_astore hd hn hv ((k ok a0 h).2 kc ks h1 h2)⟩
theorem x_iinc {i : Nat} {n x y : Int} (j : Nat) (hd : decode μ.2.1 pc = .ok (.iinc i n, 3)) (hj : lv[j]? = some (i, vI x)) (hy : x + n = y) (hn : i < μ.2.2.1) (hv : gsto1 lv i (vI y) = lv') (k : GG F Rl ω l d μ σ0 (pc + 3) lv' (st) σ t) : GG F Rl ω l d μ σ0 pc lv (st) σ t := fun ok a0 h => ⟨(k ok a0 h).1, fun kc ks h1 h2 => g_iinc j hd hj hy hn hv ((k ok a0 h).2 kc ks h1 h2)⟩
theorem x_loc (js : List Nat) (hv : js.filterMap (fun j => lv[j]?) = lv') (k : GG F Rl ω l d μ σ0 (pc) lv' (st) σ t) : GG F Rl ω l d μ σ0 pc lv (st) σ t := fun ok a0 h => ⟨(k ok a0 h).1, fun kc ks h1 h2 => g_loc js hv ((k ok a0 h).2 kc ks h1 h2)⟩
theorem x_iadd {x y : Int} (hd : decode μ.2.1 pc = .ok (.iadd, 1)) (k : GG F Rl ω l d μ σ0 (pc + 1) lv (vI (x + y) :: st) σ t) : GG F Rl ω l d μ σ0 pc lv (vI y :: vI x :: st) σ t := fun ok a0 h => ⟨(k ok a0 h).1, fun kc ks h1 h2 => g_iadd hd ((k ok a0 h).2 kc ks h1 h2)⟩
theorem x_isub {x y : Int} (hd : decode μ.2.1 pc = .ok (.isub, 1)) (k : GG F Rl ω l d μ σ0 (pc + 1) lv (vI (x - y) :: st) σ t) : GG F Rl ω l d μ σ0 pc lv (vI y :: vI x :: st) σ t := fun ok a0 h => ⟨(k ok a0 h).1, fun kc ks h1 h2 => g_isub hd ((k ok a0 h).2 kc ks h1 h2)⟩
theorem x_imul {x y : Int} (hd : decode μ.2.1 pc = .ok (.imul, 1)) (k : GG F Rl ω l d μ σ0 (pc + 1) lv (vI (x * y) :: st) σ t) : GG F Rl ω l d μ σ0 pc lv (vI y :: vI x :: st) σ t := fun ok a0 h => ⟨(k ok a0 h).1, fun kc ks h1 h2 => g_imul hd ((k ok a0 h).2 kc ks h1 h2)⟩
theorem x_ladd {x y : Int} (hd : decode μ.2.1 pc = .ok (.ladd, 1)) (k : GG F Rl ω l d μ σ0 (pc + 1) lv (vL (x + y) :: st) σ t) : GG F Rl ω l d μ σ0 pc lv (vL y :: vL x :: st) σ t := fun ok a0 h => ⟨(k ok a0 h).1, fun kc ks h1 h2 => g_ladd hd ((k ok a0 h).2 kc ks h1 h2)⟩
theorem x_lsub {x y : Int} (hd : decode μ.2.1 pc = .ok (.lsub, 1)) (k : GG F Rl ω l d μ σ0 (pc + 1) lv (vL (x - y) :: st) σ t) : GG F Rl ω l d μ σ0 pc lv (vL y :: vL x :: st) σ t := fun ok a0 h => ⟨(k ok a0 h).1, fun kc ks h1 h2 => g_lsub hd ((k ok a0 h).2 kc ks h1 h2)⟩
theorem x_lmul {x y : Int} (hd : decode μ.2.1 pc = .ok (.lmul, 1)) (k : GG F Rl ω l d μ σ0 (pc + 1) lv (vL (x * y) :: st) σ t) : GG F Rl ω l d μ σ0 pc lv (vL y :: vL x :: st) σ t := fun ok a0 h => ⟨(k ok a0 h).1, fun kc ks h1 h2 => g_lmul hd ((k ok a0 h).2 kc ks h1 h2)⟩
theorem x_ineg {x : Int} (hd : decode μ.2.1 pc = .ok (.ineg, 1)) (k : GG F Rl ω l d μ σ0 (pc + 1) lv (vI (-x) :: st) σ t) : GG F Rl ω l d μ σ0 pc lv (vI x :: st) σ t := fun ok a0 h => ⟨(k ok a0 h).1, fun kc ks h1 h2 => g_ineg hd ((k ok a0 h).2 kc ks h1 h2)⟩
theorem x_lneg {x : Int} (hd : decode μ.2.1 pc = .ok (.lneg, 1)) (k : GG F Rl ω l d μ σ0 (pc + 1) lv (vL (-x) :: st) σ t) : GG F Rl ω l d μ σ0 pc lv (vL x :: st) σ t := fun ok a0 h => ⟨(k ok a0 h).1, fun kc ks h1 h2 => g_lneg hd ((k ok a0 h).2 kc ks h1 h2)⟩
theorem x_iand {x y : Int} (hd : decode μ.2.1 pc = .ok (.iand, 1)) (k : GG F Rl ω l d μ σ0 (pc + 1) lv (vI (bAnd x y) :: st) σ t) : GG F Rl ω l d μ σ0 pc lv (vI y :: vI x :: st) σ t := fun ok a0 h => ⟨(k ok a0 h).1, fun kc ks h1 h2 => g_iand hd ((k ok a0 h).2 kc ks h1 h2)⟩
theorem x_ior {x y : Int} (hd : decode μ.2.1 pc = .ok (.ior, 1)) (k : GG F Rl ω l d μ σ0 (pc + 1) lv (vI (bOr x y) :: st) σ t) : GG F Rl ω l d μ σ0 pc lv (vI y :: vI x :: st) σ t := fun ok a0 h => ⟨(k ok a0 h).1, fun kc ks h1 h2 => g_ior hd ((k ok a0 h).2 kc ks h1 h2)⟩
theorem x_ixor {x y : Int} (hd : decode μ.2.1 pc = .ok (.ixor, 1)) (k : GG F Rl ω l d μ σ0 (pc + 1) lv (vI (bXor x y) :: st) σ t) : GG F Rl ω l d μ σ0 pc lv (vI y :: vI x :: st) σ t := fun ok a0 h => ⟨(k ok a0 h).1, fun kc ks h1 h2 => g_ixor hd ((k ok a0 h).2 kc ks h1 h2)⟩
theorem x_ishl {x y : Int} (hd : decode μ.2.1 pc = .ok (.ishl, 1)) (k : GG F Rl ω l d μ σ0 (pc + 1) lv (vI (bShl x y) :: st) σ t) : GG F Rl ω l d μ σ0 pc lv (vI y :: vI x :: st) σ t := fun ok a0 h => ⟨(k ok a0 h).1, fun kc ks h1 h2 => g_ishl hd ((k ok a0 h).2 kc ks h1 h2)⟩
theorem x_ishr {x y : Int} (hd : decode μ.2.1 pc = .ok (.ishr, 1)) (k : GG F Rl ω l d μ σ0 (pc + 1) lv (vI (bShr x y) :: st) σ t) : GG F Rl ω l d μ σ0 pc lv (vI y :: vI x :: st) σ t := fun ok a0 h => ⟨(k ok a0 h).1, fun kc ks h1 h2 => g_ishr hd ((k ok a0 h).2 kc ks h1 h2)⟩
theorem x_land {x y : Int} (hd : decode μ.2.1 pc = .ok (.land, 1)) (k : GG F Rl ω l d μ σ0 (pc + 1) lv (vL (lAnd x y) :: st) σ t) : GG F Rl ω l d μ σ0 pc lv (vL y :: vL x :: st) σ t := fun ok a0 h => ⟨(k ok a0 h).1, fun kc ks h1 h2 => g_land hd ((k ok a0 h).2 kc ks h1 h2)⟩
theorem x_lor {x y : Int} (hd : decode μ.2.1 pc = .ok (.lor, 1)) (k : GG F Rl ω l d μ σ0 (pc + 1) lv (vL (lOr x y) :: st) σ t) : GG F Rl ω l d μ σ0 pc lv (vL y :: vL x :: st) σ t := fun ok a0 h => ⟨(k ok a0 h).1, fun kc ks h1 h2 => g_lor hd ((k ok a0 h).2 kc ks h1 h2)⟩
theorem x_lxor {x y : Int} (hd : decode μ.2.1 pc = .ok (.lxor, 1)) (k : GG F Rl ω l d μ σ0 (pc + 1) lv (vL (lXor x y) :: st) σ t) : GG F Rl ω l d μ σ0 pc lv (vL y :: vL x :: st) σ t := fun ok a0 h => ⟨(k ok a0 h).1, fun kc ks h1 h2 => g_lxor hd ((k ok a0 h).2 kc ks h1 h2)⟩
theorem x_iushr {x y : Int} (hd : decode μ.2.1 pc = .ok (.iushr, 1)) (k : GG F Rl ω l d μ σ0 (pc + 1) lv (vI (bUshr x y) :: st) σ t) : GG F Rl ω l d μ σ0 pc lv (vI y :: vI x :: st) σ t := fun ok a0 h => ⟨(k ok a0 h).1, fun kc ks h1 h2 => g_iushr hd ((k ok a0 h).2 kc ks h1 h2)⟩
theorem x_lshl {x y : Int} (hd : decode μ.2.1 pc = .ok (.lshl, 1)) (k : GG F Rl ω l d μ σ0 (pc + 1) lv (vL (lShl x y) :: st) σ t) : GG F Rl ω l d μ σ0 pc lv (vI y :: vL x :: st) σ t := fun ok a0 h => ⟨(k ok a0 h).1, fun kc ks h1 h2 => g_lshl hd ((k ok a0 h).2 kc ks h1 h2)⟩
theorem x_lshr {x y : Int} (hd : decode μ.2.1 pc = .ok (.lshr, 1)) (k : GG F Rl ω l d μ σ0 (pc + 1) lv (vL (lShr x y) :: st) σ t) : GG F Rl ω l d μ σ0 pc lv (vI y :: vL x :: st) σ t := fun ok a0 h => ⟨(k ok a0 h).1, fun kc ks h1 h2 => g_lshr hd ((k ok a0 h).2 kc ks h1 h2)⟩
theorem x_lushr {x y : Int} (hd : decode μ.2.1 pc = .ok (.lushr, 1)) (k : GG F Rl ω l d μ σ0 (pc + 1) lv (vL (lUshr x y) :: st) σ t) : GG F Rl ω l d μ σ0 pc lv (vI y :: vL x :: st) σ t := fun ok a0 h => ⟨(k ok a0 h).1, fun kc ks h1 h2 => g_lushr hd ((k ok a0 h).2 kc ks h1 h2)⟩
theorem x_i2b {x : Int} (hd : decode μ.2.1 pc = .ok (.i2b, 1)) (k : GG F Rl ω l d μ σ0 (pc + 1) lv (vI (bByte x) :: st) σ t) : GG F Rl ω l d μ σ0 pc lv (vI x :: st) σ t := fun ok a0 h => ⟨(k ok a0 h).1, fun kc ks h1 h2 => g_i2b hd ((k ok a0 h).2 kc ks h1 h2)⟩
theorem x_i2l {x : Int} (hd : decode μ.2.1 pc = .ok (.i2l, 1)) (hx : g32 x) (k : GG F Rl ω l d μ σ0 (pc + 1) lv (vL x :: st) σ t) : GG F Rl ω l d μ σ0 pc lv (vI x :: st) σ t := fun ok a0 h => ⟨(k ok a0 h).1, fun kc ks h1 h2 => g_i2l hd hx ((k ok a0 h).2 kc ks h1 h2)⟩
theorem x_l2i {x : Int} (hd : decode μ.2.1 pc = .ok (.l2i, 1)) (k : GG F Rl ω l d μ σ0 (pc + 1) lv (vI x :: st) σ t) : GG F Rl ω l d μ σ0 pc lv (vL x :: st) σ t := fun ok a0 h => ⟨(k ok a0 h).1, fun kc ks h1 h2 => g_l2i hd ((k ok a0 h).2 kc ks h1 h2)⟩
theorem x_lcmp {x y : Int} (hd : decode μ.2.1 pc = .ok (.lcmp, 1)) (hx : g64 x) (hy : g64 y) (k : GG F Rl ω l d μ σ0 (pc + 1) lv (vI (gcmp x y) :: st) σ t) : GG F Rl ω l d μ σ0 pc lv (vL y :: vL x :: st) σ t := fun ok a0 h => ⟨(k ok a0 h).1, fun kc ks h1 h2 => g_lcmp hd hx hy ((k ok a0 h).2 kc ks h1 h2)⟩
theorem x_dup {v : gV} (hd : decode μ.2.1 pc = .ok (.dup, 1)) (hv : gcat v = 1) (k : GG F Rl ω l d μ σ0 (pc + 1) lv (v :: v :: st) σ t) : GG F Rl ω l d μ σ0 pc lv (v :: st) σ t := fun ok a0 h => ⟨(k ok a0 h).1, fun kc ks h1 h2 => g_dup hd hv ((k ok a0 h).2 kc ks h1 h2)⟩
theorem x_pop {v : gV} (hd : decode μ.2.1 pc = .ok (.pop, 1)) (hv : gcat v = 1) (k : GG F Rl ω l d μ σ0 (pc + 1) lv (st) σ t) : GG F Rl ω l d μ σ0 pc lv (v :: st) σ t := fun ok a0 h => ⟨(k ok a0 h).1, fun kc ks h1 h2 => g_pop hd hv ((k ok a0 h).2 kc ks h1 h2)⟩
theorem x_dup2 {v u : gV} (hd : decode μ.2.1 pc = .ok (.dup2, 1)) (hv : gcat v = 1) (hu : gcat u = 1) (k : GG F Rl ω l d μ σ0 (pc + 1) lv (v :: u :: v :: u :: st) σ t) : GG F Rl ω l d μ σ0 pc lv (v :: u :: st) σ t := fun ok a0 h => ⟨(k ok a0 h).1, fun kc ks h1 h2 => g_dup2 hd hv hu ((k ok a0 h).2 kc ks h1 h2)⟩
theorem x_goto {off : Int} {tgt : Nat} (hd : decode μ.2.1 pc = .ok (.goto off, 3)) (ht : (pc : Int) + off = (tgt : Int)) (k : GG F Rl ω l d μ σ0 (tgt) lv (st) σ t) : GG F Rl ω l d μ σ0 pc lv (st) σ t := fun ok a0 h => ⟨(k ok a0 h).1, fun kc ks h1 h2 => g_goto hd ht ((k ok a0 h).2 kc ks h1 h2)⟩
theorem g_stk {ω : gW} {l : Launch} {d kc ks : Nat} {μ : gM} {σ0 σ : gMem} {PR : Option gV → gMem → Prop} {PX : String → gMem → Prop} {pc : Nat} {lv : List (Nat × gV)} {st st2 : List gV} (h : st2.map gval = st.map gval) (k : G ω l d kc ks μ σ0 PR PX pc lv st2 σ) : G ω l d kc ks μ σ0 PR PX pc lv st σ := by
  intro p e s m args below meth c H locs cells slots mc ms ls hC hK hS hA hE hz hr hl
  rw [← h]
  exact k p e s m args below meth c H locs cells slots mc ms ls hC hK hS hA hE hz hr hl
theorem gval_w32 (x : Int) : gval (vI (w32 x)) = gval (vI x) := congrArg Value.int (Int32.ofInt_toInt _)
theorem gval_w64 (x : Int) : gval (vL (w64 x)) = gval (vL x) := congrArg Value.long (Int64.ofInt_toInt _)
theorem x_w1 {x : Int} (k : GG F Rl ω l d μ σ0 (pc) lv (vI (w32 x) :: st) σ t) : GG F Rl ω l d μ σ0 pc lv (vI x :: st) σ t := fun ok a0 h => ⟨(k ok a0 h).1, fun kc ks h1 h2 => g_stk (by rw [List.map_cons, List.map_cons, gval_w32]) ((k ok a0 h).2 kc ks h1 h2)⟩
theorem x_w2 {x : Int} {v : gV} (k : GG F Rl ω l d μ σ0 (pc) lv (v :: vI (w32 x) :: st) σ t) : GG F Rl ω l d μ σ0 pc lv (v :: vI x :: st) σ t := fun ok a0 h => ⟨(k ok a0 h).1, fun kc ks h1 h2 => g_stk (by rw [List.map_cons, List.map_cons, List.map_cons, List.map_cons, gval_w32]) ((k ok a0 h).2 kc ks h1 h2)⟩
theorem x_W1 {x : Int} (k : GG F Rl ω l d μ σ0 (pc) lv (vL (w64 x) :: st) σ t) : GG F Rl ω l d μ σ0 pc lv (vL x :: st) σ t := fun ok a0 h => ⟨(k ok a0 h).1, fun kc ks h1 h2 => g_stk (by rw [List.map_cons, List.map_cons, gval_w64]) ((k ok a0 h).2 kc ks h1 h2)⟩
theorem x_W2 {x : Int} {v : gV} (k : GG F Rl ω l d μ σ0 (pc) lv (v :: vL (w64 x) :: st) σ t) : GG F Rl ω l d μ σ0 pc lv (v :: vL x :: st) σ t := fun ok a0 h => ⟨(k ok a0 h).1, fun kc ks h1 h2 => g_stk (by rw [List.map_cons, List.map_cons, List.map_cons, List.map_cons, gval_w64]) ((k ok a0 h).2 kc ks h1 h2)⟩
theorem x_stk {st2 : List gV} (hm : st2.map gval = st.map gval) (k : GG F Rl ω l d μ σ0 (pc) lv (st2) σ t) : GG F Rl ω l d μ σ0 pc lv (st) σ t := fun ok a0 h => ⟨(k ok a0 h).1, fun kc ks h1 h2 => g_stk hm ((k ok a0 h).2 kc ks h1 h2)⟩
theorem g_lvw {ω : gW} {l : Launch} {d kc ks : Nat} {μ : gM} {σ0 σ : gMem} {PR : Option gV → gMem → Prop} {PX : String → gMem → Prop} {pc : Nat} {lv lv2 : List (Nat × gV)} {st : List gV} (h : lv2.map (fun q => (q.1, gval q.2)) = lv.map (fun q => (q.1, gval q.2))) (k : G ω l d kc ks μ σ0 PR PX pc lv2 st σ) : G ω l d kc ks μ σ0 PR PX pc lv st σ := by
  intro p e s m args below meth c H locs cells slots mc ms ls hC hK hS hA hE hz hr hl
  rw [← h] at hl
  exact k p e s m args below meth c H locs cells slots mc ms ls hC hK hS hA hE hz hr hl
theorem x_lvw {lv2 : List (Nat × gV)} (hm : lv2.map (fun q => (q.1, gval q.2)) = lv.map (fun q => (q.1, gval q.2))) (k : GG F Rl ω l d μ σ0 (pc) lv2 (st) σ t) : GG F Rl ω l d μ σ0 pc lv (st) σ t := fun ok a0 h => ⟨(k ok a0 h).1, fun kc ks h1 h2 => g_lvw hm ((k ok a0 h).2 kc ks h1 h2)⟩
theorem x_idiv {x y : Int} (hd : decode μ.2.1 pc = .ok (.idiv, 1)) (hx : g32 x) (hy : g32 y) (k : GG F Rl ω l d μ σ0 (pc + 1) lv (vI (x.tdiv y) :: st) σ t) : GG F Rl ω l d μ σ0 pc lv (vI y :: vI x :: st) σ (if y ≠ 0 then t else none) := x_if (fun h0 ok a0 h => ⟨(k ok a0 h).1, fun kc ks h1 h2 => g_idiv hd hx hy h0 ((k ok a0 h).2 kc ks h1 h2)⟩)
theorem x_idivc {x y : Int} (hd : decode μ.2.1 pc = .ok (.idiv, 1)) (hx : g32 x) (hy : g32 y) (h0 : y ≠ 0) (k : GG F Rl ω l d μ σ0 (pc + 1) lv (vI (x.tdiv y) :: st) σ t) : GG F Rl ω l d μ σ0 pc lv (vI y :: vI x :: st) σ t := fun ok a0 h => ⟨(k ok a0 h).1, fun kc ks h1 h2 => g_idiv hd hx hy h0 ((k ok a0 h).2 kc ks h1 h2)⟩
theorem x_irem {x y : Int} (hd : decode μ.2.1 pc = .ok (.irem, 1)) (hx : g32 x) (hy : g32 y) (k : GG F Rl ω l d μ σ0 (pc + 1) lv (vI (x.tmod y) :: st) σ t) : GG F Rl ω l d μ σ0 pc lv (vI y :: vI x :: st) σ (if y ≠ 0 then t else none) := x_if (fun h0 ok a0 h => ⟨(k ok a0 h).1, fun kc ks h1 h2 => g_irem hd hx hy h0 ((k ok a0 h).2 kc ks h1 h2)⟩)
theorem x_iremc {x y : Int} (hd : decode μ.2.1 pc = .ok (.irem, 1)) (hx : g32 x) (hy : g32 y) (h0 : y ≠ 0) (k : GG F Rl ω l d μ σ0 (pc + 1) lv (vI (x.tmod y) :: st) σ t) : GG F Rl ω l d μ σ0 pc lv (vI y :: vI x :: st) σ t := fun ok a0 h => ⟨(k ok a0 h).1, fun kc ks h1 h2 => g_irem hd hx hy h0 ((k ok a0 h).2 kc ks h1 h2)⟩
theorem x_ldiv {x y : Int} (hd : decode μ.2.1 pc = .ok (.ldiv, 1)) (hx : g64 x) (hy : g64 y) (k : GG F Rl ω l d μ σ0 (pc + 1) lv (vL (x.tdiv y) :: st) σ t) : GG F Rl ω l d μ σ0 pc lv (vL y :: vL x :: st) σ (if y ≠ 0 then t else none) := x_if (fun h0 ok a0 h => ⟨(k ok a0 h).1, fun kc ks h1 h2 => g_ldiv hd hx hy h0 ((k ok a0 h).2 kc ks h1 h2)⟩)
theorem x_ldivc {x y : Int} (hd : decode μ.2.1 pc = .ok (.ldiv, 1)) (hx : g64 x) (hy : g64 y) (h0 : y ≠ 0) (k : GG F Rl ω l d μ σ0 (pc + 1) lv (vL (x.tdiv y) :: st) σ t) : GG F Rl ω l d μ σ0 pc lv (vL y :: vL x :: st) σ t := fun ok a0 h => ⟨(k ok a0 h).1, fun kc ks h1 h2 => g_ldiv hd hx hy h0 ((k ok a0 h).2 kc ks h1 h2)⟩
theorem x_lrem {x y : Int} (hd : decode μ.2.1 pc = .ok (.lrem, 1)) (hx : g64 x) (hy : g64 y) (k : GG F Rl ω l d μ σ0 (pc + 1) lv (vL (x.tmod y) :: st) σ t) : GG F Rl ω l d μ σ0 pc lv (vL y :: vL x :: st) σ (if y ≠ 0 then t else none) := x_if (fun h0 ok a0 h => ⟨(k ok a0 h).1, fun kc ks h1 h2 => g_lrem hd hx hy h0 ((k ok a0 h).2 kc ks h1 h2)⟩)
theorem x_lremc {x y : Int} (hd : decode μ.2.1 pc = .ok (.lrem, 1)) (hx : g64 x) (hy : g64 y) (h0 : y ≠ 0) (k : GG F Rl ω l d μ σ0 (pc + 1) lv (vL (x.tmod y) :: st) σ t) : GG F Rl ω l d μ σ0 pc lv (vL y :: vL x :: st) σ t := fun ok a0 h => ⟨(k ok a0 h).1, fun kc ks h1 h2 => g_lrem hd hx hy h0 ((k ok a0 h).2 kc ks h1 h2)⟩
theorem x_icmp_eq {x y off : Int} {tgt : Nat} (hd : decode μ.2.1 pc = .ok (.if_icmp .eq off, 3)) (ht : (pc : Int) + off = (tgt : Int)) (hx : g32 x) (hy : g32 y) (kt : GG F Rl ω l d μ σ0 tgt lv st σ t1) (kf : GG F Rl ω l d μ σ0 (pc + 3) lv st σ t2) : GG F Rl ω l d μ σ0 pc lv (vI y :: vI x :: st) σ (if x = y then t1 else t2) := (fun ok a0 h => by
  by_cases c : x = y
  · rw [if_pos c] at h
    exact ⟨(kt ok a0 h).1, fun kc ks h1 h2 => g_icmp_eq hd ht hx hy (fun _ => (kt ok a0 h).2 kc ks h1 h2) (fun z => absurd c (by omega))⟩
  · rw [if_neg c] at h
    exact ⟨(kf ok a0 h).1, fun kc ks h1 h2 => g_icmp_eq hd ht hx hy (fun z => absurd z c) (fun _ => (kf ok a0 h).2 kc ks h1 h2)⟩)
theorem x_if_eq {x off : Int} {tgt : Nat} (hd : decode μ.2.1 pc = .ok (.ifCond .eq off, 3)) (ht : (pc : Int) + off = (tgt : Int)) (hx : g32 x) (kt : GG F Rl ω l d μ σ0 tgt lv st σ t1) (kf : GG F Rl ω l d μ σ0 (pc + 3) lv st σ t2) : GG F Rl ω l d μ σ0 pc lv (vI x :: st) σ (if x = 0 then t1 else t2) := (fun ok a0 h => by
  by_cases c : x = 0
  · rw [if_pos c] at h
    exact ⟨(kt ok a0 h).1, fun kc ks h1 h2 => g_if_eq hd ht hx (fun _ => (kt ok a0 h).2 kc ks h1 h2) (fun z => absurd c (by omega))⟩
  · rw [if_neg c] at h
    exact ⟨(kf ok a0 h).1, fun kc ks h1 h2 => g_if_eq hd ht hx (fun z => absurd z c) (fun _ => (kf ok a0 h).2 kc ks h1 h2)⟩)
theorem x_acmp_eq {x y : Nat} {off : Int} {tgt : Nat} (hd : decode μ.2.1 pc = .ok (.if_acmp .eq off, 3)) (ht : (pc : Int) + off = (tgt : Int)) (kt : GG F Rl ω l d μ σ0 tgt lv st σ t1) (kf : GG F Rl ω l d μ σ0 (pc + 3) lv st σ t2) : GG F Rl ω l d μ σ0 pc lv (vR y :: vR x :: st) σ (if x = y then t1 else t2) := (fun ok a0 h => by
  by_cases c : x = y
  · rw [if_pos c] at h
    exact ⟨(kt ok a0 h).1, fun kc ks h1 h2 => g_acmp_eq hd ht (fun _ => (kt ok a0 h).2 kc ks h1 h2) (fun z => absurd c (by omega))⟩
  · rw [if_neg c] at h
    exact ⟨(kf ok a0 h).1, fun kc ks h1 h2 => g_acmp_eq hd ht (fun z => absurd z c) (fun _ => (kf ok a0 h).2 kc ks h1 h2)⟩)
theorem x_icmp_ne {x y off : Int} {tgt : Nat} (hd : decode μ.2.1 pc = .ok (.if_icmp .ne off, 3)) (ht : (pc : Int) + off = (tgt : Int)) (hx : g32 x) (hy : g32 y) (kt : GG F Rl ω l d μ σ0 tgt lv st σ t1) (kf : GG F Rl ω l d μ σ0 (pc + 3) lv st σ t2) : GG F Rl ω l d μ σ0 pc lv (vI y :: vI x :: st) σ (if x ≠ y then t1 else t2) := (fun ok a0 h => by
  by_cases c : x ≠ y
  · rw [if_pos c] at h
    exact ⟨(kt ok a0 h).1, fun kc ks h1 h2 => g_icmp_ne hd ht hx hy (fun _ => (kt ok a0 h).2 kc ks h1 h2) (fun z => absurd c (by omega))⟩
  · rw [if_neg c] at h
    exact ⟨(kf ok a0 h).1, fun kc ks h1 h2 => g_icmp_ne hd ht hx hy (fun z => absurd z c) (fun _ => (kf ok a0 h).2 kc ks h1 h2)⟩)
theorem x_if_ne {x off : Int} {tgt : Nat} (hd : decode μ.2.1 pc = .ok (.ifCond .ne off, 3)) (ht : (pc : Int) + off = (tgt : Int)) (hx : g32 x) (kt : GG F Rl ω l d μ σ0 tgt lv st σ t1) (kf : GG F Rl ω l d μ σ0 (pc + 3) lv st σ t2) : GG F Rl ω l d μ σ0 pc lv (vI x :: st) σ (if x ≠ 0 then t1 else t2) := (fun ok a0 h => by
  by_cases c : x ≠ 0
  · rw [if_pos c] at h
    exact ⟨(kt ok a0 h).1, fun kc ks h1 h2 => g_if_ne hd ht hx (fun _ => (kt ok a0 h).2 kc ks h1 h2) (fun z => absurd c (by omega))⟩
  · rw [if_neg c] at h
    exact ⟨(kf ok a0 h).1, fun kc ks h1 h2 => g_if_ne hd ht hx (fun z => absurd z c) (fun _ => (kf ok a0 h).2 kc ks h1 h2)⟩)
theorem x_acmp_ne {x y : Nat} {off : Int} {tgt : Nat} (hd : decode μ.2.1 pc = .ok (.if_acmp .ne off, 3)) (ht : (pc : Int) + off = (tgt : Int)) (kt : GG F Rl ω l d μ σ0 tgt lv st σ t1) (kf : GG F Rl ω l d μ σ0 (pc + 3) lv st σ t2) : GG F Rl ω l d μ σ0 pc lv (vR y :: vR x :: st) σ (if x ≠ y then t1 else t2) := (fun ok a0 h => by
  by_cases c : x ≠ y
  · rw [if_pos c] at h
    exact ⟨(kt ok a0 h).1, fun kc ks h1 h2 => g_acmp_ne hd ht (fun _ => (kt ok a0 h).2 kc ks h1 h2) (fun z => absurd c (by omega))⟩
  · rw [if_neg c] at h
    exact ⟨(kf ok a0 h).1, fun kc ks h1 h2 => g_acmp_ne hd ht (fun z => absurd z c) (fun _ => (kf ok a0 h).2 kc ks h1 h2)⟩)
theorem x_icmp_lt {x y off : Int} {tgt : Nat} (hd : decode μ.2.1 pc = .ok (.if_icmp .lt off, 3)) (ht : (pc : Int) + off = (tgt : Int)) (hx : g32 x) (hy : g32 y) (kt : GG F Rl ω l d μ σ0 tgt lv st σ t1) (kf : GG F Rl ω l d μ σ0 (pc + 3) lv st σ t2) : GG F Rl ω l d μ σ0 pc lv (vI y :: vI x :: st) σ (if x < y then t1 else t2) := (fun ok a0 h => by
  by_cases c : x < y
  · rw [if_pos c] at h
    exact ⟨(kt ok a0 h).1, fun kc ks h1 h2 => g_icmp_lt hd ht hx hy (fun _ => (kt ok a0 h).2 kc ks h1 h2) (fun z => absurd c (by omega))⟩
  · rw [if_neg c] at h
    exact ⟨(kf ok a0 h).1, fun kc ks h1 h2 => g_icmp_lt hd ht hx hy (fun z => absurd z c) (fun _ => (kf ok a0 h).2 kc ks h1 h2)⟩)
theorem x_if_lt {x off : Int} {tgt : Nat} (hd : decode μ.2.1 pc = .ok (.ifCond .lt off, 3)) (ht : (pc : Int) + off = (tgt : Int)) (hx : g32 x) (kt : GG F Rl ω l d μ σ0 tgt lv st σ t1) (kf : GG F Rl ω l d μ σ0 (pc + 3) lv st σ t2) : GG F Rl ω l d μ σ0 pc lv (vI x :: st) σ (if x < 0 then t1 else t2) := (fun ok a0 h => by
  by_cases c : x < 0
  · rw [if_pos c] at h
    exact ⟨(kt ok a0 h).1, fun kc ks h1 h2 => g_if_lt hd ht hx (fun _ => (kt ok a0 h).2 kc ks h1 h2) (fun z => absurd c (by omega))⟩
  · rw [if_neg c] at h
    exact ⟨(kf ok a0 h).1, fun kc ks h1 h2 => g_if_lt hd ht hx (fun z => absurd z c) (fun _ => (kf ok a0 h).2 kc ks h1 h2)⟩)
theorem x_icmp_ge {x y off : Int} {tgt : Nat} (hd : decode μ.2.1 pc = .ok (.if_icmp .ge off, 3)) (ht : (pc : Int) + off = (tgt : Int)) (hx : g32 x) (hy : g32 y) (kt : GG F Rl ω l d μ σ0 tgt lv st σ t1) (kf : GG F Rl ω l d μ σ0 (pc + 3) lv st σ t2) : GG F Rl ω l d μ σ0 pc lv (vI y :: vI x :: st) σ (if y ≤ x then t1 else t2) := (fun ok a0 h => by
  by_cases c : y ≤ x
  · rw [if_pos c] at h
    exact ⟨(kt ok a0 h).1, fun kc ks h1 h2 => g_icmp_ge hd ht hx hy (fun _ => (kt ok a0 h).2 kc ks h1 h2) (fun z => absurd c (by omega))⟩
  · rw [if_neg c] at h
    exact ⟨(kf ok a0 h).1, fun kc ks h1 h2 => g_icmp_ge hd ht hx hy (fun z => absurd z c) (fun _ => (kf ok a0 h).2 kc ks h1 h2)⟩)
theorem x_if_ge {x off : Int} {tgt : Nat} (hd : decode μ.2.1 pc = .ok (.ifCond .ge off, 3)) (ht : (pc : Int) + off = (tgt : Int)) (hx : g32 x) (kt : GG F Rl ω l d μ σ0 tgt lv st σ t1) (kf : GG F Rl ω l d μ σ0 (pc + 3) lv st σ t2) : GG F Rl ω l d μ σ0 pc lv (vI x :: st) σ (if 0 ≤ x then t1 else t2) := (fun ok a0 h => by
  by_cases c : 0 ≤ x
  · rw [if_pos c] at h
    exact ⟨(kt ok a0 h).1, fun kc ks h1 h2 => g_if_ge hd ht hx (fun _ => (kt ok a0 h).2 kc ks h1 h2) (fun z => absurd c (by omega))⟩
  · rw [if_neg c] at h
    exact ⟨(kf ok a0 h).1, fun kc ks h1 h2 => g_if_ge hd ht hx (fun z => absurd z c) (fun _ => (kf ok a0 h).2 kc ks h1 h2)⟩)
theorem x_icmp_gt {x y off : Int} {tgt : Nat} (hd : decode μ.2.1 pc = .ok (.if_icmp .gt off, 3)) (ht : (pc : Int) + off = (tgt : Int)) (hx : g32 x) (hy : g32 y) (kt : GG F Rl ω l d μ σ0 tgt lv st σ t1) (kf : GG F Rl ω l d μ σ0 (pc + 3) lv st σ t2) : GG F Rl ω l d μ σ0 pc lv (vI y :: vI x :: st) σ (if y < x then t1 else t2) := (fun ok a0 h => by
  by_cases c : y < x
  · rw [if_pos c] at h
    exact ⟨(kt ok a0 h).1, fun kc ks h1 h2 => g_icmp_gt hd ht hx hy (fun _ => (kt ok a0 h).2 kc ks h1 h2) (fun z => absurd c (by omega))⟩
  · rw [if_neg c] at h
    exact ⟨(kf ok a0 h).1, fun kc ks h1 h2 => g_icmp_gt hd ht hx hy (fun z => absurd z c) (fun _ => (kf ok a0 h).2 kc ks h1 h2)⟩)
theorem x_if_gt {x off : Int} {tgt : Nat} (hd : decode μ.2.1 pc = .ok (.ifCond .gt off, 3)) (ht : (pc : Int) + off = (tgt : Int)) (hx : g32 x) (kt : GG F Rl ω l d μ σ0 tgt lv st σ t1) (kf : GG F Rl ω l d μ σ0 (pc + 3) lv st σ t2) : GG F Rl ω l d μ σ0 pc lv (vI x :: st) σ (if 0 < x then t1 else t2) := (fun ok a0 h => by
  by_cases c : 0 < x
  · rw [if_pos c] at h
    exact ⟨(kt ok a0 h).1, fun kc ks h1 h2 => g_if_gt hd ht hx (fun _ => (kt ok a0 h).2 kc ks h1 h2) (fun z => absurd c (by omega))⟩
  · rw [if_neg c] at h
    exact ⟨(kf ok a0 h).1, fun kc ks h1 h2 => g_if_gt hd ht hx (fun z => absurd z c) (fun _ => (kf ok a0 h).2 kc ks h1 h2)⟩)
theorem x_icmp_le {x y off : Int} {tgt : Nat} (hd : decode μ.2.1 pc = .ok (.if_icmp .le off, 3)) (ht : (pc : Int) + off = (tgt : Int)) (hx : g32 x) (hy : g32 y) (kt : GG F Rl ω l d μ σ0 tgt lv st σ t1) (kf : GG F Rl ω l d μ σ0 (pc + 3) lv st σ t2) : GG F Rl ω l d μ σ0 pc lv (vI y :: vI x :: st) σ (if x ≤ y then t1 else t2) := (fun ok a0 h => by
  by_cases c : x ≤ y
  · rw [if_pos c] at h
    exact ⟨(kt ok a0 h).1, fun kc ks h1 h2 => g_icmp_le hd ht hx hy (fun _ => (kt ok a0 h).2 kc ks h1 h2) (fun z => absurd c (by omega))⟩
  · rw [if_neg c] at h
    exact ⟨(kf ok a0 h).1, fun kc ks h1 h2 => g_icmp_le hd ht hx hy (fun z => absurd z c) (fun _ => (kf ok a0 h).2 kc ks h1 h2)⟩)
theorem x_if_le {x off : Int} {tgt : Nat} (hd : decode μ.2.1 pc = .ok (.ifCond .le off, 3)) (ht : (pc : Int) + off = (tgt : Int)) (hx : g32 x) (kt : GG F Rl ω l d μ σ0 tgt lv st σ t1) (kf : GG F Rl ω l d μ σ0 (pc + 3) lv st σ t2) : GG F Rl ω l d μ σ0 pc lv (vI x :: st) σ (if x ≤ 0 then t1 else t2) := (fun ok a0 h => by
  by_cases c : x ≤ 0
  · rw [if_pos c] at h
    exact ⟨(kt ok a0 h).1, fun kc ks h1 h2 => g_if_le hd ht hx (fun _ => (kt ok a0 h).2 kc ks h1 h2) (fun z => absurd c (by omega))⟩
  · rw [if_neg c] at h
    exact ⟨(kf ok a0 h).1, fun kc ks h1 h2 => g_if_le hd ht hx (fun z => absurd z c) (fun _ => (kf ok a0 h).2 kc ks h1 h2)⟩)
theorem x_ifnull {x : Nat} {off : Int} {tgt : Nat} (hd : decode μ.2.1 pc = .ok (.ifnull off, 3)) (ht : (pc : Int) + off = (tgt : Int)) (kt : GG F Rl ω l d μ σ0 tgt lv st σ t1) (kf : GG F Rl ω l d μ σ0 (pc + 3) lv st σ t2) : GG F Rl ω l d μ σ0 pc lv (vR x :: st) σ (if x = 0 then t1 else t2) := (fun ok a0 h => by
  by_cases c : x = 0
  · rw [if_pos c] at h
    exact ⟨(kt ok a0 h).1, fun kc ks h1 h2 => g_ifnull hd ht (fun _ => (kt ok a0 h).2 kc ks h1 h2) (fun z => absurd c (by omega))⟩
  · rw [if_neg c] at h
    exact ⟨(kf ok a0 h).1, fun kc ks h1 h2 => g_ifnull hd ht (fun z => absurd z c) (fun _ => (kf ok a0 h).2 kc ks h1 h2)⟩)
theorem x_ifnonnull {x : Nat} {off : Int} {tgt : Nat} (hd : decode μ.2.1 pc = .ok (.ifnonnull off, 3)) (ht : (pc : Int) + off = (tgt : Int)) (kt : GG F Rl ω l d μ σ0 tgt lv st σ t1) (kf : GG F Rl ω l d μ σ0 (pc + 3) lv st σ t2) : GG F Rl ω l d μ σ0 pc lv (vR x :: st) σ (if x ≠ 0 then t1 else t2) := (fun ok a0 h => by
  by_cases c : x ≠ 0
  · rw [if_pos c] at h
    exact ⟨(kt ok a0 h).1, fun kc ks h1 h2 => g_ifnonnull hd ht (fun _ => (kt ok a0 h).2 kc ks h1 h2) (fun z => absurd c (by omega))⟩
  · rw [if_neg c] at h
    exact ⟨(kf ok a0 h).1, fun kc ks h1 h2 => g_ifnonnull hd ht (fun z => absurd z c) (fun _ => (kf ok a0 h).2 kc ks h1 h2)⟩)
theorem x_if_eqT {x off : Int} {tgt : Nat} (hd : decode μ.2.1 pc = .ok (.ifCond .eq off, 3)) (ht : (pc : Int) + off = (tgt : Int)) (hx : g32 x) (hc : x = 0) (kt : GG F Rl ω l d μ σ0 tgt lv st σ t) : GG F Rl ω l d μ σ0 pc lv (vI x :: st) σ t := fun ok a0 h => ⟨(kt ok a0 h).1, fun kc ks h1 h2 => g_if_eq hd ht hx (fun _ => (kt ok a0 h).2 kc ks h1 h2) (fun z => absurd hc (by omega))⟩
theorem x_if_eqF {x off : Int} {tgt : Nat} (hd : decode μ.2.1 pc = .ok (.ifCond .eq off, 3)) (ht : (pc : Int) + off = (tgt : Int)) (hx : g32 x) (hc : ¬ (x = 0)) (kf : GG F Rl ω l d μ σ0 (pc + 3) lv st σ t) : GG F Rl ω l d μ σ0 pc lv (vI x :: st) σ t := fun ok a0 h => ⟨(kf ok a0 h).1, fun kc ks h1 h2 => g_if_eq hd ht hx (fun z => absurd z hc) (fun _ => (kf ok a0 h).2 kc ks h1 h2)⟩
theorem x_if_neT {x off : Int} {tgt : Nat} (hd : decode μ.2.1 pc = .ok (.ifCond .ne off, 3)) (ht : (pc : Int) + off = (tgt : Int)) (hx : g32 x) (hc : x ≠ 0) (kt : GG F Rl ω l d μ σ0 tgt lv st σ t) : GG F Rl ω l d μ σ0 pc lv (vI x :: st) σ t := fun ok a0 h => ⟨(kt ok a0 h).1, fun kc ks h1 h2 => g_if_ne hd ht hx (fun _ => (kt ok a0 h).2 kc ks h1 h2) (fun z => absurd hc (by omega))⟩
theorem x_if_neF {x off : Int} {tgt : Nat} (hd : decode μ.2.1 pc = .ok (.ifCond .ne off, 3)) (ht : (pc : Int) + off = (tgt : Int)) (hx : g32 x) (hc : ¬ (x ≠ 0)) (kf : GG F Rl ω l d μ σ0 (pc + 3) lv st σ t) : GG F Rl ω l d μ σ0 pc lv (vI x :: st) σ t := fun ok a0 h => ⟨(kf ok a0 h).1, fun kc ks h1 h2 => g_if_ne hd ht hx (fun z => absurd z hc) (fun _ => (kf ok a0 h).2 kc ks h1 h2)⟩
theorem x_if_ltT {x off : Int} {tgt : Nat} (hd : decode μ.2.1 pc = .ok (.ifCond .lt off, 3)) (ht : (pc : Int) + off = (tgt : Int)) (hx : g32 x) (hc : x < 0) (kt : GG F Rl ω l d μ σ0 tgt lv st σ t) : GG F Rl ω l d μ σ0 pc lv (vI x :: st) σ t := fun ok a0 h => ⟨(kt ok a0 h).1, fun kc ks h1 h2 => g_if_lt hd ht hx (fun _ => (kt ok a0 h).2 kc ks h1 h2) (fun z => absurd hc (by omega))⟩
theorem x_if_ltF {x off : Int} {tgt : Nat} (hd : decode μ.2.1 pc = .ok (.ifCond .lt off, 3)) (ht : (pc : Int) + off = (tgt : Int)) (hx : g32 x) (hc : ¬ (x < 0)) (kf : GG F Rl ω l d μ σ0 (pc + 3) lv st σ t) : GG F Rl ω l d μ σ0 pc lv (vI x :: st) σ t := fun ok a0 h => ⟨(kf ok a0 h).1, fun kc ks h1 h2 => g_if_lt hd ht hx (fun z => absurd z hc) (fun _ => (kf ok a0 h).2 kc ks h1 h2)⟩
theorem x_if_geT {x off : Int} {tgt : Nat} (hd : decode μ.2.1 pc = .ok (.ifCond .ge off, 3)) (ht : (pc : Int) + off = (tgt : Int)) (hx : g32 x) (hc : 0 ≤ x) (kt : GG F Rl ω l d μ σ0 tgt lv st σ t) : GG F Rl ω l d μ σ0 pc lv (vI x :: st) σ t := fun ok a0 h => ⟨(kt ok a0 h).1, fun kc ks h1 h2 => g_if_ge hd ht hx (fun _ => (kt ok a0 h).2 kc ks h1 h2) (fun z => absurd hc (by omega))⟩
theorem x_if_geF {x off : Int} {tgt : Nat} (hd : decode μ.2.1 pc = .ok (.ifCond .ge off, 3)) (ht : (pc : Int) + off = (tgt : Int)) (hx : g32 x) (hc : ¬ (0 ≤ x)) (kf : GG F Rl ω l d μ σ0 (pc + 3) lv st σ t) : GG F Rl ω l d μ σ0 pc lv (vI x :: st) σ t := fun ok a0 h => ⟨(kf ok a0 h).1, fun kc ks h1 h2 => g_if_ge hd ht hx (fun z => absurd z hc) (fun _ => (kf ok a0 h).2 kc ks h1 h2)⟩
theorem x_if_gtT {x off : Int} {tgt : Nat} (hd : decode μ.2.1 pc = .ok (.ifCond .gt off, 3)) (ht : (pc : Int) + off = (tgt : Int)) (hx : g32 x) (hc : 0 < x) (kt : GG F Rl ω l d μ σ0 tgt lv st σ t) : GG F Rl ω l d μ σ0 pc lv (vI x :: st) σ t := fun ok a0 h => ⟨(kt ok a0 h).1, fun kc ks h1 h2 => g_if_gt hd ht hx (fun _ => (kt ok a0 h).2 kc ks h1 h2) (fun z => absurd hc (by omega))⟩
theorem x_if_gtF {x off : Int} {tgt : Nat} (hd : decode μ.2.1 pc = .ok (.ifCond .gt off, 3)) (ht : (pc : Int) + off = (tgt : Int)) (hx : g32 x) (hc : ¬ (0 < x)) (kf : GG F Rl ω l d μ σ0 (pc + 3) lv st σ t) : GG F Rl ω l d μ σ0 pc lv (vI x :: st) σ t := fun ok a0 h => ⟨(kf ok a0 h).1, fun kc ks h1 h2 => g_if_gt hd ht hx (fun z => absurd z hc) (fun _ => (kf ok a0 h).2 kc ks h1 h2)⟩
theorem x_if_leT {x off : Int} {tgt : Nat} (hd : decode μ.2.1 pc = .ok (.ifCond .le off, 3)) (ht : (pc : Int) + off = (tgt : Int)) (hx : g32 x) (hc : x ≤ 0) (kt : GG F Rl ω l d μ σ0 tgt lv st σ t) : GG F Rl ω l d μ σ0 pc lv (vI x :: st) σ t := fun ok a0 h => ⟨(kt ok a0 h).1, fun kc ks h1 h2 => g_if_le hd ht hx (fun _ => (kt ok a0 h).2 kc ks h1 h2) (fun z => absurd hc (by omega))⟩
theorem x_if_leF {x off : Int} {tgt : Nat} (hd : decode μ.2.1 pc = .ok (.ifCond .le off, 3)) (ht : (pc : Int) + off = (tgt : Int)) (hx : g32 x) (hc : ¬ (x ≤ 0)) (kf : GG F Rl ω l d μ σ0 (pc + 3) lv st σ t) : GG F Rl ω l d μ σ0 pc lv (vI x :: st) σ t := fun ok a0 h => ⟨(kf ok a0 h).1, fun kc ks h1 h2 => g_if_le hd ht hx (fun z => absurd z hc) (fun _ => (kf ok a0 h).2 kc ks h1 h2)⟩
theorem x_tab {dflt lo hi : Int} {offs : Array Int} {len : Nat} {x off : Int} {tgt : Nat} (v : Int) (hd : decode μ.2.1 pc = .ok (.tableswitch dflt lo hi offs, len)) (h1 : lo ≤ v) (h2 : v ≤ hi) (hv : g32 v) (ho : offs[(v - lo).toNat]? = some off) (ht : (pc : Int) + off = (tgt : Int)) (kt : GG F Rl ω l d μ σ0 tgt lv st σ t1) (kf : x ≠ v → GG F Rl ω l d μ σ0 pc lv (vI x :: st) σ t2) : GG F Rl ω l d μ σ0 pc lv (vI x :: st) σ (if x = v then t1 else t2) := by
  by_cases c : x = v
  · rw [if_pos c]; subst c; exact fun ok a0 h => ⟨(kt ok a0 h).1, fun kc ks k1 k2 => g_tableIn hd hv h1 h2 ho ht ((kt ok a0 h).2 kc ks k1 k2)⟩
  · rw [if_neg c]; exact kf c
theorem x_tabOut {dflt lo hi : Int} {offs : Array Int} {len : Nat} {x : Int} {tgt : Nat} (hd : decode μ.2.1 pc = .ok (.tableswitch dflt lo hi offs, len)) (hx : g32 x) (h0 : x < lo ∨ hi < x) (ht : (pc : Int) + dflt = (tgt : Int)) (k : GG F Rl ω l d μ σ0 tgt lv st σ t) : GG F Rl ω l d μ σ0 pc lv (vI x :: st) σ t := fun ok a0 h => ⟨(k ok a0 h).1, fun kc ks h1 h2 => g_tableOut hd hx h0 ht ((k ok a0 h).2 kc ks h1 h2)⟩
theorem x_iret {x : Int} (hd : decode μ.2.1 pc = .ok (.ireturn, 1)) (hr0 : μ.2.2.2.1 = some .int) {a1 : α} (hF : F a1 = (.inl (some (vI x)), σ)) (hR : Rl σ σ) (hg : gRng (.inl (some (vI x)))) : GG F Rl ω l d μ σ0 pc lv [vI x] σ (some a1) := fun ok a0 h => by
  injection h with h; subst h
  rw [hF]
  exact ⟨⟨hR, hg⟩, fun kc ks _ _ => g_iret hd hr0 ⟨rfl, rfl⟩⟩
theorem x_zret {x : Int} (hd : decode μ.2.1 pc = .ok (.ireturn, 1)) (hr0 : μ.2.2.2.1 = some .boolean) (hx : x = 0 ∨ x = 1) {a1 : α} (hF : F a1 = (.inl (some (vI x)), σ)) (hR : Rl σ σ) (hg : gRng (.inl (some (vI x)))) : GG F Rl ω l d μ σ0 pc lv [vI x] σ (some a1) := fun ok a0 h => by
  injection h with h; subst h
  rw [hF]
  exact ⟨⟨hR, hg⟩, fun kc ks _ _ => g_zret hd hr0 hx ⟨rfl, rfl⟩⟩
theorem x_lret {x : Int} (hd : decode μ.2.1 pc = .ok (.lreturn, 1)) (hr0 : μ.2.2.2.1 = some .long) {a1 : α} (hF : F a1 = (.inl (some (vL x)), σ)) (hR : Rl σ σ) (hg : gRng (.inl (some (vL x)))) : GG F Rl ω l d μ σ0 pc lv [vL x] σ (some a1) := fun ok a0 h => by
  injection h with h; subst h
  rw [hF]
  exact ⟨⟨hR, hg⟩, fun kc ks _ _ => g_lret hd hr0 ⟨rfl, rfl⟩⟩
theorem x_vret (hd : decode μ.2.1 pc = .ok (.return_, 1)) (hr0 : μ.2.2.2.1 = none) {a1 : α} (hF : F a1 = (.inl none, σ)) (hR : Rl σ σ) (hg : gRng (.inl none)) : GG F Rl ω l d μ σ0 pc lv [] σ (some a1) := fun ok a0 h => by
  injection h with h; subst h
  rw [hF]
  exact ⟨⟨hR, hg⟩, fun kc ks _ _ => g_vret hd hr0 ⟨rfl, rfl⟩⟩
theorem x_aret {b : Nat} {rt : FieldType} (hd : decode μ.2.1 pc = .ok (.areturn, 1)) (hr0 : μ.2.2.2.1 = some rt) (hrt : (∃ n, rt = .object n) ∨ ∃ t, rt = .array t) {a1 : α} (hF : F a1 = (.inl (some (vR b)), σ)) (hR : Rl σ σ) (hg : gRng (.inl (some (vR b)))) : GG F Rl ω l d μ σ0 pc lv [vR b] σ (some a1) := fun ok a0 h => by
  injection h with h; subst h
  rw [hF]
  exact ⟨⟨hR, hg⟩, fun kc ks _ _ => g_aret hd hr0 hrt ⟨rfl, rfl⟩⟩
theorem x_geti {ci k idx a : Nat} {C : String} {T : u_T} {N : Nat} (hk : gCk ci C T N) (hn : k < N) (hq : Cond.fieldLink μ.1.cls idx (T k).1 (T k).2.1 (T k).2.2.1 ∈ lw_all) (hy : ∀ σ : gMem, gfv σ (gfty ci k) a k = .int (σ.1 a k)) (hd : decode μ.2.1 pc = .ok (.getfield idx, 3)) (ht : mT σ a = ci + 1) (kk : g32 (mI σ a k) → GG F Rl ω l d μ σ0 (pc + 3) lv (vI (mI σ a k) :: st) σ t) : GG F Rl ω l d μ σ0 pc lv (vR a :: st) σ t := fun ok a0 h => ⟨(kk (mI_rng σ a k) ok a0 h).1, fun kc ks h1 h2 => g_geti hk hn hq hy hd ht (fun _ => (kk (mI_rng σ a k) ok a0 h).2 kc ks h1 h2)⟩
theorem x_getl {ci k idx a : Nat} {C : String} {T : u_T} {N : Nat} (hk : gCk ci C T N) (hn : k < N) (hq : Cond.fieldLink μ.1.cls idx (T k).1 (T k).2.1 (T k).2.2.1 ∈ lw_all) (hy : ∀ σ : gMem, gfv σ (gfty ci k) a k = .long (σ.2.1 a k)) (hd : decode μ.2.1 pc = .ok (.getfield idx, 3)) (ht : mT σ a = ci + 1) (kk : g64 (mL σ a k) → GG F Rl ω l d μ σ0 (pc + 3) lv (vL (mL σ a k) :: st) σ t) : GG F Rl ω l d μ σ0 pc lv (vR a :: st) σ t := fun ok a0 h => ⟨(kk (mL_rng σ a k) ok a0 h).1, fun kc ks h1 h2 => g_getl hk hn hq hy hd ht (fun _ => (kk (mL_rng σ a k) ok a0 h).2 kc ks h1 h2)⟩
theorem x_getr {ci k idx a : Nat} {C : String} {T : u_T} {N : Nat} (hk : gCk ci C T N) (hn : k < N) (hq : Cond.fieldLink μ.1.cls idx (T k).1 (T k).2.1 (T k).2.2.1 ∈ lw_all) (hy : ∀ σ : gMem, gfv σ (gfty ci k) a k = grv (mR σ a k)) (hd : decode μ.2.1 pc = .ok (.getfield idx, 3)) (ht : mT σ a = ci + 1) (kk : GG F Rl ω l d μ σ0 (pc + 3) lv (vR (mR σ a k) :: st) σ t) : GG F Rl ω l d μ σ0 pc lv (vR a :: st) σ t := fun ok a0 h => ⟨(kk ok a0 h).1, fun kc ks h1 h2 => g_getr hk hn hq hy hd ht ((kk ok a0 h).2 kc ks h1 h2)⟩
theorem x_getiN {ci k idx a : Nat} {C : String} {T : u_T} {N : Nat} (hk : gCk ci C T N) (hn : k < N) {host : String} (hq : Cond.fieldLinkNest μ.1.cls idx (T k).1 (T k).2.1 (T k).2.2.1 host ∈ lw_tbl) (hy : ∀ σ : gMem, gfv σ (gfty ci k) a k = .int (σ.1 a k)) (hd : decode μ.2.1 pc = .ok (.getfield idx, 3)) (ht : mT σ a = ci + 1) (kk : g32 (mI σ a k) → GG F Rl ω l d μ σ0 (pc + 3) lv (vI (mI σ a k) :: st) σ t) : GG F Rl ω l d μ σ0 pc lv (vR a :: st) σ t := fun ok a0 h => ⟨(kk (mI_rng σ a k) ok a0 h).1, fun kc ks h1 h2 => g_getiN hk hn hq hy hd ht (fun _ => (kk (mI_rng σ a k) ok a0 h).2 kc ks h1 h2)⟩
theorem x_getlN {ci k idx a : Nat} {C : String} {T : u_T} {N : Nat} (hk : gCk ci C T N) (hn : k < N) {host : String} (hq : Cond.fieldLinkNest μ.1.cls idx (T k).1 (T k).2.1 (T k).2.2.1 host ∈ lw_tbl) (hy : ∀ σ : gMem, gfv σ (gfty ci k) a k = .long (σ.2.1 a k)) (hd : decode μ.2.1 pc = .ok (.getfield idx, 3)) (ht : mT σ a = ci + 1) (kk : g64 (mL σ a k) → GG F Rl ω l d μ σ0 (pc + 3) lv (vL (mL σ a k) :: st) σ t) : GG F Rl ω l d μ σ0 pc lv (vR a :: st) σ t := fun ok a0 h => ⟨(kk (mL_rng σ a k) ok a0 h).1, fun kc ks h1 h2 => g_getlN hk hn hq hy hd ht (fun _ => (kk (mL_rng σ a k) ok a0 h).2 kc ks h1 h2)⟩
theorem x_getrN {ci k idx a : Nat} {C : String} {T : u_T} {N : Nat} (hk : gCk ci C T N) (hn : k < N) {host : String} (hq : Cond.fieldLinkNest μ.1.cls idx (T k).1 (T k).2.1 (T k).2.2.1 host ∈ lw_tbl) (hy : ∀ σ : gMem, gfv σ (gfty ci k) a k = grv (mR σ a k)) (hd : decode μ.2.1 pc = .ok (.getfield idx, 3)) (ht : mT σ a = ci + 1) (kk : GG F Rl ω l d μ σ0 (pc + 3) lv (vR (mR σ a k) :: st) σ t) : GG F Rl ω l d μ σ0 pc lv (vR a :: st) σ t := fun ok a0 h => ⟨(kk ok a0 h).1, fun kc ks h1 h2 => g_getrN hk hn hq hy hd ht ((kk ok a0 h).2 kc ks h1 h2)⟩
theorem x_puti {x : Int} {ci k idx a : Nat} {C : String} {T : u_T} {N : Nat} (hk : gCk ci C T N) (hn : k < N) (hq : Cond.fieldLink μ.1.cls idx (T k).1 (T k).2.1 (T k).2.2.1 ∈ lw_all) (hf : (T k).2.2.2 = false) (hy : gfty ci k = .int) (hd : decode μ.2.1 pc = .ok (.putfield idx, 3)) (ht : mT σ a = ci + 1) (hw : ∀ s, Rl (wI σ a k x) s → Rl σ s) (kk : GG F Rl ω l d μ σ0 (pc + 3) lv st (wI σ a k x) t) : GG F Rl ω l d μ σ0 pc lv (vI x :: vR a :: st) σ t := fun ok a0 h => ⟨⟨hw _ (kk ok a0 h).1.1, (kk ok a0 h).1.2⟩, fun kc ks h1 h2 => g_puti hk hn hq hf hy hd ht ((kk ok a0 h).2 kc ks h1 h2)⟩
theorem x_putz {x : Int} {ci k idx a : Nat} {C : String} {T : u_T} {N : Nat} (hk : gCk ci C T N) (hn : k < N) (hq : Cond.fieldLink μ.1.cls idx (T k).1 (T k).2.1 (T k).2.2.1 ∈ lw_all) (hf : (T k).2.2.2 = false) (hy : gfty ci k = .boolean) (hx : x = 0 ∨ x = 1) (hd : decode μ.2.1 pc = .ok (.putfield idx, 3)) (ht : mT σ a = ci + 1) (hw : ∀ s, Rl (wI σ a k x) s → Rl σ s) (kk : GG F Rl ω l d μ σ0 (pc + 3) lv st (wI σ a k x) t) : GG F Rl ω l d μ σ0 pc lv (vI x :: vR a :: st) σ t := fun ok a0 h => ⟨⟨hw _ (kk ok a0 h).1.1, (kk ok a0 h).1.2⟩, fun kc ks h1 h2 => g_putz hk hn hq hf hy hx hd ht ((kk ok a0 h).2 kc ks h1 h2)⟩
theorem x_putl {x : Int} {ci k idx a : Nat} {C : String} {T : u_T} {N : Nat} (hk : gCk ci C T N) (hn : k < N) (hq : Cond.fieldLink μ.1.cls idx (T k).1 (T k).2.1 (T k).2.2.1 ∈ lw_all) (hf : (T k).2.2.2 = false) (hy : gfty ci k = .long) (hd : decode μ.2.1 pc = .ok (.putfield idx, 3)) (ht : mT σ a = ci + 1) (hw : ∀ s, Rl (wL σ a k x) s → Rl σ s) (kk : GG F Rl ω l d μ σ0 (pc + 3) lv st (wL σ a k x) t) : GG F Rl ω l d μ σ0 pc lv (vL x :: vR a :: st) σ t := fun ok a0 h => ⟨⟨hw _ (kk ok a0 h).1.1, (kk ok a0 h).1.2⟩, fun kc ks h1 h2 => g_putl hk hn hq hf hy hd ht ((kk ok a0 h).2 kc ks h1 h2)⟩
theorem x_putr {b : Nat} {ci k idx a : Nat} {C : String} {T : u_T} {N : Nat} (hk : gCk ci C T N) (hn : k < N) (hq : Cond.fieldLink μ.1.cls idx (T k).1 (T k).2.1 (T k).2.2.1 ∈ lw_all) (hf : (T k).2.2.2 = false) (hy : (∃ n, gfty ci k = .object n) ∨ ∃ t, gfty ci k = .array t) (hd : decode μ.2.1 pc = .ok (.putfield idx, 3)) (ht : mT σ a = ci + 1) (hw : ∀ s, Rl (wR σ a k b) s → Rl σ s) (kk : GG F Rl ω l d μ σ0 (pc + 3) lv st (wR σ a k b) t) : GG F Rl ω l d μ σ0 pc lv (vR b :: vR a :: st) σ t := fun ok a0 h => ⟨⟨hw _ (kk ok a0 h).1.1, (kk ok a0 h).1.2⟩, fun kc ks h1 h2 => g_putr hk hn hq hf hy hd ht ((kk ok a0 h).2 kc ks h1 h2)⟩
theorem x_putiN {x : Int} {ci k idx a : Nat} {C : String} {T : u_T} {N : Nat} (hk : gCk ci C T N) (hn : k < N) {host : String} (hq : Cond.fieldLinkNest μ.1.cls idx (T k).1 (T k).2.1 (T k).2.2.1 host ∈ lw_tbl) (hf : (T k).2.2.2 = false) (hy : gfty ci k = .int) (hd : decode μ.2.1 pc = .ok (.putfield idx, 3)) (ht : mT σ a = ci + 1) (hw : ∀ s, Rl (wI σ a k x) s → Rl σ s) (kk : GG F Rl ω l d μ σ0 (pc + 3) lv st (wI σ a k x) t) : GG F Rl ω l d μ σ0 pc lv (vI x :: vR a :: st) σ t := fun ok a0 h => ⟨⟨hw _ (kk ok a0 h).1.1, (kk ok a0 h).1.2⟩, fun kc ks h1 h2 => g_putiN hk hn hq hf hy hd ht ((kk ok a0 h).2 kc ks h1 h2)⟩
theorem x_putzN {x : Int} {ci k idx a : Nat} {C : String} {T : u_T} {N : Nat} (hk : gCk ci C T N) (hn : k < N) {host : String} (hq : Cond.fieldLinkNest μ.1.cls idx (T k).1 (T k).2.1 (T k).2.2.1 host ∈ lw_tbl) (hf : (T k).2.2.2 = false) (hy : gfty ci k = .boolean) (hx : x = 0 ∨ x = 1) (hd : decode μ.2.1 pc = .ok (.putfield idx, 3)) (ht : mT σ a = ci + 1) (hw : ∀ s, Rl (wI σ a k x) s → Rl σ s) (kk : GG F Rl ω l d μ σ0 (pc + 3) lv st (wI σ a k x) t) : GG F Rl ω l d μ σ0 pc lv (vI x :: vR a :: st) σ t := fun ok a0 h => ⟨⟨hw _ (kk ok a0 h).1.1, (kk ok a0 h).1.2⟩, fun kc ks h1 h2 => g_putzN hk hn hq hf hy hx hd ht ((kk ok a0 h).2 kc ks h1 h2)⟩
theorem x_putlN {x : Int} {ci k idx a : Nat} {C : String} {T : u_T} {N : Nat} (hk : gCk ci C T N) (hn : k < N) {host : String} (hq : Cond.fieldLinkNest μ.1.cls idx (T k).1 (T k).2.1 (T k).2.2.1 host ∈ lw_tbl) (hf : (T k).2.2.2 = false) (hy : gfty ci k = .long) (hd : decode μ.2.1 pc = .ok (.putfield idx, 3)) (ht : mT σ a = ci + 1) (hw : ∀ s, Rl (wL σ a k x) s → Rl σ s) (kk : GG F Rl ω l d μ σ0 (pc + 3) lv st (wL σ a k x) t) : GG F Rl ω l d μ σ0 pc lv (vL x :: vR a :: st) σ t := fun ok a0 h => ⟨⟨hw _ (kk ok a0 h).1.1, (kk ok a0 h).1.2⟩, fun kc ks h1 h2 => g_putlN hk hn hq hf hy hd ht ((kk ok a0 h).2 kc ks h1 h2)⟩
theorem x_putrN {b : Nat} {ci k idx a : Nat} {C : String} {T : u_T} {N : Nat} (hk : gCk ci C T N) (hn : k < N) {host : String} (hq : Cond.fieldLinkNest μ.1.cls idx (T k).1 (T k).2.1 (T k).2.2.1 host ∈ lw_tbl) (hf : (T k).2.2.2 = false) (hy : (∃ n, gfty ci k = .object n) ∨ ∃ t, gfty ci k = .array t) (hd : decode μ.2.1 pc = .ok (.putfield idx, 3)) (ht : mT σ a = ci + 1) (hw : ∀ s, Rl (wR σ a k b) s → Rl σ s) (kk : GG F Rl ω l d μ σ0 (pc + 3) lv st (wR σ a k b) t) : GG F Rl ω l d μ σ0 pc lv (vR b :: vR a :: st) σ t := fun ok a0 h => ⟨⟨hw _ (kk ok a0 h).1.1, (kk ok a0 h).1.2⟩, fun kc ks h1 h2 => g_putrN hk hn hq hf hy hd ht ((kk ok a0 h).2 kc ks h1 h2)⟩
theorem x_putiF {x : Int} {ci k idx a : Nat} {C : String} {T : u_T} {N : Nat} (hk : gCk ci C T N) (hn : k < N) (hq : Cond.fieldLink μ.1.cls idx (T k).1 (T k).2.1 (T k).2.2.1 ∈ lw_all) (hf : (T k).2.2.2 = true) (hnm : μ.1.name = "<init>") (hdecl : (T k).1 = μ.1.cls) (hy : gfty ci k = .int) (hd : decode μ.2.1 pc = .ok (.putfield idx, 3)) (ht : mT σ a = ci + 1) (hw : ∀ s, Rl (wI σ a k x) s → Rl σ s) (kk : GG F Rl ω l d μ σ0 (pc + 3) lv st (wI σ a k x) t) : GG F Rl ω l d μ σ0 pc lv (vI x :: vR a :: st) σ t := fun ok a0 h => ⟨⟨hw _ (kk ok a0 h).1.1, (kk ok a0 h).1.2⟩, fun kc ks h1 h2 => g_putiF hk hn hq hf hnm hdecl hy hd ht ((kk ok a0 h).2 kc ks h1 h2)⟩
theorem x_putzF {x : Int} {ci k idx a : Nat} {C : String} {T : u_T} {N : Nat} (hk : gCk ci C T N) (hn : k < N) (hq : Cond.fieldLink μ.1.cls idx (T k).1 (T k).2.1 (T k).2.2.1 ∈ lw_all) (hf : (T k).2.2.2 = true) (hnm : μ.1.name = "<init>") (hdecl : (T k).1 = μ.1.cls) (hy : gfty ci k = .boolean) (hx : x = 0 ∨ x = 1) (hd : decode μ.2.1 pc = .ok (.putfield idx, 3)) (ht : mT σ a = ci + 1) (hw : ∀ s, Rl (wI σ a k x) s → Rl σ s) (kk : GG F Rl ω l d μ σ0 (pc + 3) lv st (wI σ a k x) t) : GG F Rl ω l d μ σ0 pc lv (vI x :: vR a :: st) σ t := fun ok a0 h => ⟨⟨hw _ (kk ok a0 h).1.1, (kk ok a0 h).1.2⟩, fun kc ks h1 h2 => g_putzF hk hn hq hf hnm hdecl hy hx hd ht ((kk ok a0 h).2 kc ks h1 h2)⟩
theorem x_putlF {x : Int} {ci k idx a : Nat} {C : String} {T : u_T} {N : Nat} (hk : gCk ci C T N) (hn : k < N) (hq : Cond.fieldLink μ.1.cls idx (T k).1 (T k).2.1 (T k).2.2.1 ∈ lw_all) (hf : (T k).2.2.2 = true) (hnm : μ.1.name = "<init>") (hdecl : (T k).1 = μ.1.cls) (hy : gfty ci k = .long) (hd : decode μ.2.1 pc = .ok (.putfield idx, 3)) (ht : mT σ a = ci + 1) (hw : ∀ s, Rl (wL σ a k x) s → Rl σ s) (kk : GG F Rl ω l d μ σ0 (pc + 3) lv st (wL σ a k x) t) : GG F Rl ω l d μ σ0 pc lv (vL x :: vR a :: st) σ t := fun ok a0 h => ⟨⟨hw _ (kk ok a0 h).1.1, (kk ok a0 h).1.2⟩, fun kc ks h1 h2 => g_putlF hk hn hq hf hnm hdecl hy hd ht ((kk ok a0 h).2 kc ks h1 h2)⟩
theorem x_putrF {b : Nat} {ci k idx a : Nat} {C : String} {T : u_T} {N : Nat} (hk : gCk ci C T N) (hn : k < N) (hq : Cond.fieldLink μ.1.cls idx (T k).1 (T k).2.1 (T k).2.2.1 ∈ lw_all) (hf : (T k).2.2.2 = true) (hnm : μ.1.name = "<init>") (hdecl : (T k).1 = μ.1.cls) (hy : (∃ n, gfty ci k = .object n) ∨ ∃ t, gfty ci k = .array t) (hd : decode μ.2.1 pc = .ok (.putfield idx, 3)) (ht : mT σ a = ci + 1) (hw : ∀ s, Rl (wR σ a k b) s → Rl σ s) (kk : GG F Rl ω l d μ σ0 (pc + 3) lv st (wR σ a k b) t) : GG F Rl ω l d μ σ0 pc lv (vR b :: vR a :: st) σ t := fun ok a0 h => ⟨⟨hw _ (kk ok a0 h).1.1, (kk ok a0 h).1.2⟩, fun kc ks h1 h2 => g_putrF hk hn hq hf hnm hdecl hy hd ht ((kk ok a0 h).2 kc ks h1 h2)⟩
theorem x_iald {a n : Nat} {i : Int} (hd : decode μ.2.1 pc = .ok (.iaload, 1)) (ht : mT σ a = 100) (hN : mN σ a = n) (kk : g32 (mI σ a i.toNat) → GG F Rl ω l d μ σ0 (pc + 1) lv (vI (mI σ a i.toNat) :: st) σ t) : GG F Rl ω l d μ σ0 pc lv (vI i :: vR a :: st) σ (if 0 ≤ i ∧ i < (n : Int) then t else none) := x_if (fun hi ok a0 h => ⟨(kk (mI_rng σ a i.toNat) ok a0 h).1, fun kc ks h1 h2 => g_iald hd ht (by rw [hN]; exact hi) (fun q => (kk q ok a0 h).2 kc ks h1 h2)⟩)
theorem x_bald {a n : Nat} {i : Int} (hd : decode μ.2.1 pc = .ok (.baload, 1)) (ht : mT σ a = 102) (hN : mN σ a = n) (kk : g32 (mI σ a i.toNat) → GG F Rl ω l d μ σ0 (pc + 1) lv (vI (mI σ a i.toNat) :: st) σ t) : GG F Rl ω l d μ σ0 pc lv (vI i :: vR a :: st) σ (if 0 ≤ i ∧ i < (n : Int) then t else none) := x_if (fun hi ok a0 h => ⟨(kk (mI_rng σ a i.toNat) ok a0 h).1, fun kc ks h1 h2 => g_bald hd ht (by rw [hN]; exact hi) (fun q => (kk q ok a0 h).2 kc ks h1 h2)⟩)
theorem x_zald {a n : Nat} {i : Int} (hd : decode μ.2.1 pc = .ok (.baload, 1)) (ht : mT σ a = 103) (hN : mN σ a = n) (kk : g32 (mI σ a i.toNat) → GG F Rl ω l d μ σ0 (pc + 1) lv (vI (mI σ a i.toNat) :: st) σ t) : GG F Rl ω l d μ σ0 pc lv (vI i :: vR a :: st) σ (if 0 ≤ i ∧ i < (n : Int) then t else none) := x_if (fun hi ok a0 h => ⟨(kk (mI_rng σ a i.toNat) ok a0 h).1, fun kc ks h1 h2 => g_zald hd ht (by rw [hN]; exact hi) (fun q => (kk q ok a0 h).2 kc ks h1 h2)⟩)
theorem x_lald {a n : Nat} {i : Int} (hd : decode μ.2.1 pc = .ok (.laload, 1)) (ht : mT σ a = 101) (hN : mN σ a = n) (kk : g64 (mL σ a i.toNat) → GG F Rl ω l d μ σ0 (pc + 1) lv (vL (mL σ a i.toNat) :: st) σ t) : GG F Rl ω l d μ σ0 pc lv (vI i :: vR a :: st) σ (if 0 ≤ i ∧ i < (n : Int) then t else none) := x_if (fun hi ok a0 h => ⟨(kk (mL_rng σ a i.toNat) ok a0 h).1, fun kc ks h1 h2 => g_lald hd ht (by rw [hN]; exact hi) (fun q => (kk q ok a0 h).2 kc ks h1 h2)⟩)
theorem x_iast {a n : Nat} {i x : Int} (hd : decode μ.2.1 pc = .ok (.iastore, 1)) (ht : mT σ a = 100) (hN : mN σ a = n) (hw : ∀ k s, Rl (wI σ a k x) s → Rl σ s) (kk : GG F Rl ω l d μ σ0 (pc + 1) lv st (wI σ a i.toNat x) t) : GG F Rl ω l d μ σ0 pc lv (vI x :: vI i :: vR a :: st) σ (if 0 ≤ i ∧ i < (n : Int) then t else none) := x_if (fun hi ok a0 h => ⟨⟨hw _ _ (kk ok a0 h).1.1, (kk ok a0 h).1.2⟩, fun kc ks h1 h2 => g_iast hd ht (by rw [hN]; exact hi) ((kk ok a0 h).2 kc ks h1 h2)⟩)
theorem x_bast {a n : Nat} {i x : Int} (hd : decode μ.2.1 pc = .ok (.bastore, 1)) (ht : mT σ a = 102) (hN : mN σ a = n) (hx : -128 ≤ x ∧ x ≤ 127) (hw : ∀ k s, Rl (wI σ a k x) s → Rl σ s) (kk : GG F Rl ω l d μ σ0 (pc + 1) lv st (wI σ a i.toNat x) t) : GG F Rl ω l d μ σ0 pc lv (vI x :: vI i :: vR a :: st) σ (if 0 ≤ i ∧ i < (n : Int) then t else none) := x_if (fun hi ok a0 h => ⟨⟨hw _ _ (kk ok a0 h).1.1, (kk ok a0 h).1.2⟩, fun kc ks h1 h2 => g_bast hd ht (by rw [hN]; exact hi) hx ((kk ok a0 h).2 kc ks h1 h2)⟩)
theorem x_zast {a n : Nat} {i x : Int} (hd : decode μ.2.1 pc = .ok (.bastore, 1)) (ht : mT σ a = 103) (hN : mN σ a = n) (hx : x = 0 ∨ x = 1) (hw : ∀ k s, Rl (wI σ a k x) s → Rl σ s) (kk : GG F Rl ω l d μ σ0 (pc + 1) lv st (wI σ a i.toNat x) t) : GG F Rl ω l d μ σ0 pc lv (vI x :: vI i :: vR a :: st) σ (if 0 ≤ i ∧ i < (n : Int) then t else none) := x_if (fun hi ok a0 h => ⟨⟨hw _ _ (kk ok a0 h).1.1, (kk ok a0 h).1.2⟩, fun kc ks h1 h2 => g_zast hd ht (by rw [hN]; exact hi) hx ((kk ok a0 h).2 kc ks h1 h2)⟩)
theorem x_last {a n : Nat} {i x : Int} (hd : decode μ.2.1 pc = .ok (.lastore, 1)) (ht : mT σ a = 101) (hN : mN σ a = n) (hw : ∀ k s, Rl (wL σ a k x) s → Rl σ s) (kk : GG F Rl ω l d μ σ0 (pc + 1) lv st (wL σ a i.toNat x) t) : GG F Rl ω l d μ σ0 pc lv (vL x :: vI i :: vR a :: st) σ (if 0 ≤ i ∧ i < (n : Int) then t else none) := x_if (fun hi ok a0 h => ⟨⟨hw _ _ (kk ok a0 h).1.1, (kk ok a0 h).1.2⟩, fun kc ks h1 h2 => g_last hd ht (by rw [hN]; exact hi) ((kk ok a0 h).2 kc ks h1 h2)⟩)
theorem x_len {a : Nat} (j : Nat) {ty : FieldType} (hj : ∀ ω : gW, (gtys ω)[j]? = some (ω.A j, ty)) (hd : decode μ.2.1 pc = .ok (.arraylength, 1)) (ht : mT σ a = 100 + j) (kk : GG F Rl ω l d μ σ0 (pc + 1) lv (vI (mN σ a : Int) :: st) σ t) : GG F Rl ω l d μ σ0 pc lv (vR a :: st) σ t := fun ok a0 h => ⟨(kk ok a0 h).1, fun kc ks h1 h2 => g_alen j hj hd ht (fun z => (kk ok a0 h).2 kc ks h1 h2)⟩
/-- a method's contract by a tree -/
def gK {β : Type} (F' : β → gR) (Rl : gMem → gMem → Prop) (ω : gW) (l : Launch) (d : Nat) (μ : gM) (args : List gV) (σ : gMem) (t : Option β) : Prop :=
  gOk σ → ∀ b0 : β, t = some b0 → (Rl σ (F' b0).2 ∧ gRng (F' b0).1) ∧ gC ω l d (mZ (F' b0).2 - mZ σ) (mS (F' b0).2 - mS σ) μ args σ (fun v s => (F' b0).1 = .inl v ∧ s = (F' b0).2) (fun E s => (F' b0).1 = .inr E ∧ s = (F' b0).2)
theorem gslen (vs : List gV) : (lg_sl (vs.map gval)).length = (vs.map gcat).sum := gslen0 vs
theorem gK.of {args : List gV} {y : MethodName} {cc : ByteArray} {nL : Nat} {ret : Option FieldType} (hy : plainName y.cls = true) (hn : (args.map gcat).sum ≤ nL) (k : GG F Rl ω l d (y, cc, nL, ret, []) σ 0 (gent 0 args) [] σ t) : gK F Rl ω l d (y, cc, nL, ret, []) args σ t := fun ok a0 h => ⟨(k ok a0 h).1, gC.of hy (by rw [gslen]; exact hn) ((k ok a0 h).2 _ _ (Nat.le_refl _) (Nat.le_refl _))⟩
theorem gK.ofH {args : List gV} {y : MethodName} {cc : ByteArray} {nL : Nat} {ret : Option FieldType} {h0 : Nat × Nat × Nat × Nat} {hh : List (Nat × Nat × Nat × Nat)} (hy : plainName y.cls = true) (hn : (args.map gcat).sum ≤ nL) (k : GG F Rl ω l d (y, cc, nL, ret, h0 :: hh) σ 0 (gent 0 args) [] σ t) : gK F Rl ω l d (y, cc, nL, ret, h0 :: hh) args σ t := fun ok a0 h => ⟨(k ok a0 h).1, gC.ofH hy (by rw [gslen]; exact hn) ((k ok a0 h).2 _ _ (Nat.le_refl _) (Nat.le_refl _))⟩
theorem gK.none {β : Type} {F' : β → gR} {args : List gV} : gK F' Rl ω l d μ args σ (none : Option β) := fun _ _ h => by cases h
/-- a relation between memories that a tree's steps keep -/
def gRel (Rl : gMem → gMem → Prop) : Prop := (∀ a, Rl a a) ∧ (∀ a b c, Rl a b → Rl b c → Rl a c) ∧ ∀ a b, Rl a b → mZ a ≤ mZ b ∧ mS a ≤ mS b ∧ (gOk a → gOk b)
theorem gRel_E : gRel gE := ⟨fun _ => gE.rf, fun _ _ _ h k => h.tr k, fun _ _ h => ⟨h.1, h.2.1, h.2.2.2⟩⟩
/-- ints and longs alone have changed -/
def gTw (a b : gMem) : Prop := b.2.2 = a.2.2
theorem gRel_Tw : gRel gTw := ⟨fun _ => rfl, fun _ _ _ h k => Eq.trans k h, fun a b h => by unfold gOk mT mZ mS; unfold gTw at h; rw [h]; exact ⟨Nat.le_refl _, Nat.le_refl _, fun z => z⟩⟩
theorem gC.no {ω : gW} {l : Launch} {d kc ks : Nat} {μ : gM} {args : List gV} {σ : gMem} {PR : Option gV → gMem → Prop} {v0 : Option gV} {σ' : gMem} (h : gC ω l d kc ks μ args σ PR (fun E s => (Sum.inl v0 : Option gV ⊕ String) = .inr E ∧ s = σ')) : gC ω l d kc ks μ args σ PR gNo := by
  intro p e h1 h2 h3 s m a below h4 h5 h6 h7
  obtain ⟨n, o, k1, k2, k3, k4⟩ := h p e h1 h2 h3 s m a below h4 h5 h6 h7
  refine ⟨n, o, k1, k2, k3, ?_⟩
  rcases k4 with k4 | ⟨q, -, E, ce, L, ⟨σ', hf, -⟩, -⟩
  · exact Or.inl k4
  · exact absurd hf.1 (fun q => by cases q)
variable {d' idx b ci N nL' : Nat} {As st0 : List gV} {y' : MethodName} {cc' : ByteArray} {ret' : Option FieldType} {T : u_T} {Rl' : gMem → gMem → Prop}
theorem x_callV_pi {f : Option (Int)} {tc : Int → Option α} (hM : gK (fun x => (.inl (some (vI x)), σ)) Rl' ω l d' (y', cc', nL', ret', []) (vR b :: As) σ f) (hRl : gRel Rl) (hRl' : gRel Rl') (hw : ∀ s, Rl' σ s → Rl σ s) (q1 : Cond.methodLink μ.1.cls idx y' ∈ lw_all) (q2 : Cond.instanceMethod y' ∈ lw_all) (q3 : Cond.selects y'.cls y' y' ∈ lw_all) (q4 : Cond.initialized y'.cls ∈ lw_all) (q5 : Cond.code y' cc' nL' ret' ∈ lw_all) (hd : decode μ.2.1 pc = .ok (.invokevirtual idx, 3)) (hc : gcl[ci]? = some (y'.cls, T, N)) (ht : mT σ b = ci + 1) (hy : y'.cls ≠ "java/lang/invoke/MethodHandle" ∧ y'.cls ≠ "java/lang/invoke/VarHandle" ∧ (parseMethodDescriptor y'.desc).map (fun d => d.parameters.length) = some As.length) (hdm : d' + 1 ≤ d) (hnl : nL' ≤ 45) (hs : st0 = As.reverse ++ vR b :: st) (hcat : (st.map gcat).sum ≤ 8) (kk : ∀ x, g32 x → GG F Rl ω l d μ σ0 (pc + 3) lv (vI x :: st) (σ) (tc x)) : GG F Rl ω l d μ σ0 pc lv st0 σ (f.bind tc) := by
  intro ok a0 h
  obtain ⟨x, hb, hq⟩ := Option.bind_eq_some_iff.mp h
  obtain ⟨⟨k1, k0⟩, k2⟩ := hM ok x hb
  have m1 := hRl'.2.2 _ _ k1
  have k3 := kk x k0 (m1.2.2 ok) a0 hq
  have m2 := hRl.2.2 _ _ k3.1.1
  refine ⟨⟨hRl.2.1 _ _ _ (hw _ k1) k3.1.1, k3.1.2⟩, fun kc ks h1 h2 => ?_⟩
  dsimp only at m1 m2 k3 k2
  refine g_callV k2.no q1 q2 q3 q4 q5 hd hc ht hy hdm hnl ⟨by omega, by omega⟩ hs hcat (fun v' σ' hp hE => ?_)
  obtain ⟨e1, e2⟩ := hp
  injection e1 with e1
  subst e1; subst e2
  exact k3.2 _ _ (by omega) (by omega)
theorem x_callV_pl {f : Option (Int)} {tc : Int → Option α} (hM : gK (fun x => (.inl (some (vL x)), σ)) Rl' ω l d' (y', cc', nL', ret', []) (vR b :: As) σ f) (hRl : gRel Rl) (hRl' : gRel Rl') (hw : ∀ s, Rl' σ s → Rl σ s) (q1 : Cond.methodLink μ.1.cls idx y' ∈ lw_all) (q2 : Cond.instanceMethod y' ∈ lw_all) (q3 : Cond.selects y'.cls y' y' ∈ lw_all) (q4 : Cond.initialized y'.cls ∈ lw_all) (q5 : Cond.code y' cc' nL' ret' ∈ lw_all) (hd : decode μ.2.1 pc = .ok (.invokevirtual idx, 3)) (hc : gcl[ci]? = some (y'.cls, T, N)) (ht : mT σ b = ci + 1) (hy : y'.cls ≠ "java/lang/invoke/MethodHandle" ∧ y'.cls ≠ "java/lang/invoke/VarHandle" ∧ (parseMethodDescriptor y'.desc).map (fun d => d.parameters.length) = some As.length) (hdm : d' + 1 ≤ d) (hnl : nL' ≤ 45) (hs : st0 = As.reverse ++ vR b :: st) (hcat : (st.map gcat).sum ≤ 8) (kk : ∀ x, g64 x → GG F Rl ω l d μ σ0 (pc + 3) lv (vL x :: st) (σ) (tc x)) : GG F Rl ω l d μ σ0 pc lv st0 σ (f.bind tc) := by
  intro ok a0 h
  obtain ⟨x, hb, hq⟩ := Option.bind_eq_some_iff.mp h
  obtain ⟨⟨k1, k0⟩, k2⟩ := hM ok x hb
  have m1 := hRl'.2.2 _ _ k1
  have k3 := kk x k0 (m1.2.2 ok) a0 hq
  have m2 := hRl.2.2 _ _ k3.1.1
  refine ⟨⟨hRl.2.1 _ _ _ (hw _ k1) k3.1.1, k3.1.2⟩, fun kc ks h1 h2 => ?_⟩
  dsimp only at m1 m2 k3 k2
  refine g_callV k2.no q1 q2 q3 q4 q5 hd hc ht hy hdm hnl ⟨by omega, by omega⟩ hs hcat (fun v' σ' hp hE => ?_)
  obtain ⟨e1, e2⟩ := hp
  injection e1 with e1
  subst e1; subst e2
  exact k3.2 _ _ (by omega) (by omega)
theorem x_callV_pr {f : Option (Nat)} {tc : Nat → Option α} (hM : gK (fun x => (.inl (some (vR x)), σ)) Rl' ω l d' (y', cc', nL', ret', []) (vR b :: As) σ f) (hRl : gRel Rl) (hRl' : gRel Rl') (hw : ∀ s, Rl' σ s → Rl σ s) (q1 : Cond.methodLink μ.1.cls idx y' ∈ lw_all) (q2 : Cond.instanceMethod y' ∈ lw_all) (q3 : Cond.selects y'.cls y' y' ∈ lw_all) (q4 : Cond.initialized y'.cls ∈ lw_all) (q5 : Cond.code y' cc' nL' ret' ∈ lw_all) (hd : decode μ.2.1 pc = .ok (.invokevirtual idx, 3)) (hc : gcl[ci]? = some (y'.cls, T, N)) (ht : mT σ b = ci + 1) (hy : y'.cls ≠ "java/lang/invoke/MethodHandle" ∧ y'.cls ≠ "java/lang/invoke/VarHandle" ∧ (parseMethodDescriptor y'.desc).map (fun d => d.parameters.length) = some As.length) (hdm : d' + 1 ≤ d) (hnl : nL' ≤ 45) (hs : st0 = As.reverse ++ vR b :: st) (hcat : (st.map gcat).sum ≤ 8) (kk : ∀ x, GG F Rl ω l d μ σ0 (pc + 3) lv (vR x :: st) (σ) (tc x)) : GG F Rl ω l d μ σ0 pc lv st0 σ (f.bind tc) := by
  intro ok a0 h
  obtain ⟨x, hb, hq⟩ := Option.bind_eq_some_iff.mp h
  obtain ⟨⟨k1, k0⟩, k2⟩ := hM ok x hb
  have m1 := hRl'.2.2 _ _ k1
  have k3 := kk x (m1.2.2 ok) a0 hq
  have m2 := hRl.2.2 _ _ k3.1.1
  refine ⟨⟨hRl.2.1 _ _ _ (hw _ k1) k3.1.1, k3.1.2⟩, fun kc ks h1 h2 => ?_⟩
  dsimp only at m1 m2 k3 k2
  refine g_callV k2.no q1 q2 q3 q4 q5 hd hc ht hy hdm hnl ⟨by omega, by omega⟩ hs hcat (fun v' σ' hp hE => ?_)
  obtain ⟨e1, e2⟩ := hp
  injection e1 with e1
  subst e1; subst e2
  exact k3.2 _ _ (by omega) (by omega)
theorem x_callV_mi {f : Option (Int × gMem)} {tc : Int × gMem → Option α} (hM : gK (fun p => (.inl (some (vI p.1)), p.2)) Rl' ω l d' (y', cc', nL', ret', []) (vR b :: As) σ f) (hRl : gRel Rl) (hRl' : gRel Rl') (hw : ∀ s, Rl' σ s → Rl σ s) (q1 : Cond.methodLink μ.1.cls idx y' ∈ lw_all) (q2 : Cond.instanceMethod y' ∈ lw_all) (q3 : Cond.selects y'.cls y' y' ∈ lw_all) (q4 : Cond.initialized y'.cls ∈ lw_all) (q5 : Cond.code y' cc' nL' ret' ∈ lw_all) (hd : decode μ.2.1 pc = .ok (.invokevirtual idx, 3)) (hc : gcl[ci]? = some (y'.cls, T, N)) (ht : mT σ b = ci + 1) (hy : y'.cls ≠ "java/lang/invoke/MethodHandle" ∧ y'.cls ≠ "java/lang/invoke/VarHandle" ∧ (parseMethodDescriptor y'.desc).map (fun d => d.parameters.length) = some As.length) (hdm : d' + 1 ≤ d) (hnl : nL' ≤ 45) (hs : st0 = As.reverse ++ vR b :: st) (hcat : (st.map gcat).sum ≤ 8) (kk : ∀ p, Rl' σ (p.2) → g32 p.1 → GG F Rl ω l d μ σ0 (pc + 3) lv (vI p.1 :: st) (p.2) (tc p)) : GG F Rl ω l d μ σ0 pc lv st0 σ (f.bind tc) := by
  intro ok a0 h
  obtain ⟨p, hb, hq⟩ := Option.bind_eq_some_iff.mp h
  obtain ⟨⟨k1, k0⟩, k2⟩ := hM ok p hb
  have m1 := hRl'.2.2 _ _ k1
  have k3 := kk p k1 k0 (m1.2.2 ok) a0 hq
  have m2 := hRl.2.2 _ _ k3.1.1
  refine ⟨⟨hRl.2.1 _ _ _ (hw _ k1) k3.1.1, k3.1.2⟩, fun kc ks h1 h2 => ?_⟩
  dsimp only at m1 m2 k3 k2
  refine g_callV k2.no q1 q2 q3 q4 q5 hd hc ht hy hdm hnl ⟨by omega, by omega⟩ hs hcat (fun v' σ' hp hE => ?_)
  obtain ⟨e1, e2⟩ := hp
  injection e1 with e1
  subst e1; subst e2
  exact k3.2 _ _ (by omega) (by omega)
theorem x_callV_ml {f : Option (Int × gMem)} {tc : Int × gMem → Option α} (hM : gK (fun p => (.inl (some (vL p.1)), p.2)) Rl' ω l d' (y', cc', nL', ret', []) (vR b :: As) σ f) (hRl : gRel Rl) (hRl' : gRel Rl') (hw : ∀ s, Rl' σ s → Rl σ s) (q1 : Cond.methodLink μ.1.cls idx y' ∈ lw_all) (q2 : Cond.instanceMethod y' ∈ lw_all) (q3 : Cond.selects y'.cls y' y' ∈ lw_all) (q4 : Cond.initialized y'.cls ∈ lw_all) (q5 : Cond.code y' cc' nL' ret' ∈ lw_all) (hd : decode μ.2.1 pc = .ok (.invokevirtual idx, 3)) (hc : gcl[ci]? = some (y'.cls, T, N)) (ht : mT σ b = ci + 1) (hy : y'.cls ≠ "java/lang/invoke/MethodHandle" ∧ y'.cls ≠ "java/lang/invoke/VarHandle" ∧ (parseMethodDescriptor y'.desc).map (fun d => d.parameters.length) = some As.length) (hdm : d' + 1 ≤ d) (hnl : nL' ≤ 45) (hs : st0 = As.reverse ++ vR b :: st) (hcat : (st.map gcat).sum ≤ 8) (kk : ∀ p, Rl' σ (p.2) → g64 p.1 → GG F Rl ω l d μ σ0 (pc + 3) lv (vL p.1 :: st) (p.2) (tc p)) : GG F Rl ω l d μ σ0 pc lv st0 σ (f.bind tc) := by
  intro ok a0 h
  obtain ⟨p, hb, hq⟩ := Option.bind_eq_some_iff.mp h
  obtain ⟨⟨k1, k0⟩, k2⟩ := hM ok p hb
  have m1 := hRl'.2.2 _ _ k1
  have k3 := kk p k1 k0 (m1.2.2 ok) a0 hq
  have m2 := hRl.2.2 _ _ k3.1.1
  refine ⟨⟨hRl.2.1 _ _ _ (hw _ k1) k3.1.1, k3.1.2⟩, fun kc ks h1 h2 => ?_⟩
  dsimp only at m1 m2 k3 k2
  refine g_callV k2.no q1 q2 q3 q4 q5 hd hc ht hy hdm hnl ⟨by omega, by omega⟩ hs hcat (fun v' σ' hp hE => ?_)
  obtain ⟨e1, e2⟩ := hp
  injection e1 with e1
  subst e1; subst e2
  exact k3.2 _ _ (by omega) (by omega)
theorem x_callV_mr {f : Option (Nat × gMem)} {tc : Nat × gMem → Option α} (hM : gK (fun p => (.inl (some (vR p.1)), p.2)) Rl' ω l d' (y', cc', nL', ret', []) (vR b :: As) σ f) (hRl : gRel Rl) (hRl' : gRel Rl') (hw : ∀ s, Rl' σ s → Rl σ s) (q1 : Cond.methodLink μ.1.cls idx y' ∈ lw_all) (q2 : Cond.instanceMethod y' ∈ lw_all) (q3 : Cond.selects y'.cls y' y' ∈ lw_all) (q4 : Cond.initialized y'.cls ∈ lw_all) (q5 : Cond.code y' cc' nL' ret' ∈ lw_all) (hd : decode μ.2.1 pc = .ok (.invokevirtual idx, 3)) (hc : gcl[ci]? = some (y'.cls, T, N)) (ht : mT σ b = ci + 1) (hy : y'.cls ≠ "java/lang/invoke/MethodHandle" ∧ y'.cls ≠ "java/lang/invoke/VarHandle" ∧ (parseMethodDescriptor y'.desc).map (fun d => d.parameters.length) = some As.length) (hdm : d' + 1 ≤ d) (hnl : nL' ≤ 45) (hs : st0 = As.reverse ++ vR b :: st) (hcat : (st.map gcat).sum ≤ 8) (kk : ∀ p, Rl' σ (p.2) → GG F Rl ω l d μ σ0 (pc + 3) lv (vR p.1 :: st) (p.2) (tc p)) : GG F Rl ω l d μ σ0 pc lv st0 σ (f.bind tc) := by
  intro ok a0 h
  obtain ⟨p, hb, hq⟩ := Option.bind_eq_some_iff.mp h
  obtain ⟨⟨k1, k0⟩, k2⟩ := hM ok p hb
  have m1 := hRl'.2.2 _ _ k1
  have k3 := kk p k1 (m1.2.2 ok) a0 hq
  have m2 := hRl.2.2 _ _ k3.1.1
  refine ⟨⟨hRl.2.1 _ _ _ (hw _ k1) k3.1.1, k3.1.2⟩, fun kc ks h1 h2 => ?_⟩
  dsimp only at m1 m2 k3 k2
  refine g_callV k2.no q1 q2 q3 q4 q5 hd hc ht hy hdm hnl ⟨by omega, by omega⟩ hs hcat (fun v' σ' hp hE => ?_)
  obtain ⟨e1, e2⟩ := hp
  injection e1 with e1
  subst e1; subst e2
  exact k3.2 _ _ (by omega) (by omega)
theorem x_callV_mv {f : Option (gMem)} {tc : gMem → Option α} (hM : gK (fun p => (.inl none, p)) Rl' ω l d' (y', cc', nL', ret', []) (vR b :: As) σ f) (hRl : gRel Rl) (hRl' : gRel Rl') (hw : ∀ s, Rl' σ s → Rl σ s) (q1 : Cond.methodLink μ.1.cls idx y' ∈ lw_all) (q2 : Cond.instanceMethod y' ∈ lw_all) (q3 : Cond.selects y'.cls y' y' ∈ lw_all) (q4 : Cond.initialized y'.cls ∈ lw_all) (q5 : Cond.code y' cc' nL' ret' ∈ lw_all) (hd : decode μ.2.1 pc = .ok (.invokevirtual idx, 3)) (hc : gcl[ci]? = some (y'.cls, T, N)) (ht : mT σ b = ci + 1) (hy : y'.cls ≠ "java/lang/invoke/MethodHandle" ∧ y'.cls ≠ "java/lang/invoke/VarHandle" ∧ (parseMethodDescriptor y'.desc).map (fun d => d.parameters.length) = some As.length) (hdm : d' + 1 ≤ d) (hnl : nL' ≤ 45) (hs : st0 = As.reverse ++ vR b :: st) (hcat : (st.map gcat).sum ≤ 8) (kk : ∀ p, Rl' σ (p) → GG F Rl ω l d μ σ0 (pc + 3) lv st (p) (tc p)) : GG F Rl ω l d μ σ0 pc lv st0 σ (f.bind tc) := by
  intro ok a0 h
  obtain ⟨p, hb, hq⟩ := Option.bind_eq_some_iff.mp h
  obtain ⟨⟨k1, k0⟩, k2⟩ := hM ok p hb
  have m1 := hRl'.2.2 _ _ k1
  have k3 := kk p k1 (m1.2.2 ok) a0 hq
  have m2 := hRl.2.2 _ _ k3.1.1
  refine ⟨⟨hRl.2.1 _ _ _ (hw _ k1) k3.1.1, k3.1.2⟩, fun kc ks h1 h2 => ?_⟩
  dsimp only at m1 m2 k3 k2
  refine g_callV k2.no q1 q2 q3 q4 q5 hd hc ht hy hdm hnl ⟨by omega, by omega⟩ hs hcat (fun v' σ' hp hE => ?_)
  obtain ⟨e1, e2⟩ := hp
  injection e1 with e1
  subst e1; subst e2
  exact k3.2 _ _ (by omega) (by omega)
theorem x_callVN_pi {f : Option (Int)} {tc : Int → Option α} (hM : gK (fun x => (.inl (some (vI x)), σ)) Rl' ω l d' (y', cc', nL', ret', []) (vR b :: As) σ f) (hRl : gRel Rl) (hRl' : gRel Rl') (hw : ∀ s, Rl' σ s → Rl σ s) {host : String} (q1 : Cond.methodLinkNest μ.1.cls idx y' host ∈ lw_tbl) (q2 : Cond.instanceMethod y' ∈ lw_all) (q3 : Cond.selects y'.cls y' y' ∈ lw_all) (q4 : Cond.initialized y'.cls ∈ lw_all) (q5 : Cond.code y' cc' nL' ret' ∈ lw_all) (hd : decode μ.2.1 pc = .ok (.invokevirtual idx, 3)) (hc : gcl[ci]? = some (y'.cls, T, N)) (ht : mT σ b = ci + 1) (hy : y'.cls ≠ "java/lang/invoke/MethodHandle" ∧ y'.cls ≠ "java/lang/invoke/VarHandle" ∧ (parseMethodDescriptor y'.desc).map (fun d => d.parameters.length) = some As.length) (hdm : d' + 1 ≤ d) (hnl : nL' ≤ 45) (hs : st0 = As.reverse ++ vR b :: st) (hcat : (st.map gcat).sum ≤ 8) (kk : ∀ x, g32 x → GG F Rl ω l d μ σ0 (pc + 3) lv (vI x :: st) (σ) (tc x)) : GG F Rl ω l d μ σ0 pc lv st0 σ (f.bind tc) := by
  intro ok a0 h
  obtain ⟨x, hb, hq⟩ := Option.bind_eq_some_iff.mp h
  obtain ⟨⟨k1, k0⟩, k2⟩ := hM ok x hb
  have m1 := hRl'.2.2 _ _ k1
  have k3 := kk x k0 (m1.2.2 ok) a0 hq
  have m2 := hRl.2.2 _ _ k3.1.1
  refine ⟨⟨hRl.2.1 _ _ _ (hw _ k1) k3.1.1, k3.1.2⟩, fun kc ks h1 h2 => ?_⟩
  dsimp only at m1 m2 k3 k2
  refine g_callVN k2.no q1 q2 q3 q4 q5 hd hc ht hy hdm hnl ⟨by omega, by omega⟩ hs hcat (fun v' σ' hp hE => ?_)
  obtain ⟨e1, e2⟩ := hp
  injection e1 with e1
  subst e1; subst e2
  exact k3.2 _ _ (by omega) (by omega)
theorem x_callVN_pl {f : Option (Int)} {tc : Int → Option α} (hM : gK (fun x => (.inl (some (vL x)), σ)) Rl' ω l d' (y', cc', nL', ret', []) (vR b :: As) σ f) (hRl : gRel Rl) (hRl' : gRel Rl') (hw : ∀ s, Rl' σ s → Rl σ s) {host : String} (q1 : Cond.methodLinkNest μ.1.cls idx y' host ∈ lw_tbl) (q2 : Cond.instanceMethod y' ∈ lw_all) (q3 : Cond.selects y'.cls y' y' ∈ lw_all) (q4 : Cond.initialized y'.cls ∈ lw_all) (q5 : Cond.code y' cc' nL' ret' ∈ lw_all) (hd : decode μ.2.1 pc = .ok (.invokevirtual idx, 3)) (hc : gcl[ci]? = some (y'.cls, T, N)) (ht : mT σ b = ci + 1) (hy : y'.cls ≠ "java/lang/invoke/MethodHandle" ∧ y'.cls ≠ "java/lang/invoke/VarHandle" ∧ (parseMethodDescriptor y'.desc).map (fun d => d.parameters.length) = some As.length) (hdm : d' + 1 ≤ d) (hnl : nL' ≤ 45) (hs : st0 = As.reverse ++ vR b :: st) (hcat : (st.map gcat).sum ≤ 8) (kk : ∀ x, g64 x → GG F Rl ω l d μ σ0 (pc + 3) lv (vL x :: st) (σ) (tc x)) : GG F Rl ω l d μ σ0 pc lv st0 σ (f.bind tc) := by
  intro ok a0 h
  obtain ⟨x, hb, hq⟩ := Option.bind_eq_some_iff.mp h
  obtain ⟨⟨k1, k0⟩, k2⟩ := hM ok x hb
  have m1 := hRl'.2.2 _ _ k1
  have k3 := kk x k0 (m1.2.2 ok) a0 hq
  have m2 := hRl.2.2 _ _ k3.1.1
  refine ⟨⟨hRl.2.1 _ _ _ (hw _ k1) k3.1.1, k3.1.2⟩, fun kc ks h1 h2 => ?_⟩
  dsimp only at m1 m2 k3 k2
  refine g_callVN k2.no q1 q2 q3 q4 q5 hd hc ht hy hdm hnl ⟨by omega, by omega⟩ hs hcat (fun v' σ' hp hE => ?_)
  obtain ⟨e1, e2⟩ := hp
  injection e1 with e1
  subst e1; subst e2
  exact k3.2 _ _ (by omega) (by omega)
theorem x_callVN_pr {f : Option (Nat)} {tc : Nat → Option α} (hM : gK (fun x => (.inl (some (vR x)), σ)) Rl' ω l d' (y', cc', nL', ret', []) (vR b :: As) σ f) (hRl : gRel Rl) (hRl' : gRel Rl') (hw : ∀ s, Rl' σ s → Rl σ s) {host : String} (q1 : Cond.methodLinkNest μ.1.cls idx y' host ∈ lw_tbl) (q2 : Cond.instanceMethod y' ∈ lw_all) (q3 : Cond.selects y'.cls y' y' ∈ lw_all) (q4 : Cond.initialized y'.cls ∈ lw_all) (q5 : Cond.code y' cc' nL' ret' ∈ lw_all) (hd : decode μ.2.1 pc = .ok (.invokevirtual idx, 3)) (hc : gcl[ci]? = some (y'.cls, T, N)) (ht : mT σ b = ci + 1) (hy : y'.cls ≠ "java/lang/invoke/MethodHandle" ∧ y'.cls ≠ "java/lang/invoke/VarHandle" ∧ (parseMethodDescriptor y'.desc).map (fun d => d.parameters.length) = some As.length) (hdm : d' + 1 ≤ d) (hnl : nL' ≤ 45) (hs : st0 = As.reverse ++ vR b :: st) (hcat : (st.map gcat).sum ≤ 8) (kk : ∀ x, GG F Rl ω l d μ σ0 (pc + 3) lv (vR x :: st) (σ) (tc x)) : GG F Rl ω l d μ σ0 pc lv st0 σ (f.bind tc) := by
  intro ok a0 h
  obtain ⟨x, hb, hq⟩ := Option.bind_eq_some_iff.mp h
  obtain ⟨⟨k1, k0⟩, k2⟩ := hM ok x hb
  have m1 := hRl'.2.2 _ _ k1
  have k3 := kk x (m1.2.2 ok) a0 hq
  have m2 := hRl.2.2 _ _ k3.1.1
  refine ⟨⟨hRl.2.1 _ _ _ (hw _ k1) k3.1.1, k3.1.2⟩, fun kc ks h1 h2 => ?_⟩
  dsimp only at m1 m2 k3 k2
  refine g_callVN k2.no q1 q2 q3 q4 q5 hd hc ht hy hdm hnl ⟨by omega, by omega⟩ hs hcat (fun v' σ' hp hE => ?_)
  obtain ⟨e1, e2⟩ := hp
  injection e1 with e1
  subst e1; subst e2
  exact k3.2 _ _ (by omega) (by omega)
theorem x_callVN_mi {f : Option (Int × gMem)} {tc : Int × gMem → Option α} (hM : gK (fun p => (.inl (some (vI p.1)), p.2)) Rl' ω l d' (y', cc', nL', ret', []) (vR b :: As) σ f) (hRl : gRel Rl) (hRl' : gRel Rl') (hw : ∀ s, Rl' σ s → Rl σ s) {host : String} (q1 : Cond.methodLinkNest μ.1.cls idx y' host ∈ lw_tbl) (q2 : Cond.instanceMethod y' ∈ lw_all) (q3 : Cond.selects y'.cls y' y' ∈ lw_all) (q4 : Cond.initialized y'.cls ∈ lw_all) (q5 : Cond.code y' cc' nL' ret' ∈ lw_all) (hd : decode μ.2.1 pc = .ok (.invokevirtual idx, 3)) (hc : gcl[ci]? = some (y'.cls, T, N)) (ht : mT σ b = ci + 1) (hy : y'.cls ≠ "java/lang/invoke/MethodHandle" ∧ y'.cls ≠ "java/lang/invoke/VarHandle" ∧ (parseMethodDescriptor y'.desc).map (fun d => d.parameters.length) = some As.length) (hdm : d' + 1 ≤ d) (hnl : nL' ≤ 45) (hs : st0 = As.reverse ++ vR b :: st) (hcat : (st.map gcat).sum ≤ 8) (kk : ∀ p, Rl' σ (p.2) → g32 p.1 → GG F Rl ω l d μ σ0 (pc + 3) lv (vI p.1 :: st) (p.2) (tc p)) : GG F Rl ω l d μ σ0 pc lv st0 σ (f.bind tc) := by
  intro ok a0 h
  obtain ⟨p, hb, hq⟩ := Option.bind_eq_some_iff.mp h
  obtain ⟨⟨k1, k0⟩, k2⟩ := hM ok p hb
  have m1 := hRl'.2.2 _ _ k1
  have k3 := kk p k1 k0 (m1.2.2 ok) a0 hq
  have m2 := hRl.2.2 _ _ k3.1.1
  refine ⟨⟨hRl.2.1 _ _ _ (hw _ k1) k3.1.1, k3.1.2⟩, fun kc ks h1 h2 => ?_⟩
  dsimp only at m1 m2 k3 k2
  refine g_callVN k2.no q1 q2 q3 q4 q5 hd hc ht hy hdm hnl ⟨by omega, by omega⟩ hs hcat (fun v' σ' hp hE => ?_)
  obtain ⟨e1, e2⟩ := hp
  injection e1 with e1
  subst e1; subst e2
  exact k3.2 _ _ (by omega) (by omega)
theorem x_callVN_ml {f : Option (Int × gMem)} {tc : Int × gMem → Option α} (hM : gK (fun p => (.inl (some (vL p.1)), p.2)) Rl' ω l d' (y', cc', nL', ret', []) (vR b :: As) σ f) (hRl : gRel Rl) (hRl' : gRel Rl') (hw : ∀ s, Rl' σ s → Rl σ s) {host : String} (q1 : Cond.methodLinkNest μ.1.cls idx y' host ∈ lw_tbl) (q2 : Cond.instanceMethod y' ∈ lw_all) (q3 : Cond.selects y'.cls y' y' ∈ lw_all) (q4 : Cond.initialized y'.cls ∈ lw_all) (q5 : Cond.code y' cc' nL' ret' ∈ lw_all) (hd : decode μ.2.1 pc = .ok (.invokevirtual idx, 3)) (hc : gcl[ci]? = some (y'.cls, T, N)) (ht : mT σ b = ci + 1) (hy : y'.cls ≠ "java/lang/invoke/MethodHandle" ∧ y'.cls ≠ "java/lang/invoke/VarHandle" ∧ (parseMethodDescriptor y'.desc).map (fun d => d.parameters.length) = some As.length) (hdm : d' + 1 ≤ d) (hnl : nL' ≤ 45) (hs : st0 = As.reverse ++ vR b :: st) (hcat : (st.map gcat).sum ≤ 8) (kk : ∀ p, Rl' σ (p.2) → g64 p.1 → GG F Rl ω l d μ σ0 (pc + 3) lv (vL p.1 :: st) (p.2) (tc p)) : GG F Rl ω l d μ σ0 pc lv st0 σ (f.bind tc) := by
  intro ok a0 h
  obtain ⟨p, hb, hq⟩ := Option.bind_eq_some_iff.mp h
  obtain ⟨⟨k1, k0⟩, k2⟩ := hM ok p hb
  have m1 := hRl'.2.2 _ _ k1
  have k3 := kk p k1 k0 (m1.2.2 ok) a0 hq
  have m2 := hRl.2.2 _ _ k3.1.1
  refine ⟨⟨hRl.2.1 _ _ _ (hw _ k1) k3.1.1, k3.1.2⟩, fun kc ks h1 h2 => ?_⟩
  dsimp only at m1 m2 k3 k2
  refine g_callVN k2.no q1 q2 q3 q4 q5 hd hc ht hy hdm hnl ⟨by omega, by omega⟩ hs hcat (fun v' σ' hp hE => ?_)
  obtain ⟨e1, e2⟩ := hp
  injection e1 with e1
  subst e1; subst e2
  exact k3.2 _ _ (by omega) (by omega)
theorem x_callVN_mr {f : Option (Nat × gMem)} {tc : Nat × gMem → Option α} (hM : gK (fun p => (.inl (some (vR p.1)), p.2)) Rl' ω l d' (y', cc', nL', ret', []) (vR b :: As) σ f) (hRl : gRel Rl) (hRl' : gRel Rl') (hw : ∀ s, Rl' σ s → Rl σ s) {host : String} (q1 : Cond.methodLinkNest μ.1.cls idx y' host ∈ lw_tbl) (q2 : Cond.instanceMethod y' ∈ lw_all) (q3 : Cond.selects y'.cls y' y' ∈ lw_all) (q4 : Cond.initialized y'.cls ∈ lw_all) (q5 : Cond.code y' cc' nL' ret' ∈ lw_all) (hd : decode μ.2.1 pc = .ok (.invokevirtual idx, 3)) (hc : gcl[ci]? = some (y'.cls, T, N)) (ht : mT σ b = ci + 1) (hy : y'.cls ≠ "java/lang/invoke/MethodHandle" ∧ y'.cls ≠ "java/lang/invoke/VarHandle" ∧ (parseMethodDescriptor y'.desc).map (fun d => d.parameters.length) = some As.length) (hdm : d' + 1 ≤ d) (hnl : nL' ≤ 45) (hs : st0 = As.reverse ++ vR b :: st) (hcat : (st.map gcat).sum ≤ 8) (kk : ∀ p, Rl' σ (p.2) → GG F Rl ω l d μ σ0 (pc + 3) lv (vR p.1 :: st) (p.2) (tc p)) : GG F Rl ω l d μ σ0 pc lv st0 σ (f.bind tc) := by
  intro ok a0 h
  obtain ⟨p, hb, hq⟩ := Option.bind_eq_some_iff.mp h
  obtain ⟨⟨k1, k0⟩, k2⟩ := hM ok p hb
  have m1 := hRl'.2.2 _ _ k1
  have k3 := kk p k1 (m1.2.2 ok) a0 hq
  have m2 := hRl.2.2 _ _ k3.1.1
  refine ⟨⟨hRl.2.1 _ _ _ (hw _ k1) k3.1.1, k3.1.2⟩, fun kc ks h1 h2 => ?_⟩
  dsimp only at m1 m2 k3 k2
  refine g_callVN k2.no q1 q2 q3 q4 q5 hd hc ht hy hdm hnl ⟨by omega, by omega⟩ hs hcat (fun v' σ' hp hE => ?_)
  obtain ⟨e1, e2⟩ := hp
  injection e1 with e1
  subst e1; subst e2
  exact k3.2 _ _ (by omega) (by omega)
theorem x_callVN_mv {f : Option (gMem)} {tc : gMem → Option α} (hM : gK (fun p => (.inl none, p)) Rl' ω l d' (y', cc', nL', ret', []) (vR b :: As) σ f) (hRl : gRel Rl) (hRl' : gRel Rl') (hw : ∀ s, Rl' σ s → Rl σ s) {host : String} (q1 : Cond.methodLinkNest μ.1.cls idx y' host ∈ lw_tbl) (q2 : Cond.instanceMethod y' ∈ lw_all) (q3 : Cond.selects y'.cls y' y' ∈ lw_all) (q4 : Cond.initialized y'.cls ∈ lw_all) (q5 : Cond.code y' cc' nL' ret' ∈ lw_all) (hd : decode μ.2.1 pc = .ok (.invokevirtual idx, 3)) (hc : gcl[ci]? = some (y'.cls, T, N)) (ht : mT σ b = ci + 1) (hy : y'.cls ≠ "java/lang/invoke/MethodHandle" ∧ y'.cls ≠ "java/lang/invoke/VarHandle" ∧ (parseMethodDescriptor y'.desc).map (fun d => d.parameters.length) = some As.length) (hdm : d' + 1 ≤ d) (hnl : nL' ≤ 45) (hs : st0 = As.reverse ++ vR b :: st) (hcat : (st.map gcat).sum ≤ 8) (kk : ∀ p, Rl' σ (p) → GG F Rl ω l d μ σ0 (pc + 3) lv st (p) (tc p)) : GG F Rl ω l d μ σ0 pc lv st0 σ (f.bind tc) := by
  intro ok a0 h
  obtain ⟨p, hb, hq⟩ := Option.bind_eq_some_iff.mp h
  obtain ⟨⟨k1, k0⟩, k2⟩ := hM ok p hb
  have m1 := hRl'.2.2 _ _ k1
  have k3 := kk p k1 (m1.2.2 ok) a0 hq
  have m2 := hRl.2.2 _ _ k3.1.1
  refine ⟨⟨hRl.2.1 _ _ _ (hw _ k1) k3.1.1, k3.1.2⟩, fun kc ks h1 h2 => ?_⟩
  dsimp only at m1 m2 k3 k2
  refine g_callVN k2.no q1 q2 q3 q4 q5 hd hc ht hy hdm hnl ⟨by omega, by omega⟩ hs hcat (fun v' σ' hp hE => ?_)
  obtain ⟨e1, e2⟩ := hp
  injection e1 with e1
  subst e1; subst e2
  exact k3.2 _ _ (by omega) (by omega)
theorem x_callS_pi {f : Option (Int)} {tc : Int → Option α} (hM : gK (fun x => (.inl (some (vI x)), σ)) Rl' ω l d' (y', cc', nL', ret', []) As σ f) (hRl : gRel Rl) (hRl' : gRel Rl') (hw : ∀ s, Rl' σ s → Rl σ s) (q1 : Cond.methodLink μ.1.cls idx y' ∈ lw_all) (q2 : Cond.static y' ∈ lw_all) (q4 : Cond.initialized y'.cls ∈ lw_all) (q5 : Cond.code y' cc' nL' ret' ∈ lw_all) (hd : decode μ.2.1 pc = .ok (.invokestatic idx, 3)) (hy : y'.cls ≠ "java/lang/invoke/MethodHandle" ∧ y'.cls ≠ "java/lang/invoke/VarHandle" ∧ (parseMethodDescriptor y'.desc).map (fun d => d.parameters.length) = some As.length) (hdm : d' + 1 ≤ d) (hnl : nL' ≤ 45) (hs : st0 = As.reverse ++ st) (hcat : (st.map gcat).sum ≤ 8) (kk : ∀ x, g32 x → GG F Rl ω l d μ σ0 (pc + 3) lv (vI x :: st) (σ) (tc x)) : GG F Rl ω l d μ σ0 pc lv st0 σ (f.bind tc) := by
  intro ok a0 h
  obtain ⟨x, hb, hq⟩ := Option.bind_eq_some_iff.mp h
  obtain ⟨⟨k1, k0⟩, k2⟩ := hM ok x hb
  have m1 := hRl'.2.2 _ _ k1
  have k3 := kk x k0 (m1.2.2 ok) a0 hq
  have m2 := hRl.2.2 _ _ k3.1.1
  refine ⟨⟨hRl.2.1 _ _ _ (hw _ k1) k3.1.1, k3.1.2⟩, fun kc ks h1 h2 => ?_⟩
  dsimp only at m1 m2 k3 k2
  refine g_callS k2.no q1 q2 q4 q5 hd hy hdm hnl ⟨by omega, by omega⟩ hs hcat (fun v' σ' hp hE => ?_)
  obtain ⟨e1, e2⟩ := hp
  injection e1 with e1
  subst e1; subst e2
  exact k3.2 _ _ (by omega) (by omega)
theorem x_callS_pl {f : Option (Int)} {tc : Int → Option α} (hM : gK (fun x => (.inl (some (vL x)), σ)) Rl' ω l d' (y', cc', nL', ret', []) As σ f) (hRl : gRel Rl) (hRl' : gRel Rl') (hw : ∀ s, Rl' σ s → Rl σ s) (q1 : Cond.methodLink μ.1.cls idx y' ∈ lw_all) (q2 : Cond.static y' ∈ lw_all) (q4 : Cond.initialized y'.cls ∈ lw_all) (q5 : Cond.code y' cc' nL' ret' ∈ lw_all) (hd : decode μ.2.1 pc = .ok (.invokestatic idx, 3)) (hy : y'.cls ≠ "java/lang/invoke/MethodHandle" ∧ y'.cls ≠ "java/lang/invoke/VarHandle" ∧ (parseMethodDescriptor y'.desc).map (fun d => d.parameters.length) = some As.length) (hdm : d' + 1 ≤ d) (hnl : nL' ≤ 45) (hs : st0 = As.reverse ++ st) (hcat : (st.map gcat).sum ≤ 8) (kk : ∀ x, g64 x → GG F Rl ω l d μ σ0 (pc + 3) lv (vL x :: st) (σ) (tc x)) : GG F Rl ω l d μ σ0 pc lv st0 σ (f.bind tc) := by
  intro ok a0 h
  obtain ⟨x, hb, hq⟩ := Option.bind_eq_some_iff.mp h
  obtain ⟨⟨k1, k0⟩, k2⟩ := hM ok x hb
  have m1 := hRl'.2.2 _ _ k1
  have k3 := kk x k0 (m1.2.2 ok) a0 hq
  have m2 := hRl.2.2 _ _ k3.1.1
  refine ⟨⟨hRl.2.1 _ _ _ (hw _ k1) k3.1.1, k3.1.2⟩, fun kc ks h1 h2 => ?_⟩
  dsimp only at m1 m2 k3 k2
  refine g_callS k2.no q1 q2 q4 q5 hd hy hdm hnl ⟨by omega, by omega⟩ hs hcat (fun v' σ' hp hE => ?_)
  obtain ⟨e1, e2⟩ := hp
  injection e1 with e1
  subst e1; subst e2
  exact k3.2 _ _ (by omega) (by omega)
theorem x_callS_pr {f : Option (Nat)} {tc : Nat → Option α} (hM : gK (fun x => (.inl (some (vR x)), σ)) Rl' ω l d' (y', cc', nL', ret', []) As σ f) (hRl : gRel Rl) (hRl' : gRel Rl') (hw : ∀ s, Rl' σ s → Rl σ s) (q1 : Cond.methodLink μ.1.cls idx y' ∈ lw_all) (q2 : Cond.static y' ∈ lw_all) (q4 : Cond.initialized y'.cls ∈ lw_all) (q5 : Cond.code y' cc' nL' ret' ∈ lw_all) (hd : decode μ.2.1 pc = .ok (.invokestatic idx, 3)) (hy : y'.cls ≠ "java/lang/invoke/MethodHandle" ∧ y'.cls ≠ "java/lang/invoke/VarHandle" ∧ (parseMethodDescriptor y'.desc).map (fun d => d.parameters.length) = some As.length) (hdm : d' + 1 ≤ d) (hnl : nL' ≤ 45) (hs : st0 = As.reverse ++ st) (hcat : (st.map gcat).sum ≤ 8) (kk : ∀ x, GG F Rl ω l d μ σ0 (pc + 3) lv (vR x :: st) (σ) (tc x)) : GG F Rl ω l d μ σ0 pc lv st0 σ (f.bind tc) := by
  intro ok a0 h
  obtain ⟨x, hb, hq⟩ := Option.bind_eq_some_iff.mp h
  obtain ⟨⟨k1, k0⟩, k2⟩ := hM ok x hb
  have m1 := hRl'.2.2 _ _ k1
  have k3 := kk x (m1.2.2 ok) a0 hq
  have m2 := hRl.2.2 _ _ k3.1.1
  refine ⟨⟨hRl.2.1 _ _ _ (hw _ k1) k3.1.1, k3.1.2⟩, fun kc ks h1 h2 => ?_⟩
  dsimp only at m1 m2 k3 k2
  refine g_callS k2.no q1 q2 q4 q5 hd hy hdm hnl ⟨by omega, by omega⟩ hs hcat (fun v' σ' hp hE => ?_)
  obtain ⟨e1, e2⟩ := hp
  injection e1 with e1
  subst e1; subst e2
  exact k3.2 _ _ (by omega) (by omega)
theorem x_callS_mi {f : Option (Int × gMem)} {tc : Int × gMem → Option α} (hM : gK (fun p => (.inl (some (vI p.1)), p.2)) Rl' ω l d' (y', cc', nL', ret', []) As σ f) (hRl : gRel Rl) (hRl' : gRel Rl') (hw : ∀ s, Rl' σ s → Rl σ s) (q1 : Cond.methodLink μ.1.cls idx y' ∈ lw_all) (q2 : Cond.static y' ∈ lw_all) (q4 : Cond.initialized y'.cls ∈ lw_all) (q5 : Cond.code y' cc' nL' ret' ∈ lw_all) (hd : decode μ.2.1 pc = .ok (.invokestatic idx, 3)) (hy : y'.cls ≠ "java/lang/invoke/MethodHandle" ∧ y'.cls ≠ "java/lang/invoke/VarHandle" ∧ (parseMethodDescriptor y'.desc).map (fun d => d.parameters.length) = some As.length) (hdm : d' + 1 ≤ d) (hnl : nL' ≤ 45) (hs : st0 = As.reverse ++ st) (hcat : (st.map gcat).sum ≤ 8) (kk : ∀ p, Rl' σ (p.2) → g32 p.1 → GG F Rl ω l d μ σ0 (pc + 3) lv (vI p.1 :: st) (p.2) (tc p)) : GG F Rl ω l d μ σ0 pc lv st0 σ (f.bind tc) := by
  intro ok a0 h
  obtain ⟨p, hb, hq⟩ := Option.bind_eq_some_iff.mp h
  obtain ⟨⟨k1, k0⟩, k2⟩ := hM ok p hb
  have m1 := hRl'.2.2 _ _ k1
  have k3 := kk p k1 k0 (m1.2.2 ok) a0 hq
  have m2 := hRl.2.2 _ _ k3.1.1
  refine ⟨⟨hRl.2.1 _ _ _ (hw _ k1) k3.1.1, k3.1.2⟩, fun kc ks h1 h2 => ?_⟩
  dsimp only at m1 m2 k3 k2
  refine g_callS k2.no q1 q2 q4 q5 hd hy hdm hnl ⟨by omega, by omega⟩ hs hcat (fun v' σ' hp hE => ?_)
  obtain ⟨e1, e2⟩ := hp
  injection e1 with e1
  subst e1; subst e2
  exact k3.2 _ _ (by omega) (by omega)
theorem x_callS_ml {f : Option (Int × gMem)} {tc : Int × gMem → Option α} (hM : gK (fun p => (.inl (some (vL p.1)), p.2)) Rl' ω l d' (y', cc', nL', ret', []) As σ f) (hRl : gRel Rl) (hRl' : gRel Rl') (hw : ∀ s, Rl' σ s → Rl σ s) (q1 : Cond.methodLink μ.1.cls idx y' ∈ lw_all) (q2 : Cond.static y' ∈ lw_all) (q4 : Cond.initialized y'.cls ∈ lw_all) (q5 : Cond.code y' cc' nL' ret' ∈ lw_all) (hd : decode μ.2.1 pc = .ok (.invokestatic idx, 3)) (hy : y'.cls ≠ "java/lang/invoke/MethodHandle" ∧ y'.cls ≠ "java/lang/invoke/VarHandle" ∧ (parseMethodDescriptor y'.desc).map (fun d => d.parameters.length) = some As.length) (hdm : d' + 1 ≤ d) (hnl : nL' ≤ 45) (hs : st0 = As.reverse ++ st) (hcat : (st.map gcat).sum ≤ 8) (kk : ∀ p, Rl' σ (p.2) → g64 p.1 → GG F Rl ω l d μ σ0 (pc + 3) lv (vL p.1 :: st) (p.2) (tc p)) : GG F Rl ω l d μ σ0 pc lv st0 σ (f.bind tc) := by
  intro ok a0 h
  obtain ⟨p, hb, hq⟩ := Option.bind_eq_some_iff.mp h
  obtain ⟨⟨k1, k0⟩, k2⟩ := hM ok p hb
  have m1 := hRl'.2.2 _ _ k1
  have k3 := kk p k1 k0 (m1.2.2 ok) a0 hq
  have m2 := hRl.2.2 _ _ k3.1.1
  refine ⟨⟨hRl.2.1 _ _ _ (hw _ k1) k3.1.1, k3.1.2⟩, fun kc ks h1 h2 => ?_⟩
  dsimp only at m1 m2 k3 k2
  refine g_callS k2.no q1 q2 q4 q5 hd hy hdm hnl ⟨by omega, by omega⟩ hs hcat (fun v' σ' hp hE => ?_)
  obtain ⟨e1, e2⟩ := hp
  injection e1 with e1
  subst e1; subst e2
  exact k3.2 _ _ (by omega) (by omega)
theorem x_callS_mr {f : Option (Nat × gMem)} {tc : Nat × gMem → Option α} (hM : gK (fun p => (.inl (some (vR p.1)), p.2)) Rl' ω l d' (y', cc', nL', ret', []) As σ f) (hRl : gRel Rl) (hRl' : gRel Rl') (hw : ∀ s, Rl' σ s → Rl σ s) (q1 : Cond.methodLink μ.1.cls idx y' ∈ lw_all) (q2 : Cond.static y' ∈ lw_all) (q4 : Cond.initialized y'.cls ∈ lw_all) (q5 : Cond.code y' cc' nL' ret' ∈ lw_all) (hd : decode μ.2.1 pc = .ok (.invokestatic idx, 3)) (hy : y'.cls ≠ "java/lang/invoke/MethodHandle" ∧ y'.cls ≠ "java/lang/invoke/VarHandle" ∧ (parseMethodDescriptor y'.desc).map (fun d => d.parameters.length) = some As.length) (hdm : d' + 1 ≤ d) (hnl : nL' ≤ 45) (hs : st0 = As.reverse ++ st) (hcat : (st.map gcat).sum ≤ 8) (kk : ∀ p, Rl' σ (p.2) → GG F Rl ω l d μ σ0 (pc + 3) lv (vR p.1 :: st) (p.2) (tc p)) : GG F Rl ω l d μ σ0 pc lv st0 σ (f.bind tc) := by
  intro ok a0 h
  obtain ⟨p, hb, hq⟩ := Option.bind_eq_some_iff.mp h
  obtain ⟨⟨k1, k0⟩, k2⟩ := hM ok p hb
  have m1 := hRl'.2.2 _ _ k1
  have k3 := kk p k1 (m1.2.2 ok) a0 hq
  have m2 := hRl.2.2 _ _ k3.1.1
  refine ⟨⟨hRl.2.1 _ _ _ (hw _ k1) k3.1.1, k3.1.2⟩, fun kc ks h1 h2 => ?_⟩
  dsimp only at m1 m2 k3 k2
  refine g_callS k2.no q1 q2 q4 q5 hd hy hdm hnl ⟨by omega, by omega⟩ hs hcat (fun v' σ' hp hE => ?_)
  obtain ⟨e1, e2⟩ := hp
  injection e1 with e1
  subst e1; subst e2
  exact k3.2 _ _ (by omega) (by omega)
theorem x_callS_mv {f : Option (gMem)} {tc : gMem → Option α} (hM : gK (fun p => (.inl none, p)) Rl' ω l d' (y', cc', nL', ret', []) As σ f) (hRl : gRel Rl) (hRl' : gRel Rl') (hw : ∀ s, Rl' σ s → Rl σ s) (q1 : Cond.methodLink μ.1.cls idx y' ∈ lw_all) (q2 : Cond.static y' ∈ lw_all) (q4 : Cond.initialized y'.cls ∈ lw_all) (q5 : Cond.code y' cc' nL' ret' ∈ lw_all) (hd : decode μ.2.1 pc = .ok (.invokestatic idx, 3)) (hy : y'.cls ≠ "java/lang/invoke/MethodHandle" ∧ y'.cls ≠ "java/lang/invoke/VarHandle" ∧ (parseMethodDescriptor y'.desc).map (fun d => d.parameters.length) = some As.length) (hdm : d' + 1 ≤ d) (hnl : nL' ≤ 45) (hs : st0 = As.reverse ++ st) (hcat : (st.map gcat).sum ≤ 8) (kk : ∀ p, Rl' σ (p) → GG F Rl ω l d μ σ0 (pc + 3) lv st (p) (tc p)) : GG F Rl ω l d μ σ0 pc lv st0 σ (f.bind tc) := by
  intro ok a0 h
  obtain ⟨p, hb, hq⟩ := Option.bind_eq_some_iff.mp h
  obtain ⟨⟨k1, k0⟩, k2⟩ := hM ok p hb
  have m1 := hRl'.2.2 _ _ k1
  have k3 := kk p k1 (m1.2.2 ok) a0 hq
  have m2 := hRl.2.2 _ _ k3.1.1
  refine ⟨⟨hRl.2.1 _ _ _ (hw _ k1) k3.1.1, k3.1.2⟩, fun kc ks h1 h2 => ?_⟩
  dsimp only at m1 m2 k3 k2
  refine g_callS k2.no q1 q2 q4 q5 hd hy hdm hnl ⟨by omega, by omega⟩ hs hcat (fun v' σ' hp hE => ?_)
  obtain ⟨e1, e2⟩ := hp
  injection e1 with e1
  subst e1; subst e2
  exact k3.2 _ _ (by omega) (by omega)
theorem x_callSN_pi {f : Option (Int)} {tc : Int → Option α} (hM : gK (fun x => (.inl (some (vI x)), σ)) Rl' ω l d' (y', cc', nL', ret', []) As σ f) (hRl : gRel Rl) (hRl' : gRel Rl') (hw : ∀ s, Rl' σ s → Rl σ s) {host : String} (q1 : Cond.methodLinkNest μ.1.cls idx y' host ∈ lw_tbl) (q2 : Cond.static y' ∈ lw_all) (q4 : Cond.initialized y'.cls ∈ lw_all) (q5 : Cond.code y' cc' nL' ret' ∈ lw_all) (hd : decode μ.2.1 pc = .ok (.invokestatic idx, 3)) (hy : y'.cls ≠ "java/lang/invoke/MethodHandle" ∧ y'.cls ≠ "java/lang/invoke/VarHandle" ∧ (parseMethodDescriptor y'.desc).map (fun d => d.parameters.length) = some As.length) (hdm : d' + 1 ≤ d) (hnl : nL' ≤ 45) (hs : st0 = As.reverse ++ st) (hcat : (st.map gcat).sum ≤ 8) (kk : ∀ x, g32 x → GG F Rl ω l d μ σ0 (pc + 3) lv (vI x :: st) (σ) (tc x)) : GG F Rl ω l d μ σ0 pc lv st0 σ (f.bind tc) := by
  intro ok a0 h
  obtain ⟨x, hb, hq⟩ := Option.bind_eq_some_iff.mp h
  obtain ⟨⟨k1, k0⟩, k2⟩ := hM ok x hb
  have m1 := hRl'.2.2 _ _ k1
  have k3 := kk x k0 (m1.2.2 ok) a0 hq
  have m2 := hRl.2.2 _ _ k3.1.1
  refine ⟨⟨hRl.2.1 _ _ _ (hw _ k1) k3.1.1, k3.1.2⟩, fun kc ks h1 h2 => ?_⟩
  dsimp only at m1 m2 k3 k2
  refine g_callSN k2.no q1 q2 q4 q5 hd hy hdm hnl ⟨by omega, by omega⟩ hs hcat (fun v' σ' hp hE => ?_)
  obtain ⟨e1, e2⟩ := hp
  injection e1 with e1
  subst e1; subst e2
  exact k3.2 _ _ (by omega) (by omega)
theorem x_callSN_pl {f : Option (Int)} {tc : Int → Option α} (hM : gK (fun x => (.inl (some (vL x)), σ)) Rl' ω l d' (y', cc', nL', ret', []) As σ f) (hRl : gRel Rl) (hRl' : gRel Rl') (hw : ∀ s, Rl' σ s → Rl σ s) {host : String} (q1 : Cond.methodLinkNest μ.1.cls idx y' host ∈ lw_tbl) (q2 : Cond.static y' ∈ lw_all) (q4 : Cond.initialized y'.cls ∈ lw_all) (q5 : Cond.code y' cc' nL' ret' ∈ lw_all) (hd : decode μ.2.1 pc = .ok (.invokestatic idx, 3)) (hy : y'.cls ≠ "java/lang/invoke/MethodHandle" ∧ y'.cls ≠ "java/lang/invoke/VarHandle" ∧ (parseMethodDescriptor y'.desc).map (fun d => d.parameters.length) = some As.length) (hdm : d' + 1 ≤ d) (hnl : nL' ≤ 45) (hs : st0 = As.reverse ++ st) (hcat : (st.map gcat).sum ≤ 8) (kk : ∀ x, g64 x → GG F Rl ω l d μ σ0 (pc + 3) lv (vL x :: st) (σ) (tc x)) : GG F Rl ω l d μ σ0 pc lv st0 σ (f.bind tc) := by
  intro ok a0 h
  obtain ⟨x, hb, hq⟩ := Option.bind_eq_some_iff.mp h
  obtain ⟨⟨k1, k0⟩, k2⟩ := hM ok x hb
  have m1 := hRl'.2.2 _ _ k1
  have k3 := kk x k0 (m1.2.2 ok) a0 hq
  have m2 := hRl.2.2 _ _ k3.1.1
  refine ⟨⟨hRl.2.1 _ _ _ (hw _ k1) k3.1.1, k3.1.2⟩, fun kc ks h1 h2 => ?_⟩
  dsimp only at m1 m2 k3 k2
  refine g_callSN k2.no q1 q2 q4 q5 hd hy hdm hnl ⟨by omega, by omega⟩ hs hcat (fun v' σ' hp hE => ?_)
  obtain ⟨e1, e2⟩ := hp
  injection e1 with e1
  subst e1; subst e2
  exact k3.2 _ _ (by omega) (by omega)
theorem x_callSN_pr {f : Option (Nat)} {tc : Nat → Option α} (hM : gK (fun x => (.inl (some (vR x)), σ)) Rl' ω l d' (y', cc', nL', ret', []) As σ f) (hRl : gRel Rl) (hRl' : gRel Rl') (hw : ∀ s, Rl' σ s → Rl σ s) {host : String} (q1 : Cond.methodLinkNest μ.1.cls idx y' host ∈ lw_tbl) (q2 : Cond.static y' ∈ lw_all) (q4 : Cond.initialized y'.cls ∈ lw_all) (q5 : Cond.code y' cc' nL' ret' ∈ lw_all) (hd : decode μ.2.1 pc = .ok (.invokestatic idx, 3)) (hy : y'.cls ≠ "java/lang/invoke/MethodHandle" ∧ y'.cls ≠ "java/lang/invoke/VarHandle" ∧ (parseMethodDescriptor y'.desc).map (fun d => d.parameters.length) = some As.length) (hdm : d' + 1 ≤ d) (hnl : nL' ≤ 45) (hs : st0 = As.reverse ++ st) (hcat : (st.map gcat).sum ≤ 8) (kk : ∀ x, GG F Rl ω l d μ σ0 (pc + 3) lv (vR x :: st) (σ) (tc x)) : GG F Rl ω l d μ σ0 pc lv st0 σ (f.bind tc) := by
  intro ok a0 h
  obtain ⟨x, hb, hq⟩ := Option.bind_eq_some_iff.mp h
  obtain ⟨⟨k1, k0⟩, k2⟩ := hM ok x hb
  have m1 := hRl'.2.2 _ _ k1
  have k3 := kk x (m1.2.2 ok) a0 hq
  have m2 := hRl.2.2 _ _ k3.1.1
  refine ⟨⟨hRl.2.1 _ _ _ (hw _ k1) k3.1.1, k3.1.2⟩, fun kc ks h1 h2 => ?_⟩
  dsimp only at m1 m2 k3 k2
  refine g_callSN k2.no q1 q2 q4 q5 hd hy hdm hnl ⟨by omega, by omega⟩ hs hcat (fun v' σ' hp hE => ?_)
  obtain ⟨e1, e2⟩ := hp
  injection e1 with e1
  subst e1; subst e2
  exact k3.2 _ _ (by omega) (by omega)
theorem x_callSN_mi {f : Option (Int × gMem)} {tc : Int × gMem → Option α} (hM : gK (fun p => (.inl (some (vI p.1)), p.2)) Rl' ω l d' (y', cc', nL', ret', []) As σ f) (hRl : gRel Rl) (hRl' : gRel Rl') (hw : ∀ s, Rl' σ s → Rl σ s) {host : String} (q1 : Cond.methodLinkNest μ.1.cls idx y' host ∈ lw_tbl) (q2 : Cond.static y' ∈ lw_all) (q4 : Cond.initialized y'.cls ∈ lw_all) (q5 : Cond.code y' cc' nL' ret' ∈ lw_all) (hd : decode μ.2.1 pc = .ok (.invokestatic idx, 3)) (hy : y'.cls ≠ "java/lang/invoke/MethodHandle" ∧ y'.cls ≠ "java/lang/invoke/VarHandle" ∧ (parseMethodDescriptor y'.desc).map (fun d => d.parameters.length) = some As.length) (hdm : d' + 1 ≤ d) (hnl : nL' ≤ 45) (hs : st0 = As.reverse ++ st) (hcat : (st.map gcat).sum ≤ 8) (kk : ∀ p, Rl' σ (p.2) → g32 p.1 → GG F Rl ω l d μ σ0 (pc + 3) lv (vI p.1 :: st) (p.2) (tc p)) : GG F Rl ω l d μ σ0 pc lv st0 σ (f.bind tc) := by
  intro ok a0 h
  obtain ⟨p, hb, hq⟩ := Option.bind_eq_some_iff.mp h
  obtain ⟨⟨k1, k0⟩, k2⟩ := hM ok p hb
  have m1 := hRl'.2.2 _ _ k1
  have k3 := kk p k1 k0 (m1.2.2 ok) a0 hq
  have m2 := hRl.2.2 _ _ k3.1.1
  refine ⟨⟨hRl.2.1 _ _ _ (hw _ k1) k3.1.1, k3.1.2⟩, fun kc ks h1 h2 => ?_⟩
  dsimp only at m1 m2 k3 k2
  refine g_callSN k2.no q1 q2 q4 q5 hd hy hdm hnl ⟨by omega, by omega⟩ hs hcat (fun v' σ' hp hE => ?_)
  obtain ⟨e1, e2⟩ := hp
  injection e1 with e1
  subst e1; subst e2
  exact k3.2 _ _ (by omega) (by omega)
theorem x_callSN_ml {f : Option (Int × gMem)} {tc : Int × gMem → Option α} (hM : gK (fun p => (.inl (some (vL p.1)), p.2)) Rl' ω l d' (y', cc', nL', ret', []) As σ f) (hRl : gRel Rl) (hRl' : gRel Rl') (hw : ∀ s, Rl' σ s → Rl σ s) {host : String} (q1 : Cond.methodLinkNest μ.1.cls idx y' host ∈ lw_tbl) (q2 : Cond.static y' ∈ lw_all) (q4 : Cond.initialized y'.cls ∈ lw_all) (q5 : Cond.code y' cc' nL' ret' ∈ lw_all) (hd : decode μ.2.1 pc = .ok (.invokestatic idx, 3)) (hy : y'.cls ≠ "java/lang/invoke/MethodHandle" ∧ y'.cls ≠ "java/lang/invoke/VarHandle" ∧ (parseMethodDescriptor y'.desc).map (fun d => d.parameters.length) = some As.length) (hdm : d' + 1 ≤ d) (hnl : nL' ≤ 45) (hs : st0 = As.reverse ++ st) (hcat : (st.map gcat).sum ≤ 8) (kk : ∀ p, Rl' σ (p.2) → g64 p.1 → GG F Rl ω l d μ σ0 (pc + 3) lv (vL p.1 :: st) (p.2) (tc p)) : GG F Rl ω l d μ σ0 pc lv st0 σ (f.bind tc) := by
  intro ok a0 h
  obtain ⟨p, hb, hq⟩ := Option.bind_eq_some_iff.mp h
  obtain ⟨⟨k1, k0⟩, k2⟩ := hM ok p hb
  have m1 := hRl'.2.2 _ _ k1
  have k3 := kk p k1 k0 (m1.2.2 ok) a0 hq
  have m2 := hRl.2.2 _ _ k3.1.1
  refine ⟨⟨hRl.2.1 _ _ _ (hw _ k1) k3.1.1, k3.1.2⟩, fun kc ks h1 h2 => ?_⟩
  dsimp only at m1 m2 k3 k2
  refine g_callSN k2.no q1 q2 q4 q5 hd hy hdm hnl ⟨by omega, by omega⟩ hs hcat (fun v' σ' hp hE => ?_)
  obtain ⟨e1, e2⟩ := hp
  injection e1 with e1
  subst e1; subst e2
  exact k3.2 _ _ (by omega) (by omega)
theorem x_callSN_mr {f : Option (Nat × gMem)} {tc : Nat × gMem → Option α} (hM : gK (fun p => (.inl (some (vR p.1)), p.2)) Rl' ω l d' (y', cc', nL', ret', []) As σ f) (hRl : gRel Rl) (hRl' : gRel Rl') (hw : ∀ s, Rl' σ s → Rl σ s) {host : String} (q1 : Cond.methodLinkNest μ.1.cls idx y' host ∈ lw_tbl) (q2 : Cond.static y' ∈ lw_all) (q4 : Cond.initialized y'.cls ∈ lw_all) (q5 : Cond.code y' cc' nL' ret' ∈ lw_all) (hd : decode μ.2.1 pc = .ok (.invokestatic idx, 3)) (hy : y'.cls ≠ "java/lang/invoke/MethodHandle" ∧ y'.cls ≠ "java/lang/invoke/VarHandle" ∧ (parseMethodDescriptor y'.desc).map (fun d => d.parameters.length) = some As.length) (hdm : d' + 1 ≤ d) (hnl : nL' ≤ 45) (hs : st0 = As.reverse ++ st) (hcat : (st.map gcat).sum ≤ 8) (kk : ∀ p, Rl' σ (p.2) → GG F Rl ω l d μ σ0 (pc + 3) lv (vR p.1 :: st) (p.2) (tc p)) : GG F Rl ω l d μ σ0 pc lv st0 σ (f.bind tc) := by
  intro ok a0 h
  obtain ⟨p, hb, hq⟩ := Option.bind_eq_some_iff.mp h
  obtain ⟨⟨k1, k0⟩, k2⟩ := hM ok p hb
  have m1 := hRl'.2.2 _ _ k1
  have k3 := kk p k1 (m1.2.2 ok) a0 hq
  have m2 := hRl.2.2 _ _ k3.1.1
  refine ⟨⟨hRl.2.1 _ _ _ (hw _ k1) k3.1.1, k3.1.2⟩, fun kc ks h1 h2 => ?_⟩
  dsimp only at m1 m2 k3 k2
  refine g_callSN k2.no q1 q2 q4 q5 hd hy hdm hnl ⟨by omega, by omega⟩ hs hcat (fun v' σ' hp hE => ?_)
  obtain ⟨e1, e2⟩ := hp
  injection e1 with e1
  subst e1; subst e2
  exact k3.2 _ _ (by omega) (by omega)
theorem x_callSN_mv {f : Option (gMem)} {tc : gMem → Option α} (hM : gK (fun p => (.inl none, p)) Rl' ω l d' (y', cc', nL', ret', []) As σ f) (hRl : gRel Rl) (hRl' : gRel Rl') (hw : ∀ s, Rl' σ s → Rl σ s) {host : String} (q1 : Cond.methodLinkNest μ.1.cls idx y' host ∈ lw_tbl) (q2 : Cond.static y' ∈ lw_all) (q4 : Cond.initialized y'.cls ∈ lw_all) (q5 : Cond.code y' cc' nL' ret' ∈ lw_all) (hd : decode μ.2.1 pc = .ok (.invokestatic idx, 3)) (hy : y'.cls ≠ "java/lang/invoke/MethodHandle" ∧ y'.cls ≠ "java/lang/invoke/VarHandle" ∧ (parseMethodDescriptor y'.desc).map (fun d => d.parameters.length) = some As.length) (hdm : d' + 1 ≤ d) (hnl : nL' ≤ 45) (hs : st0 = As.reverse ++ st) (hcat : (st.map gcat).sum ≤ 8) (kk : ∀ p, Rl' σ (p) → GG F Rl ω l d μ σ0 (pc + 3) lv st (p) (tc p)) : GG F Rl ω l d μ σ0 pc lv st0 σ (f.bind tc) := by
  intro ok a0 h
  obtain ⟨p, hb, hq⟩ := Option.bind_eq_some_iff.mp h
  obtain ⟨⟨k1, k0⟩, k2⟩ := hM ok p hb
  have m1 := hRl'.2.2 _ _ k1
  have k3 := kk p k1 (m1.2.2 ok) a0 hq
  have m2 := hRl.2.2 _ _ k3.1.1
  refine ⟨⟨hRl.2.1 _ _ _ (hw _ k1) k3.1.1, k3.1.2⟩, fun kc ks h1 h2 => ?_⟩
  dsimp only at m1 m2 k3 k2
  refine g_callSN k2.no q1 q2 q4 q5 hd hy hdm hnl ⟨by omega, by omega⟩ hs hcat (fun v' σ' hp hE => ?_)
  obtain ⟨e1, e2⟩ := hp
  injection e1 with e1
  subst e1; subst e2
  exact k3.2 _ _ (by omega) (by omega)
theorem x_callI_mv {f : Option (gMem)} {tc : gMem → Option α} (hM : gK (fun p => (.inl none, p)) Rl' ω l d' (y', cc', nL', none, []) (vR b :: As) σ f) (hRl : gRel Rl) (hRl' : gRel Rl') (hw : ∀ s, Rl' σ s → Rl σ s) (q1 : Cond.methodLink μ.1.cls idx y' ∈ lw_all) (q2 : Cond.instanceMethod y' ∈ lw_all) (q4 : Cond.initialized y'.cls ∈ lw_all) (q5 : Cond.code y' cc' nL' none ∈ lw_all) (hd : decode μ.2.1 pc = .ok (.invokespecial idx, 3)) (hb0 : mT σ b ≠ 0) (hy1 : y'.name = "<init>") (hy : y'.cls ≠ "java/lang/invoke/MethodHandle" ∧ y'.cls ≠ "java/lang/invoke/VarHandle" ∧ (parseMethodDescriptor y'.desc).map (fun d => d.parameters.length) = some As.length) (hdm : d' + 1 ≤ d) (hnl : nL' ≤ 45) (hs : st0 = As.reverse ++ vR b :: st) (hcat : (st.map gcat).sum ≤ 8) (kk : ∀ p, Rl' σ (p) → GG F Rl ω l d μ σ0 (pc + 3) lv st (p) (tc p)) : GG F Rl ω l d μ σ0 pc lv st0 σ (f.bind tc) := by
  intro ok a0 h
  obtain ⟨p, hb, hq⟩ := Option.bind_eq_some_iff.mp h
  obtain ⟨⟨k1, k0⟩, k2⟩ := hM ok p hb
  have m1 := hRl'.2.2 _ _ k1
  have k3 := kk p k1 (m1.2.2 ok) a0 hq
  have m2 := hRl.2.2 _ _ k3.1.1
  refine ⟨⟨hRl.2.1 _ _ _ (hw _ k1) k3.1.1, k3.1.2⟩, fun kc ks h1 h2 => ?_⟩
  dsimp only at m1 m2 k3 k2
  refine g_callI k2.no q1 q2 q4 q5 hd hb0 hy1 hy hdm hnl ⟨by omega, by omega⟩ hs hcat (fun v' σ' hp hE => ?_)
  obtain ⟨e1, e2⟩ := hp
  injection e1 with e1
  subst e1; subst e2
  exact k3.2 _ _ (by omega) (by omega)
theorem x_callIN_mv {f : Option (gMem)} {tc : gMem → Option α} (hM : gK (fun p => (.inl none, p)) Rl' ω l d' (y', cc', nL', none, []) (vR b :: As) σ f) (hRl : gRel Rl) (hRl' : gRel Rl') (hw : ∀ s, Rl' σ s → Rl σ s) {host : String} (q1 : Cond.methodLinkNest μ.1.cls idx y' host ∈ lw_tbl) (q2 : Cond.instanceMethod y' ∈ lw_all) (q4 : Cond.initialized y'.cls ∈ lw_all) (q5 : Cond.code y' cc' nL' none ∈ lw_all) (hd : decode μ.2.1 pc = .ok (.invokespecial idx, 3)) (hb0 : mT σ b ≠ 0) (hy1 : y'.name = "<init>") (hy : y'.cls ≠ "java/lang/invoke/MethodHandle" ∧ y'.cls ≠ "java/lang/invoke/VarHandle" ∧ (parseMethodDescriptor y'.desc).map (fun d => d.parameters.length) = some As.length) (hdm : d' + 1 ≤ d) (hnl : nL' ≤ 45) (hs : st0 = As.reverse ++ vR b :: st) (hcat : (st.map gcat).sum ≤ 8) (kk : ∀ p, Rl' σ (p) → GG F Rl ω l d μ σ0 (pc + 3) lv st (p) (tc p)) : GG F Rl ω l d μ σ0 pc lv st0 σ (f.bind tc) := by
  intro ok a0 h
  obtain ⟨p, hb, hq⟩ := Option.bind_eq_some_iff.mp h
  obtain ⟨⟨k1, k0⟩, k2⟩ := hM ok p hb
  have m1 := hRl'.2.2 _ _ k1
  have k3 := kk p k1 (m1.2.2 ok) a0 hq
  have m2 := hRl.2.2 _ _ k3.1.1
  refine ⟨⟨hRl.2.1 _ _ _ (hw _ k1) k3.1.1, k3.1.2⟩, fun kc ks h1 h2 => ?_⟩
  dsimp only at m1 m2 k3 k2
  refine g_callIN k2.no q1 q2 q4 q5 hd hb0 hy1 hy hdm hnl ⟨by omega, by omega⟩ hs hcat (fun v' σ' hp hE => ?_)
  obtain ⟨e1, e2⟩ := hp
  injection e1 with e1
  subst e1; subst e2
  exact k3.2 _ _ (by omega) (by omega)
theorem x_callE_pi {f : Option (Int)} {tc : Int → Option α} (hM : gK (fun x => (.inl (some (vI x)), σ)) Rl' ω l d' (y', cc', nL', ret', []) (vR b :: As) σ f) (hRl : gRel Rl) (hRl' : gRel Rl') (hw : ∀ s, Rl' σ s → Rl σ s) (q1 : Cond.methodLink μ.1.cls idx y' ∈ lw_all) (q2 : Cond.instanceMethod y' ∈ lw_all) (q3 : Cond.selects y'.cls y' y' ∈ lw_all) (q4 : Cond.initialized y'.cls ∈ lw_all) (q5 : Cond.code y' cc' nL' ret' ∈ lw_all) (hd : decode μ.2.1 pc = .ok (.invokevirtual idx, 3)) (hn : y'.cls = "SheetBranches$Name") (ht : mT σ b = 91) (hy : y'.cls ≠ "java/lang/invoke/MethodHandle" ∧ y'.cls ≠ "java/lang/invoke/VarHandle" ∧ (parseMethodDescriptor y'.desc).map (fun d => d.parameters.length) = some As.length) (hdm : d' + 1 ≤ d) (hnl : nL' ≤ 45) (hs : st0 = As.reverse ++ vR b :: st) (hcat : (st.map gcat).sum ≤ 8) (kk : ∀ x, g32 x → GG F Rl ω l d μ σ0 (pc + 3) lv (vI x :: st) (σ) (tc x)) : GG F Rl ω l d μ σ0 pc lv st0 σ (f.bind tc) := by
  intro ok a0 h
  obtain ⟨x, hb, hq⟩ := Option.bind_eq_some_iff.mp h
  obtain ⟨⟨k1, k0⟩, k2⟩ := hM ok x hb
  have m1 := hRl'.2.2 _ _ k1
  have k3 := kk x k0 (m1.2.2 ok) a0 hq
  have m2 := hRl.2.2 _ _ k3.1.1
  refine ⟨⟨hRl.2.1 _ _ _ (hw _ k1) k3.1.1, k3.1.2⟩, fun kc ks h1 h2 => ?_⟩
  dsimp only at m1 m2 k3 k2
  refine g_callVr k2.no q1 q2 q3 q4 q5 hd (by rw [hn]; exact grecN ht) hy hdm hnl ⟨by omega, by omega⟩ hs hcat (fun v' σ' hp hE => ?_)
  obtain ⟨e1, e2⟩ := hp
  injection e1 with e1
  subst e1; subst e2
  exact k3.2 _ _ (by omega) (by omega)
theorem x_callE_pl {f : Option (Int)} {tc : Int → Option α} (hM : gK (fun x => (.inl (some (vL x)), σ)) Rl' ω l d' (y', cc', nL', ret', []) (vR b :: As) σ f) (hRl : gRel Rl) (hRl' : gRel Rl') (hw : ∀ s, Rl' σ s → Rl σ s) (q1 : Cond.methodLink μ.1.cls idx y' ∈ lw_all) (q2 : Cond.instanceMethod y' ∈ lw_all) (q3 : Cond.selects y'.cls y' y' ∈ lw_all) (q4 : Cond.initialized y'.cls ∈ lw_all) (q5 : Cond.code y' cc' nL' ret' ∈ lw_all) (hd : decode μ.2.1 pc = .ok (.invokevirtual idx, 3)) (hn : y'.cls = "SheetBranches$Name") (ht : mT σ b = 91) (hy : y'.cls ≠ "java/lang/invoke/MethodHandle" ∧ y'.cls ≠ "java/lang/invoke/VarHandle" ∧ (parseMethodDescriptor y'.desc).map (fun d => d.parameters.length) = some As.length) (hdm : d' + 1 ≤ d) (hnl : nL' ≤ 45) (hs : st0 = As.reverse ++ vR b :: st) (hcat : (st.map gcat).sum ≤ 8) (kk : ∀ x, g64 x → GG F Rl ω l d μ σ0 (pc + 3) lv (vL x :: st) (σ) (tc x)) : GG F Rl ω l d μ σ0 pc lv st0 σ (f.bind tc) := by
  intro ok a0 h
  obtain ⟨x, hb, hq⟩ := Option.bind_eq_some_iff.mp h
  obtain ⟨⟨k1, k0⟩, k2⟩ := hM ok x hb
  have m1 := hRl'.2.2 _ _ k1
  have k3 := kk x k0 (m1.2.2 ok) a0 hq
  have m2 := hRl.2.2 _ _ k3.1.1
  refine ⟨⟨hRl.2.1 _ _ _ (hw _ k1) k3.1.1, k3.1.2⟩, fun kc ks h1 h2 => ?_⟩
  dsimp only at m1 m2 k3 k2
  refine g_callVr k2.no q1 q2 q3 q4 q5 hd (by rw [hn]; exact grecN ht) hy hdm hnl ⟨by omega, by omega⟩ hs hcat (fun v' σ' hp hE => ?_)
  obtain ⟨e1, e2⟩ := hp
  injection e1 with e1
  subst e1; subst e2
  exact k3.2 _ _ (by omega) (by omega)
theorem x_callE_pr {f : Option (Nat)} {tc : Nat → Option α} (hM : gK (fun x => (.inl (some (vR x)), σ)) Rl' ω l d' (y', cc', nL', ret', []) (vR b :: As) σ f) (hRl : gRel Rl) (hRl' : gRel Rl') (hw : ∀ s, Rl' σ s → Rl σ s) (q1 : Cond.methodLink μ.1.cls idx y' ∈ lw_all) (q2 : Cond.instanceMethod y' ∈ lw_all) (q3 : Cond.selects y'.cls y' y' ∈ lw_all) (q4 : Cond.initialized y'.cls ∈ lw_all) (q5 : Cond.code y' cc' nL' ret' ∈ lw_all) (hd : decode μ.2.1 pc = .ok (.invokevirtual idx, 3)) (hn : y'.cls = "SheetBranches$Name") (ht : mT σ b = 91) (hy : y'.cls ≠ "java/lang/invoke/MethodHandle" ∧ y'.cls ≠ "java/lang/invoke/VarHandle" ∧ (parseMethodDescriptor y'.desc).map (fun d => d.parameters.length) = some As.length) (hdm : d' + 1 ≤ d) (hnl : nL' ≤ 45) (hs : st0 = As.reverse ++ vR b :: st) (hcat : (st.map gcat).sum ≤ 8) (kk : ∀ x, GG F Rl ω l d μ σ0 (pc + 3) lv (vR x :: st) (σ) (tc x)) : GG F Rl ω l d μ σ0 pc lv st0 σ (f.bind tc) := by
  intro ok a0 h
  obtain ⟨x, hb, hq⟩ := Option.bind_eq_some_iff.mp h
  obtain ⟨⟨k1, k0⟩, k2⟩ := hM ok x hb
  have m1 := hRl'.2.2 _ _ k1
  have k3 := kk x (m1.2.2 ok) a0 hq
  have m2 := hRl.2.2 _ _ k3.1.1
  refine ⟨⟨hRl.2.1 _ _ _ (hw _ k1) k3.1.1, k3.1.2⟩, fun kc ks h1 h2 => ?_⟩
  dsimp only at m1 m2 k3 k2
  refine g_callVr k2.no q1 q2 q3 q4 q5 hd (by rw [hn]; exact grecN ht) hy hdm hnl ⟨by omega, by omega⟩ hs hcat (fun v' σ' hp hE => ?_)
  obtain ⟨e1, e2⟩ := hp
  injection e1 with e1
  subst e1; subst e2
  exact k3.2 _ _ (by omega) (by omega)
theorem x_callE_mi {f : Option (Int × gMem)} {tc : Int × gMem → Option α} (hM : gK (fun p => (.inl (some (vI p.1)), p.2)) Rl' ω l d' (y', cc', nL', ret', []) (vR b :: As) σ f) (hRl : gRel Rl) (hRl' : gRel Rl') (hw : ∀ s, Rl' σ s → Rl σ s) (q1 : Cond.methodLink μ.1.cls idx y' ∈ lw_all) (q2 : Cond.instanceMethod y' ∈ lw_all) (q3 : Cond.selects y'.cls y' y' ∈ lw_all) (q4 : Cond.initialized y'.cls ∈ lw_all) (q5 : Cond.code y' cc' nL' ret' ∈ lw_all) (hd : decode μ.2.1 pc = .ok (.invokevirtual idx, 3)) (hn : y'.cls = "SheetBranches$Name") (ht : mT σ b = 91) (hy : y'.cls ≠ "java/lang/invoke/MethodHandle" ∧ y'.cls ≠ "java/lang/invoke/VarHandle" ∧ (parseMethodDescriptor y'.desc).map (fun d => d.parameters.length) = some As.length) (hdm : d' + 1 ≤ d) (hnl : nL' ≤ 45) (hs : st0 = As.reverse ++ vR b :: st) (hcat : (st.map gcat).sum ≤ 8) (kk : ∀ p, Rl' σ (p.2) → g32 p.1 → GG F Rl ω l d μ σ0 (pc + 3) lv (vI p.1 :: st) (p.2) (tc p)) : GG F Rl ω l d μ σ0 pc lv st0 σ (f.bind tc) := by
  intro ok a0 h
  obtain ⟨p, hb, hq⟩ := Option.bind_eq_some_iff.mp h
  obtain ⟨⟨k1, k0⟩, k2⟩ := hM ok p hb
  have m1 := hRl'.2.2 _ _ k1
  have k3 := kk p k1 k0 (m1.2.2 ok) a0 hq
  have m2 := hRl.2.2 _ _ k3.1.1
  refine ⟨⟨hRl.2.1 _ _ _ (hw _ k1) k3.1.1, k3.1.2⟩, fun kc ks h1 h2 => ?_⟩
  dsimp only at m1 m2 k3 k2
  refine g_callVr k2.no q1 q2 q3 q4 q5 hd (by rw [hn]; exact grecN ht) hy hdm hnl ⟨by omega, by omega⟩ hs hcat (fun v' σ' hp hE => ?_)
  obtain ⟨e1, e2⟩ := hp
  injection e1 with e1
  subst e1; subst e2
  exact k3.2 _ _ (by omega) (by omega)
theorem x_callE_ml {f : Option (Int × gMem)} {tc : Int × gMem → Option α} (hM : gK (fun p => (.inl (some (vL p.1)), p.2)) Rl' ω l d' (y', cc', nL', ret', []) (vR b :: As) σ f) (hRl : gRel Rl) (hRl' : gRel Rl') (hw : ∀ s, Rl' σ s → Rl σ s) (q1 : Cond.methodLink μ.1.cls idx y' ∈ lw_all) (q2 : Cond.instanceMethod y' ∈ lw_all) (q3 : Cond.selects y'.cls y' y' ∈ lw_all) (q4 : Cond.initialized y'.cls ∈ lw_all) (q5 : Cond.code y' cc' nL' ret' ∈ lw_all) (hd : decode μ.2.1 pc = .ok (.invokevirtual idx, 3)) (hn : y'.cls = "SheetBranches$Name") (ht : mT σ b = 91) (hy : y'.cls ≠ "java/lang/invoke/MethodHandle" ∧ y'.cls ≠ "java/lang/invoke/VarHandle" ∧ (parseMethodDescriptor y'.desc).map (fun d => d.parameters.length) = some As.length) (hdm : d' + 1 ≤ d) (hnl : nL' ≤ 45) (hs : st0 = As.reverse ++ vR b :: st) (hcat : (st.map gcat).sum ≤ 8) (kk : ∀ p, Rl' σ (p.2) → g64 p.1 → GG F Rl ω l d μ σ0 (pc + 3) lv (vL p.1 :: st) (p.2) (tc p)) : GG F Rl ω l d μ σ0 pc lv st0 σ (f.bind tc) := by
  intro ok a0 h
  obtain ⟨p, hb, hq⟩ := Option.bind_eq_some_iff.mp h
  obtain ⟨⟨k1, k0⟩, k2⟩ := hM ok p hb
  have m1 := hRl'.2.2 _ _ k1
  have k3 := kk p k1 k0 (m1.2.2 ok) a0 hq
  have m2 := hRl.2.2 _ _ k3.1.1
  refine ⟨⟨hRl.2.1 _ _ _ (hw _ k1) k3.1.1, k3.1.2⟩, fun kc ks h1 h2 => ?_⟩
  dsimp only at m1 m2 k3 k2
  refine g_callVr k2.no q1 q2 q3 q4 q5 hd (by rw [hn]; exact grecN ht) hy hdm hnl ⟨by omega, by omega⟩ hs hcat (fun v' σ' hp hE => ?_)
  obtain ⟨e1, e2⟩ := hp
  injection e1 with e1
  subst e1; subst e2
  exact k3.2 _ _ (by omega) (by omega)
theorem x_callE_mr {f : Option (Nat × gMem)} {tc : Nat × gMem → Option α} (hM : gK (fun p => (.inl (some (vR p.1)), p.2)) Rl' ω l d' (y', cc', nL', ret', []) (vR b :: As) σ f) (hRl : gRel Rl) (hRl' : gRel Rl') (hw : ∀ s, Rl' σ s → Rl σ s) (q1 : Cond.methodLink μ.1.cls idx y' ∈ lw_all) (q2 : Cond.instanceMethod y' ∈ lw_all) (q3 : Cond.selects y'.cls y' y' ∈ lw_all) (q4 : Cond.initialized y'.cls ∈ lw_all) (q5 : Cond.code y' cc' nL' ret' ∈ lw_all) (hd : decode μ.2.1 pc = .ok (.invokevirtual idx, 3)) (hn : y'.cls = "SheetBranches$Name") (ht : mT σ b = 91) (hy : y'.cls ≠ "java/lang/invoke/MethodHandle" ∧ y'.cls ≠ "java/lang/invoke/VarHandle" ∧ (parseMethodDescriptor y'.desc).map (fun d => d.parameters.length) = some As.length) (hdm : d' + 1 ≤ d) (hnl : nL' ≤ 45) (hs : st0 = As.reverse ++ vR b :: st) (hcat : (st.map gcat).sum ≤ 8) (kk : ∀ p, Rl' σ (p.2) → GG F Rl ω l d μ σ0 (pc + 3) lv (vR p.1 :: st) (p.2) (tc p)) : GG F Rl ω l d μ σ0 pc lv st0 σ (f.bind tc) := by
  intro ok a0 h
  obtain ⟨p, hb, hq⟩ := Option.bind_eq_some_iff.mp h
  obtain ⟨⟨k1, k0⟩, k2⟩ := hM ok p hb
  have m1 := hRl'.2.2 _ _ k1
  have k3 := kk p k1 (m1.2.2 ok) a0 hq
  have m2 := hRl.2.2 _ _ k3.1.1
  refine ⟨⟨hRl.2.1 _ _ _ (hw _ k1) k3.1.1, k3.1.2⟩, fun kc ks h1 h2 => ?_⟩
  dsimp only at m1 m2 k3 k2
  refine g_callVr k2.no q1 q2 q3 q4 q5 hd (by rw [hn]; exact grecN ht) hy hdm hnl ⟨by omega, by omega⟩ hs hcat (fun v' σ' hp hE => ?_)
  obtain ⟨e1, e2⟩ := hp
  injection e1 with e1
  subst e1; subst e2
  exact k3.2 _ _ (by omega) (by omega)
theorem x_callE_mv {f : Option (gMem)} {tc : gMem → Option α} (hM : gK (fun p => (.inl none, p)) Rl' ω l d' (y', cc', nL', ret', []) (vR b :: As) σ f) (hRl : gRel Rl) (hRl' : gRel Rl') (hw : ∀ s, Rl' σ s → Rl σ s) (q1 : Cond.methodLink μ.1.cls idx y' ∈ lw_all) (q2 : Cond.instanceMethod y' ∈ lw_all) (q3 : Cond.selects y'.cls y' y' ∈ lw_all) (q4 : Cond.initialized y'.cls ∈ lw_all) (q5 : Cond.code y' cc' nL' ret' ∈ lw_all) (hd : decode μ.2.1 pc = .ok (.invokevirtual idx, 3)) (hn : y'.cls = "SheetBranches$Name") (ht : mT σ b = 91) (hy : y'.cls ≠ "java/lang/invoke/MethodHandle" ∧ y'.cls ≠ "java/lang/invoke/VarHandle" ∧ (parseMethodDescriptor y'.desc).map (fun d => d.parameters.length) = some As.length) (hdm : d' + 1 ≤ d) (hnl : nL' ≤ 45) (hs : st0 = As.reverse ++ vR b :: st) (hcat : (st.map gcat).sum ≤ 8) (kk : ∀ p, Rl' σ (p) → GG F Rl ω l d μ σ0 (pc + 3) lv st (p) (tc p)) : GG F Rl ω l d μ σ0 pc lv st0 σ (f.bind tc) := by
  intro ok a0 h
  obtain ⟨p, hb, hq⟩ := Option.bind_eq_some_iff.mp h
  obtain ⟨⟨k1, k0⟩, k2⟩ := hM ok p hb
  have m1 := hRl'.2.2 _ _ k1
  have k3 := kk p k1 (m1.2.2 ok) a0 hq
  have m2 := hRl.2.2 _ _ k3.1.1
  refine ⟨⟨hRl.2.1 _ _ _ (hw _ k1) k3.1.1, k3.1.2⟩, fun kc ks h1 h2 => ?_⟩
  dsimp only at m1 m2 k3 k2
  refine g_callVr k2.no q1 q2 q3 q4 q5 hd (by rw [hn]; exact grecN ht) hy hdm hnl ⟨by omega, by omega⟩ hs hcat (fun v' σ' hp hE => ?_)
  obtain ⟨e1, e2⟩ := hp
  injection e1 with e1
  subst e1; subst e2
  exact k3.2 _ _ (by omega) (by omega)
theorem x_iincw {i : Nat} {n x : Int} (j : Nat) (hd : decode μ.2.1 pc = .ok (.iinc i n, 3)) (hj : lv[j]? = some (i, vI x)) (hn : i < μ.2.2.1) (hv : gsto1 lv i (vI (w32 (x + n))) = lv') (k : GG F Rl ω l d μ σ0 (pc + 3) lv' st σ t) : GG F Rl ω l d μ σ0 pc lv st σ t := x_iinc j hd hj rfl hn rfl (x_lvw (lv2 := lv') (by subst hv; simp only [gsto1, List.map_cons, gval_w32]) k)
theorem x_getrE {ci k idx a b : Nat} {C : String} {T : u_T} {N : Nat} (hk : gCk ci C T N) (hn : k < N) (hq : Cond.fieldLink μ.1.cls idx (T k).1 (T k).2.1 (T k).2.2.1 ∈ lw_all) (hy : ∀ σ : gMem, gfv σ (gfty ci k) a k = grv (mR σ a k)) (hb : mR σ a k = b) (hd : decode μ.2.1 pc = .ok (.getfield idx, 3)) (ht : mT σ a = ci + 1) (kk : GG F Rl ω l d μ σ0 (pc + 3) lv (vR b :: st) σ t) : GG F Rl ω l d μ σ0 pc lv (vR a :: st) σ t := x_getr hk hn hq hy hd ht (by rw [hb]; exact kk)
/-- a memory gets a name -/
def gLet {α : Type} (m : gMem) (f : gMem → Option α) : Option α := f m
theorem x_let {m : gMem} {f : gMem → Option α} (k : ∀ s : gMem, s = m → GG F Rl ω l d μ σ0 pc lv st s (f s)) : GG F Rl ω l d μ σ0 pc lv st m (gLet m f) := k m rfl
/-- a field of a class: its owner, name, descriptor, whether final, its type -/
def gFd (ci k : Nat) (fo fn fd : String) (fin : Bool) (ty : FieldType) : Prop := ∃ (C : String) (T : u_T) (N : Nat), gCk ci C T N ∧ k < N ∧ T k = (fo, fn, fd, fin) ∧ gfty ci k = ty
theorem x_fgi {ci k idx a : Nat} {fo fn fd : String} {fin : Bool} (hf : gFd ci k fo fn fd fin .int) (hq : Cond.fieldLink μ.1.cls idx fo fn fd ∈ lw_all) (hd : decode μ.2.1 pc = .ok (.getfield idx, 3)) (ht : mT σ a = ci + 1) (kk : g32 (mI σ a k) → GG F Rl ω l d μ σ0 (pc + 3) lv (vI (mI σ a k) :: st) σ t) : GG F Rl ω l d μ σ0 pc lv (vR a :: st) σ t := by
  obtain ⟨C, T, N, hk, hn, hT, hy⟩ := hf
  exact x_geti hk hn (by rw [hT]; exact hq) (fun σ => by rw [hy]; rfl) hd ht kk
theorem x_fgz {ci k idx a : Nat} {fo fn fd : String} {fin : Bool} (hf : gFd ci k fo fn fd fin .boolean) (hq : Cond.fieldLink μ.1.cls idx fo fn fd ∈ lw_all) (hd : decode μ.2.1 pc = .ok (.getfield idx, 3)) (ht : mT σ a = ci + 1) (kk : g32 (mI σ a k) → GG F Rl ω l d μ σ0 (pc + 3) lv (vI (mI σ a k) :: st) σ t) : GG F Rl ω l d μ σ0 pc lv (vR a :: st) σ t := by
  obtain ⟨C, T, N, hk, hn, hT, hy⟩ := hf
  exact x_geti hk hn (by rw [hT]; exact hq) (fun σ => by rw [hy]; rfl) hd ht kk
theorem x_fgl {ci k idx a : Nat} {fo fn fd : String} {fin : Bool} (hf : gFd ci k fo fn fd fin .long) (hq : Cond.fieldLink μ.1.cls idx fo fn fd ∈ lw_all) (hd : decode μ.2.1 pc = .ok (.getfield idx, 3)) (ht : mT σ a = ci + 1) (kk : g64 (mL σ a k) → GG F Rl ω l d μ σ0 (pc + 3) lv (vL (mL σ a k) :: st) σ t) : GG F Rl ω l d μ σ0 pc lv (vR a :: st) σ t := by
  obtain ⟨C, T, N, hk, hn, hT, hy⟩ := hf
  exact x_getl hk hn (by rw [hT]; exact hq) (fun σ => by rw [hy]; rfl) hd ht kk
theorem x_fgr {ci k idx a : Nat} {fo fn fd : String} {fin : Bool} {ty : FieldType} (hf : gFd ci k fo fn fd fin ty) (ho : (∃ n, ty = .object n) ∨ ∃ t, ty = .array t) (hq : Cond.fieldLink μ.1.cls idx fo fn fd ∈ lw_all) (hd : decode μ.2.1 pc = .ok (.getfield idx, 3)) (ht : mT σ a = ci + 1) (kk : GG F Rl ω l d μ σ0 (pc + 3) lv (vR (mR σ a k) :: st) σ t) : GG F Rl ω l d μ σ0 pc lv (vR a :: st) σ t := by
  obtain ⟨C, T, N, hk, hn, hT, hy⟩ := hf
  exact x_getr hk hn (by rw [hT]; exact hq) (fun σ => by rcases ho with ⟨n, rfl⟩ | ⟨n, rfl⟩ <;> rw [hy] <;> rfl) hd ht kk
theorem x_fgiN {ci k idx a : Nat} {fo fn fd : String} {fin : Bool} (hf : gFd ci k fo fn fd fin .int) {host : String} (hq : Cond.fieldLinkNest μ.1.cls idx fo fn fd host ∈ lw_tbl) (hd : decode μ.2.1 pc = .ok (.getfield idx, 3)) (ht : mT σ a = ci + 1) (kk : g32 (mI σ a k) → GG F Rl ω l d μ σ0 (pc + 3) lv (vI (mI σ a k) :: st) σ t) : GG F Rl ω l d μ σ0 pc lv (vR a :: st) σ t := by
  obtain ⟨C, T, N, hk, hn, hT, hy⟩ := hf
  exact x_getiN hk hn (by rw [hT]; exact hq) (fun σ => by rw [hy]; rfl) hd ht kk
theorem x_fgzN {ci k idx a : Nat} {fo fn fd : String} {fin : Bool} (hf : gFd ci k fo fn fd fin .boolean) {host : String} (hq : Cond.fieldLinkNest μ.1.cls idx fo fn fd host ∈ lw_tbl) (hd : decode μ.2.1 pc = .ok (.getfield idx, 3)) (ht : mT σ a = ci + 1) (kk : g32 (mI σ a k) → GG F Rl ω l d μ σ0 (pc + 3) lv (vI (mI σ a k) :: st) σ t) : GG F Rl ω l d μ σ0 pc lv (vR a :: st) σ t := by
  obtain ⟨C, T, N, hk, hn, hT, hy⟩ := hf
  exact x_getiN hk hn (by rw [hT]; exact hq) (fun σ => by rw [hy]; rfl) hd ht kk
theorem x_fglN {ci k idx a : Nat} {fo fn fd : String} {fin : Bool} (hf : gFd ci k fo fn fd fin .long) {host : String} (hq : Cond.fieldLinkNest μ.1.cls idx fo fn fd host ∈ lw_tbl) (hd : decode μ.2.1 pc = .ok (.getfield idx, 3)) (ht : mT σ a = ci + 1) (kk : g64 (mL σ a k) → GG F Rl ω l d μ σ0 (pc + 3) lv (vL (mL σ a k) :: st) σ t) : GG F Rl ω l d μ σ0 pc lv (vR a :: st) σ t := by
  obtain ⟨C, T, N, hk, hn, hT, hy⟩ := hf
  exact x_getlN hk hn (by rw [hT]; exact hq) (fun σ => by rw [hy]; rfl) hd ht kk
theorem x_fgrN {ci k idx a : Nat} {fo fn fd : String} {fin : Bool} {ty : FieldType} (hf : gFd ci k fo fn fd fin ty) (ho : (∃ n, ty = .object n) ∨ ∃ t, ty = .array t) {host : String} (hq : Cond.fieldLinkNest μ.1.cls idx fo fn fd host ∈ lw_tbl) (hd : decode μ.2.1 pc = .ok (.getfield idx, 3)) (ht : mT σ a = ci + 1) (kk : GG F Rl ω l d μ σ0 (pc + 3) lv (vR (mR σ a k) :: st) σ t) : GG F Rl ω l d μ σ0 pc lv (vR a :: st) σ t := by
  obtain ⟨C, T, N, hk, hn, hT, hy⟩ := hf
  exact x_getrN hk hn (by rw [hT]; exact hq) (fun σ => by rcases ho with ⟨n, rfl⟩ | ⟨n, rfl⟩ <;> rw [hy] <;> rfl) hd ht kk
theorem x_fgrE {ci k idx a : Nat} {fo fn fd : String} {fin : Bool} {ty : FieldType} {b : Nat} (hf : gFd ci k fo fn fd fin ty) (ho : (∃ n, ty = .object n) ∨ ∃ t, ty = .array t) (hq : Cond.fieldLink μ.1.cls idx fo fn fd ∈ lw_all) (hb : mR σ a k = b) (hd : decode μ.2.1 pc = .ok (.getfield idx, 3)) (ht : mT σ a = ci + 1) (kk : GG F Rl ω l d μ σ0 (pc + 3) lv (vR b :: st) σ t) : GG F Rl ω l d μ σ0 pc lv (vR a :: st) σ t := x_fgr hf ho hq hd ht (by rw [hb]; exact kk)
theorem x_fpi {x : Int} {ci k idx a : Nat} {fo fn fd : String} (hf : gFd ci k fo fn fd false .int) (hq : Cond.fieldLink μ.1.cls idx fo fn fd ∈ lw_all) (hd : decode μ.2.1 pc = .ok (.putfield idx, 3)) (ht : mT σ a = ci + 1) (hw : ∀ s, Rl (wI σ a k x) s → Rl σ s) (kk : GG F Rl ω l d μ σ0 (pc + 3) lv st (wI σ a k x) t) : GG F Rl ω l d μ σ0 pc lv (vI x :: vR a :: st) σ t := by
  obtain ⟨C, T, N, hk, hn, hT, hy⟩ := hf
  exact x_puti hk hn (by rw [hT]; exact hq) (by rw [hT]) hy hd ht hw kk
theorem x_fpz {x : Int} {ci k idx a : Nat} {fo fn fd : String} (hf : gFd ci k fo fn fd false .boolean) (hq : Cond.fieldLink μ.1.cls idx fo fn fd ∈ lw_all) (hx : x = 0 ∨ x = 1) (hd : decode μ.2.1 pc = .ok (.putfield idx, 3)) (ht : mT σ a = ci + 1) (hw : ∀ s, Rl (wI σ a k x) s → Rl σ s) (kk : GG F Rl ω l d μ σ0 (pc + 3) lv st (wI σ a k x) t) : GG F Rl ω l d μ σ0 pc lv (vI x :: vR a :: st) σ t := by
  obtain ⟨C, T, N, hk, hn, hT, hy⟩ := hf
  exact x_putz hk hn (by rw [hT]; exact hq) (by rw [hT]) hy hx hd ht hw kk
theorem x_fpl {x : Int} {ci k idx a : Nat} {fo fn fd : String} (hf : gFd ci k fo fn fd false .long) (hq : Cond.fieldLink μ.1.cls idx fo fn fd ∈ lw_all) (hd : decode μ.2.1 pc = .ok (.putfield idx, 3)) (ht : mT σ a = ci + 1) (hw : ∀ s, Rl (wL σ a k x) s → Rl σ s) (kk : GG F Rl ω l d μ σ0 (pc + 3) lv st (wL σ a k x) t) : GG F Rl ω l d μ σ0 pc lv (vL x :: vR a :: st) σ t := by
  obtain ⟨C, T, N, hk, hn, hT, hy⟩ := hf
  exact x_putl hk hn (by rw [hT]; exact hq) (by rw [hT]) hy hd ht hw kk
theorem x_fpr {b : Nat} {ci k idx a : Nat} {fo fn fd : String} {ty : FieldType} (hf : gFd ci k fo fn fd false ty) (hq : Cond.fieldLink μ.1.cls idx fo fn fd ∈ lw_all) (ho : (∃ n, ty = .object n) ∨ ∃ t, ty = .array t) (hd : decode μ.2.1 pc = .ok (.putfield idx, 3)) (ht : mT σ a = ci + 1) (hw : ∀ s, Rl (wR σ a k b) s → Rl σ s) (kk : GG F Rl ω l d μ σ0 (pc + 3) lv st (wR σ a k b) t) : GG F Rl ω l d μ σ0 pc lv (vR b :: vR a :: st) σ t := by
  obtain ⟨C, T, N, hk, hn, hT, hy⟩ := hf
  exact x_putr hk hn (by rw [hT]; exact hq) (by rw [hT]) (by rw [hy]; exact ho) hd ht hw kk
theorem x_fpiN {x : Int} {ci k idx a : Nat} {fo fn fd : String} (hf : gFd ci k fo fn fd false .int) {host : String} (hq : Cond.fieldLinkNest μ.1.cls idx fo fn fd host ∈ lw_tbl) (hd : decode μ.2.1 pc = .ok (.putfield idx, 3)) (ht : mT σ a = ci + 1) (hw : ∀ s, Rl (wI σ a k x) s → Rl σ s) (kk : GG F Rl ω l d μ σ0 (pc + 3) lv st (wI σ a k x) t) : GG F Rl ω l d μ σ0 pc lv (vI x :: vR a :: st) σ t := by
  obtain ⟨C, T, N, hk, hn, hT, hy⟩ := hf
  exact x_putiN hk hn (by rw [hT]; exact hq) (by rw [hT]) hy hd ht hw kk
theorem x_fpzN {x : Int} {ci k idx a : Nat} {fo fn fd : String} (hf : gFd ci k fo fn fd false .boolean) {host : String} (hq : Cond.fieldLinkNest μ.1.cls idx fo fn fd host ∈ lw_tbl) (hx : x = 0 ∨ x = 1) (hd : decode μ.2.1 pc = .ok (.putfield idx, 3)) (ht : mT σ a = ci + 1) (hw : ∀ s, Rl (wI σ a k x) s → Rl σ s) (kk : GG F Rl ω l d μ σ0 (pc + 3) lv st (wI σ a k x) t) : GG F Rl ω l d μ σ0 pc lv (vI x :: vR a :: st) σ t := by
  obtain ⟨C, T, N, hk, hn, hT, hy⟩ := hf
  exact x_putzN hk hn (by rw [hT]; exact hq) (by rw [hT]) hy hx hd ht hw kk
theorem x_fplN {x : Int} {ci k idx a : Nat} {fo fn fd : String} (hf : gFd ci k fo fn fd false .long) {host : String} (hq : Cond.fieldLinkNest μ.1.cls idx fo fn fd host ∈ lw_tbl) (hd : decode μ.2.1 pc = .ok (.putfield idx, 3)) (ht : mT σ a = ci + 1) (hw : ∀ s, Rl (wL σ a k x) s → Rl σ s) (kk : GG F Rl ω l d μ σ0 (pc + 3) lv st (wL σ a k x) t) : GG F Rl ω l d μ σ0 pc lv (vL x :: vR a :: st) σ t := by
  obtain ⟨C, T, N, hk, hn, hT, hy⟩ := hf
  exact x_putlN hk hn (by rw [hT]; exact hq) (by rw [hT]) hy hd ht hw kk
theorem x_fprN {b : Nat} {ci k idx a : Nat} {fo fn fd : String} {ty : FieldType} (hf : gFd ci k fo fn fd false ty) {host : String} (hq : Cond.fieldLinkNest μ.1.cls idx fo fn fd host ∈ lw_tbl) (ho : (∃ n, ty = .object n) ∨ ∃ t, ty = .array t) (hd : decode μ.2.1 pc = .ok (.putfield idx, 3)) (ht : mT σ a = ci + 1) (hw : ∀ s, Rl (wR σ a k b) s → Rl σ s) (kk : GG F Rl ω l d μ σ0 (pc + 3) lv st (wR σ a k b) t) : GG F Rl ω l d μ σ0 pc lv (vR b :: vR a :: st) σ t := by
  obtain ⟨C, T, N, hk, hn, hT, hy⟩ := hf
  exact x_putrN hk hn (by rw [hT]; exact hq) (by rw [hT]) (by rw [hy]; exact ho) hd ht hw kk
theorem x_fpiF {x : Int} {ci k idx a : Nat} {fo fn fd : String} (hf : gFd ci k fo fn fd true .int) (hq : Cond.fieldLink μ.1.cls idx fo fn fd ∈ lw_all) (hnm : μ.1.name = "<init>") (hdecl : fo = μ.1.cls) (hd : decode μ.2.1 pc = .ok (.putfield idx, 3)) (ht : mT σ a = ci + 1) (hw : ∀ s, Rl (wI σ a k x) s → Rl σ s) (kk : GG F Rl ω l d μ σ0 (pc + 3) lv st (wI σ a k x) t) : GG F Rl ω l d μ σ0 pc lv (vI x :: vR a :: st) σ t := by
  obtain ⟨C, T, N, hk, hn, hT, hy⟩ := hf
  exact x_putiF hk hn (by rw [hT]; exact hq) (by rw [hT]) hnm (by rw [hT]; exact hdecl) hy hd ht hw kk
theorem x_fpzF {x : Int} {ci k idx a : Nat} {fo fn fd : String} (hf : gFd ci k fo fn fd true .boolean) (hq : Cond.fieldLink μ.1.cls idx fo fn fd ∈ lw_all) (hnm : μ.1.name = "<init>") (hdecl : fo = μ.1.cls) (hx : x = 0 ∨ x = 1) (hd : decode μ.2.1 pc = .ok (.putfield idx, 3)) (ht : mT σ a = ci + 1) (hw : ∀ s, Rl (wI σ a k x) s → Rl σ s) (kk : GG F Rl ω l d μ σ0 (pc + 3) lv st (wI σ a k x) t) : GG F Rl ω l d μ σ0 pc lv (vI x :: vR a :: st) σ t := by
  obtain ⟨C, T, N, hk, hn, hT, hy⟩ := hf
  exact x_putzF hk hn (by rw [hT]; exact hq) (by rw [hT]) hnm (by rw [hT]; exact hdecl) hy hx hd ht hw kk
theorem x_fplF {x : Int} {ci k idx a : Nat} {fo fn fd : String} (hf : gFd ci k fo fn fd true .long) (hq : Cond.fieldLink μ.1.cls idx fo fn fd ∈ lw_all) (hnm : μ.1.name = "<init>") (hdecl : fo = μ.1.cls) (hd : decode μ.2.1 pc = .ok (.putfield idx, 3)) (ht : mT σ a = ci + 1) (hw : ∀ s, Rl (wL σ a k x) s → Rl σ s) (kk : GG F Rl ω l d μ σ0 (pc + 3) lv st (wL σ a k x) t) : GG F Rl ω l d μ σ0 pc lv (vL x :: vR a :: st) σ t := by
  obtain ⟨C, T, N, hk, hn, hT, hy⟩ := hf
  exact x_putlF hk hn (by rw [hT]; exact hq) (by rw [hT]) hnm (by rw [hT]; exact hdecl) hy hd ht hw kk
theorem x_fprF {b : Nat} {ci k idx a : Nat} {fo fn fd : String} {ty : FieldType} (hf : gFd ci k fo fn fd true ty) (hq : Cond.fieldLink μ.1.cls idx fo fn fd ∈ lw_all) (hnm : μ.1.name = "<init>") (hdecl : fo = μ.1.cls) (ho : (∃ n, ty = .object n) ∨ ∃ t, ty = .array t) (hd : decode μ.2.1 pc = .ok (.putfield idx, 3)) (ht : mT σ a = ci + 1) (hw : ∀ s, Rl (wR σ a k b) s → Rl σ s) (kk : GG F Rl ω l d μ σ0 (pc + 3) lv st (wR σ a k b) t) : GG F Rl ω l d μ σ0 pc lv (vR b :: vR a :: st) σ t := by
  obtain ⟨C, T, N, hk, hn, hT, hy⟩ := hf
  exact x_putrF hk hn (by rw [hT]; exact hq) (by rw [hT]) hnm (by rw [hT]; exact hdecl) (by rw [hy]; exact ho) hd ht hw kk
end GT
theorem gE_wI {σ s : gMem} {a k : Nat} {x : Int} (q : gE (wI σ a k x) s) : gE σ s := ((gOne_wI σ a k x).E gE.rf).tr q
theorem gE_wL {σ s : gMem} {a k : Nat} {x : Int} (q : gE (wL σ a k x) s) : gE σ s := ((gOne_wL σ a k x).E gE.rf).tr q
theorem gE_wR {σ s : gMem} {a k x : Nat} (q : gE (wR σ a k x) s) : gE σ s := ((gOne_wR σ a k x).E gE.rf).tr q
theorem gTw_wI {σ s : gMem} {a k : Nat} {x : Int} (q : gTw (wI σ a k x) s) : gTw σ s := q
theorem gTw_wL {σ s : gMem} {a k : Nat} {x : Int} (q : gTw (wL σ a k x) s) : gTw σ s := q
theorem gMany_CI (σ : gMem) (a sp b dp n : Nat) : gMany σ (wCI σ a sp b dp n) b := ⟨fun q j h => ⟨by show (if q = b ∧ _ then _ else _) = _; rw [if_neg (fun z => h z.1)], rfl, rfl⟩, rfl⟩
theorem gMany_CL (σ : gMem) (a sp b dp n : Nat) : gMany σ (wCL σ a sp b dp n) b := ⟨fun q j h => ⟨rfl, by show (if q = b ∧ _ then _ else _) = _; rw [if_neg (fun z => h z.1)], rfl⟩, rfl⟩
theorem gMany_CR (σ : gMem) (a sp b dp n : Nat) : gMany σ (wCR σ a sp b dp n) b := ⟨fun q j h => ⟨rfl, rfl, by show (if q = b ∧ _ then _ else _) = _; rw [if_neg (fun z => h z.1)]⟩, rfl⟩
theorem gE_wCI {σ s : gMem} {a sp b dp n : Nat} (q : gE (wCI σ a sp b dp n) s) : gE σ s := ((gMany_CI σ a sp b dp n).E gE.rf).tr q
theorem gE_wCL {σ s : gMem} {a sp b dp n : Nat} (q : gE (wCL σ a sp b dp n) s) : gE σ s := ((gMany_CL σ a sp b dp n).E gE.rf).tr q
theorem gE_wCR {σ s : gMem} {a sp b dp n : Nat} (q : gE (wCR σ a sp b dp n) s) : gE σ s := ((gMany_CR σ a sp b dp n).E gE.rf).tr q
theorem gTw_E {σ s : gMem} (h : gTw σ s) : gE σ s := by
  unfold gTw at h
  refine ⟨?_, ?_, fun a _ => ?_, fun o b hb => ?_⟩
  · unfold mZ; rw [h]; exact Nat.le_refl _
  · unfold mS; rw [h]; exact Nat.le_refl _
  · unfold mT mN; rw [h]; exact ⟨rfl, rfl⟩
  · have e1 : mT s b = mT σ b := by unfold mT; rw [h]
    have e2 : mZ s = mZ σ := by unfold mZ; rw [h]
    rw [e1]; exact o b (by rw [← e2]; exact hb)
theorem gT_I {σ s : gMem} {a k b t : Nat} {x : Int} (e : s = wI σ a k x) (h : mT σ b = t) : mT s b = t := by subst e; exact h
theorem gT_L {σ s : gMem} {a k b t : Nat} {x : Int} (e : s = wL σ a k x) (h : mT σ b = t) : mT s b = t := by subst e; exact h
theorem gT_R {σ s : gMem} {a k b t x : Nat} (e : s = wR σ a k x) (h : mT σ b = t) : mT s b = t := by subst e; exact h
theorem gT_CI {σ s : gMem} {a sp b dp n q t : Nat} (e : s = wCI σ a sp b dp n) (h : mT σ q = t) : mT s q = t := by subst e; exact h
theorem gT_CL {σ s : gMem} {a sp b dp n q t : Nat} (e : s = wCL σ a sp b dp n) (h : mT σ q = t) : mT s q = t := by subst e; exact h
theorem gT_CR {σ s : gMem} {a sp b dp n q t : Nat} (e : s = wCR σ a sp b dp n) (h : mT σ q = t) : mT s q = t := by subst e; exact h
theorem gT_E {σ s : gMem} {b t : Nat} (k : gE σ s) (h : mT σ b = t) (h0 : t ≠ 0) : mT s b = t := (k.2.2.1 b (by rw [h]; exact h0)).1.trans h
theorem gT_Tw {σ s : gMem} {b t : Nat} (k : gTw σ s) (h : mT σ b = t) : mT s b = t := by unfold gTw at k; unfold mT at *; rw [k]; exact h
theorem gT_N {σ s : gMem} {b t t2 n : Nat} (e : s = wN σ t2 n) (o : gOk σ) (h : mT σ b = t) (h0 : t ≠ 0) : mT s b = t := by subst e; exact gT_E ((gNew_N σ t2 n).E o) h h0
theorem gT_K {σ s : gMem} {b t t2 a : Nat} (e : s = wK σ a t2) (o : gOk σ) (h : mT σ b = t) (h0 : t ≠ 0) : mT s b = t := by subst e; exact gT_E ((gNew_K σ a t2).E o) h h0
theorem gT_M {σ s : gMem} {b t r c : Nat} (e : s = wM σ r c) (o : gOk σ) (h : mT σ b = t) (h0 : t ≠ 0) : mT s b = t := by subst e; exact gT_E ((gNew_M σ r c).E o) h h0
theorem gT_new {σ s : gMem} {t n : Nat} (e : s = wN σ t n) : mT s (mZ σ) = t := by subst e; show (if mZ σ = mZ σ then _ else _) = _; rw [if_pos rfl]
theorem gT_newK {σ s : gMem} {a t : Nat} (e : s = wK σ a t) : mT s (mZ σ) = t := by subst e; show (if mZ σ = mZ σ then _ else _) = _; rw [if_pos rfl]
theorem gT_newM {σ s : gMem} {r c : Nat} (e : s = wM σ r c) : mT s (mZ σ) = 111 := by subst e; show (if mZ σ = mZ σ then _ else _) = _; rw [if_pos rfl]
theorem gT_ne {σ : gMem} {a t : Nat} (h : mT σ a = t + 1) : mT σ a ≠ 0 := by rw [h]; omega
def gRefs (σ : gMem) (a sp n : Nat) : Bool := (List.range n).all (fun i => mR σ a (sp + i) == 0 || mT σ (mR σ a (sp + i)) == 24)
/-- what comes of a call that may throw -/
def gThrI (p : gR) (k : Int → gMem → Option gR) : Option gR := match p with
  | (.inl (some (.inl x)), s) => k x s
  | (.inr E, s) => some (.inr E, s)
  | _ => none
def gThrR (p : gR) (k : Nat → gMem → Option gR) : Option gR := match p with
  | (.inl (some (.inr (.inr x))), s) => k x s
  | (.inr E, s) => some (.inr E, s)
  | _ => none
def gThrV (p : gR) (k : gMem → Option gR) : Option gR := match p with
  | (.inl none, s) => k s
  | (.inr E, s) => some (.inr E, s)
  | _ => none
def gTryI {α : Type} (p : gR) (k : Int → gMem → Option α) (h : String → gMem → Option α) : Option α := match p with
  | (.inl (some (.inl x)), s) => k x s
  | (.inr E, s) => h E s
  | _ => none
def gTryV {α : Type} (p : gR) (k : gMem → Option α) (h : String → gMem → Option α) : Option α := match p with
  | (.inl none, s) => k s
  | (.inr E, s) => h E s
  | _ => none
/-- an exception under way, as a value -/
def GGX {α : Type} (F : α → gR) (Rl : gMem → gMem → Prop) (ω : gW) (l : Launch) (d : Nat) (μ : gM) (σ0 : gMem) (pc : Nat) (lv : List (Nat × gV)) (st : List gV) (E : String) (σ : gMem) (t : Option α) : Prop :=
  gOk σ → ∀ a0 : α, t = some a0 → (Rl σ (F a0).2 ∧ gRng (F a0).1) ∧ ∀ kc ks : Nat, mZ (F a0).2 - mZ σ ≤ kc → mS (F a0).2 - mS σ ≤ ks → GX ω l d kc ks μ σ0 (fun v s => (F a0).1 = .inl v ∧ s = (F a0).2) (fun E s => (F a0).1 = .inr E ∧ s = (F a0).2) pc lv st E σ
/-- an interface method's contract by a tree -/
def gKI {β : Type} (F' : β → gR) (Rl : gMem → gMem → Prop) (ω : gW) (l : Launch) (d : Nat) (x : MethodName) (ret : Option FieldType) (args : List gV) (σ : gMem) (t : Option β) : Prop :=
  gOk σ → ∀ b0 : β, t = some b0 → ∃ (b : Nat) (As : List gV) (ci N : Nat) (T : u_T) (y : MethodName) (cc : ByteArray) (nL : Nat), args = vR b :: As ∧ gcl[ci]? = some (y.cls, T, N) ∧ mT σ b = ci + 1 ∧ (x, y, y.cls) ∈ gfw ∧ Cond.selects y.cls x y ∈ lw_all ∧ Cond.instanceMethod y ∈ lw_all ∧ Cond.initialized y.cls ∈ lw_all ∧ Cond.code y cc nL ret ∈ lw_all ∧ nL ≤ 45 ∧ (Rl σ (F' b0).2 ∧ gRng (F' b0).1) ∧ gC ω l d (mZ (F' b0).2 - mZ σ) (mS (F' b0).2 - mS σ) (y, cc, nL, ret, []) args σ (fun v s => (F' b0).1 = .inl v ∧ s = (F' b0).2) (fun E s => (F' b0).1 = .inr E ∧ s = (F' b0).2)
theorem gKI.none {β : Type} {F' : β → gR} {Rl : gMem → gMem → Prop} {ω : gW} {l : Launch} {d : Nat} {x : MethodName} {ret : Option FieldType} {args : List gV} {σ : gMem} : gKI F' Rl ω l d x ret args σ (none : Option β) := fun _ _ h => by cases h
theorem gKI.cls {β : Type} {F' : β → gR} {Rl : gMem → gMem → Prop} {ω : gW} {l : Launch} {d : Nat} {x y : MethodName} {cc : ByteArray} {nL ci N b : Nat} {T : u_T} {ret : Option FieldType} {As : List gV} {σ : gMem} {f rest : Option β} (hc : gcl[ci]? = some (y.cls, T, N)) (hfw : (x, y, y.cls) ∈ gfw) (q1 : Cond.selects y.cls x y ∈ lw_all) (q2 : Cond.instanceMethod y ∈ lw_all) (q3 : Cond.initialized y.cls ∈ lw_all) (q4 : Cond.code y cc nL ret ∈ lw_all) (hnl : nL ≤ 45)
    (hk : gK F' Rl ω l d (y, cc, nL, ret, []) (vR b :: As) σ f) (hr : gKI F' Rl ω l d x ret (vR b :: As) σ rest) : gKI F' Rl ω l d x ret (vR b :: As) σ (if mT σ b = ci + 1 then f else rest) := by
  intro ok b0 h
  by_cases q : mT σ b = ci + 1
  · rw [if_pos q] at h
    exact ⟨b, As, ci, N, T, y, cc, nL, rfl, hc, q, hfw, q1, q2, q3, q4, hnl, (hk ok b0 h).1, (hk ok b0 h).2⟩
  · rw [if_neg q] at h
    exact hr ok b0 h
section GFace
variable {ω : gW} {l : Launch} {d d' kc ks kc' ks' : Nat} {μ : gM} {σ0 σ : gMem} {PR PR' : Option gV → gMem → Prop} {PX : String → gMem → Prop} {pc : Nat} {lv lv' : List (Nat × gV)} {st st0 : List gV}
theorem g_callF {x y' : MethodName} {cc' : ByteArray} {nL' idx count b ci N : Nat} {ret' : Option FieldType} {T : u_T} {As : List gV} (hM : gC ω l d' kc' ks' (y', cc', nL', ret', []) (vR b :: As) σ PR' gNo) (q0 : Cond.methodLink μ.1.cls idx x ∈ lw_all) (hfw : (x, y', y'.cls) ∈ gfw) (q1 : Cond.selects y'.cls x y' ∈ lw_all) (q2 : Cond.instanceMethod y' ∈ lw_all) (q3 : Cond.initialized y'.cls ∈ lw_all) (q4 : Cond.code y' cc' nL' ret' ∈ lw_all) (hd : decode μ.2.1 pc = .ok (.invokeinterface idx count, 5))
    (hc : gcl[ci]? = some (y'.cls, T, N)) (ht : mT σ b = ci + 1) (hy : x.cls ≠ "java/lang/invoke/MethodHandle" ∧ x.cls ≠ "java/lang/invoke/VarHandle" ∧ (parseMethodDescriptor x.desc).map (fun d => d.parameters.length) = some As.length) (hdm : d' + 1 ≤ d) (hnl : nL' ≤ 45) (hkc : kc' ≤ kc ∧ ks' ≤ ks) (hs : st0 = As.reverse ++ vR b :: st) (hcat : (st.map gcat).sum ≤ 8)
    (kk : ∀ (v : Option gV) (σ' : gMem), PR' v σ' → gE σ σ' → G ω l d (kc - kc') (ks - ks') μ σ0 PR PX (pc + 5) lv (v.toList ++ st) σ') : G ω l d kc ks μ σ0 PR PX pc lv st0 σ := by
  intro p e s m args below meth c H locs cells slots mc ms ls hC hK hS hA hE hz hr hl
  have hts := hC.2.2.2.2.2.2.1
  obtain ⟨hb0, hrec⟩ := grecv hK hS ht hc
  have hF := hK.2.2.2.1.2.2.1 x y' y'.cls hfw
  have hcd := hts _ q4
  have hrun := va_runF (b := b - 1) (As := As.map gval) (rest := st.map gval) (g := F0 m pc ls (st0.map gval)) (x := x) (y := y') (locs := locs) (cells := cells) (slots := slots) (e := e) (below := below) (meth := meth) (R := gRm d mc ms) (mc := kc') (ms := ks') (hK.1.1 ci _ hc).2 ⟨hC.1, hC.2.1, hC.2.2.1, hC.2.2.2.2.2.1, hts⟩ hM.met
    (n := As.length) ⟨⟨rfl, rfl, hdm, (by show 8 + (nL' + 11) + 64 * d' ≤ 64 * d; omega), pay_in hts (lw_meth q4), List.mem_cons_self⟩, hts _ q0, va_any rfl hF.1, va_any rfl hF.2.1, hts _ q1, hts _ q2, va_any rfl hF.2.2.1, va_any rfl hF.2.2.2.1, va_any rfl hF.2.2.2.2, hts _ q3, hcd, ⟨hy.1, hy.2.1⟩, (by
      intro sig hsig
      have h2 := hy.2.2
      rw [hsig] at h2
      exact (Option.some.inj h2).symm)⟩ ⟨gP_blind _ _ _, hrec, (by
      have := gPre hK hS hA hz (vR b :: As)
      rw [List.map_cons, show gval (vR b) = .ref (b - 1) from grv_pos hb0] at this
      exact this)⟩ rfl (List.length_map _) hl.1 (gsd hb0 hs) (lv_room (by rw [gcats]; exact hcat)) hd ⟨by show cells + kc' ≤ mc; omega, by show slots + ks' ≤ ms; omega⟩
  intro T hT X
  obtain ⟨v, st₀, t, T', L, h0, X', hL, e1, e2, ⟨v', σ', hv, hp, hEE, hS', hF'⟩, stp⟩ := hrun T hT X
  have hv : v = v'.map gval := by injection hv
  subst hv
  obtain ⟨-, -, k3⟩ := vx_keep h0 e1 hA (fun q _ h => h) (fun q h => h) hL hF'
  have w := kk v' σ' hp hEE p e s m args below meth c T'.heap (locs ++ L) (cells + kc') (slots + ks') mc ms ls hC hK (by rw [e1]; exact hS') k3 (hE.tr hEE) hz ⟨by omega, by omega⟩ hl T' rfl X'
  rw [← gtoList] at w
  obtain ⟨t2, a1, b1⟩ := w
  exact ⟨t2, stp t2 a1, b1⟩
end GFace
theorem gcov {a b c dd pc : Nat} (h : a ≤ pc ∧ pc < b) : covers (tableOf [(a, b, c, dd)]).head! pc = true := by
  simp [covers, tableOf, List.head!, h.1, h.2]
section GT
variable {α : Type} {F : α → gR} {Rl : gMem → gMem → Prop} {ω : gW} {l : Launch} {d : Nat} {μ : gM} {σ0 σ : gMem} {pc : Nat} {lv lv' : List (Nat × gV)} {st : List gV} {t t1 t2 : Option α}
theorem x_ok (k : gOk σ → GG F Rl ω l d μ σ0 pc lv st σ t) : GG F Rl ω l d μ σ0 pc lv st σ t := fun ok => k ok ok
theorem x_new {ci idx N : Nat} {C : String} {T : u_T} (hk : gCk ci C T N) (hty : (List.range N).all (fun k => gtyok (gfty ci k)) = true ∧ N < 2147483648) (q1 : Cond.classLink μ.1.cls idx C ∈ lw_all) (q2 : Cond.instantiable C N ∈ lw_all) (q3 : Cond.initialized C ∈ lw_all) (hd : decode μ.2.1 pc = .ok (.new idx, 3))
    (k : GG F gE ω l d μ σ0 (pc + 3) lv (vR (mZ σ) :: st) (wN σ (ci + 1) N) t) : GG F gE ω l d μ σ0 pc lv st σ t := fun ok a0 h => by
  have e0 := (gNew_N σ (ci + 1) N).E ok
  obtain ⟨⟨r1, r2⟩, k2⟩ := k (e0.2.2.2 ok) a0 h
  have z1 : mZ (wN σ (ci + 1) N) = mZ σ + 1 := rfl
  have z2 : mS (wN σ (ci + 1) N) = mS σ + N := rfl
  have z3 := r1.1
  have z4 := r1.2.1
  exact ⟨⟨e0.tr r1, r2⟩, fun kc ks h1 h2 => g_new hk hty.1 q1 q2 q3 hd (by omega) (by omega) hty.2 (k2 _ _ (by omega) (by omega))⟩
theorem gra {ty : FieldType} (h : ∀ C, ty ≠ .object C) (U : State) (cA : ClassId) (q : va_RA U cA ty) : U.vm.findClass ("[" ++ ty.toString) = some cA := by
  cases ty <;> first | exact q | exact absurd rfl (h _)
theorem x_newarr {j : Nat} {n : Int} {ty : FieldType} {atype : ArrayType} (hj : newarray.typeOf atype = ty) (hg : gaty j = ty) (hjl : (∀ ω : gW, (gtys ω)[j]? = some (ω.A j, ty)) ∧ j < 4) (hrf : refKind ty = false) (hok : gtyok ty = true) (hcb : componentBytes ty ≤ 8) (hno : ∀ C, ty ≠ .object C) (q1 : Cond.arrayClass ty ∈ lw_all) (hd : decode μ.2.1 pc = .ok (.newarray atype, 2)) (hn : 0 ≤ n ∧ n < 1000000)
    (k : GG F gE ω l d μ σ0 (pc + 2) lv (vR (mZ σ) :: st) (wN σ (100 + j) n.toNat) t) : GG F gE ω l d μ σ0 pc lv (vI n :: st) σ t := fun ok a0 h => by
  have e0 := (gNew_N σ (100 + j) n.toNat).E ok
  obtain ⟨⟨r1, r2⟩, k2⟩ := k (e0.2.2.2 ok) a0 h
  have z1 : mZ (wN σ (100 + j) n.toNat) = mZ σ + 1 := rfl
  have z2 : mS (wN σ (100 + j) n.toNat) = mS σ + n.toNat := rfl
  have z3 := r1.1
  have z4 := r1.2.1
  exact ⟨⟨e0.tr r1, r2⟩, fun kc ks h1 h2 => g_newarr hj hg hjl hrf hok hcb q1 hd hn (by omega) (by omega) (gra hno) (k2 _ _ (by omega) (by omega)) (idx := 0)⟩
theorem x_newai {n : Int} (hd : decode μ.2.1 pc = .ok (.newarray .int, 2)) (hn : 0 ≤ n ∧ n < 1000000) (k : GG F gE ω l d μ σ0 (pc + 2) lv (vR (mZ σ) :: st) (wN σ 100 n.toNat) t) : GG F gE ω l d μ σ0 pc lv (vI n :: st) σ t := x_newarr (j := 0) (ty := .int) rfl rfl ⟨fun _ => rfl, by decide⟩ rfl rfl (by decide) (fun _ h => by cases h) q302 hd hn k
theorem x_newal {n : Int} (hd : decode μ.2.1 pc = .ok (.newarray .long, 2)) (hn : 0 ≤ n ∧ n < 1000000) (k : GG F gE ω l d μ σ0 (pc + 2) lv (vR (mZ σ) :: st) (wN σ 101 n.toNat) t) : GG F gE ω l d μ σ0 pc lv (vI n :: st) σ t := x_newarr (j := 1) (ty := .long) rfl rfl ⟨fun _ => rfl, by decide⟩ rfl rfl (by decide) (fun _ h => by cases h) q303 hd hn k
theorem x_newab {n : Int} (hd : decode μ.2.1 pc = .ok (.newarray .byte, 2)) (hn : 0 ≤ n ∧ n < 1000000) (k : GG F gE ω l d μ σ0 (pc + 2) lv (vR (mZ σ) :: st) (wN σ 102 n.toNat) t) : GG F gE ω l d μ σ0 pc lv (vI n :: st) σ t := x_newarr (j := 2) (ty := .byte) rfl rfl ⟨fun _ => rfl, by decide⟩ rfl rfl (by decide) (fun _ h => by cases h) q301 hd hn k
theorem x_newaz {n : Int} (hd : decode μ.2.1 pc = .ok (.newarray .boolean, 2)) (hn : 0 ≤ n ∧ n < 1000000) (k : GG F gE ω l d μ σ0 (pc + 2) lv (vR (mZ σ) :: st) (wN σ 103 n.toNat) t) : GG F gE ω l d μ σ0 pc lv (vI n :: st) σ t := x_newarr (j := 3) (ty := .boolean) rfl rfl ⟨fun _ => rfl, by decide⟩ rfl rfl (by decide) (fun _ h => by cases h) q363 hd hn k
theorem x_anew {idx : Nat} {n : Int} {C : String} (j : Nat) (hjl : ∀ ω : gW, (gtys ω)[j]? = some (ω.A j, .object C)) (hg : gaty j = .object C) (hC0 : C ∈ gao) (q1 : Cond.classLink μ.1.cls idx C ∈ lw_all) (hd : decode μ.2.1 pc = .ok (.anewarray idx, 3)) (hn : 0 ≤ n ∧ n < 1000000)
    (k : GG F gE ω l d μ σ0 (pc + 3) lv (vR (mZ σ) :: st) (wN σ (100 + j) n.toNat) t) : GG F gE ω l d μ σ0 pc lv (vI n :: st) σ t := fun ok a0 h => by
  have e0 := (gNew_N σ (100 + j) n.toNat).E ok
  obtain ⟨⟨r1, r2⟩, k2⟩ := k (e0.2.2.2 ok) a0 h
  have z1 : mZ (wN σ (100 + j) n.toNat) = mZ σ + 1 := rfl
  have z2 : mS (wN σ (100 + j) n.toNat) = mS σ + n.toNat := rfl
  have z3 := r1.1
  have z4 := r1.2.1
  exact ⟨⟨e0.tr r1, r2⟩, fun kc ks h1 h2 => g_anew hg hjl hC0 q1 hd hn (by omega) (by omega) (k2 _ _ (by omega) (by omega))⟩
theorem x_aald {a n : Nat} {i : Int} (j : Nat) {ty : FieldType} (hj : ∀ ω : gW, (gtys ω)[j]? = some (ω.A j, ty)) (hty : ty.isReference = true) (hg : gaty j = ty) (hd : decode μ.2.1 pc = .ok (.aaload, 1)) (ht : mT σ a = 100 + j) (hN : mN σ a = n) (kk : GG F Rl ω l d μ σ0 (pc + 1) lv (vR (mR σ a i.toNat) :: st) σ t) : GG F Rl ω l d μ σ0 pc lv (vI i :: vR a :: st) σ (if 0 ≤ i ∧ i < (n : Int) then t else none) := x_if (fun hi ok a0 h => ⟨(kk ok a0 h).1, fun kc ks h1 h2 => g_aald j hd ht hj hty hg (by rw [hN]; exact hi) ((kk ok a0 h).2 kc ks h1 h2)⟩)
theorem x_aast {a n v : Nat} {i : Int} (j : Nat) {ty : FieldType} (hj : (∀ ω : gW, (gtys ω)[j]? = some (ω.A j, ty)) ∧ ty.isReference = true ∧ gaty j = ty) (hd : decode μ.2.1 pc = .ok (.aastore, 1)) (ht : mT σ a = 100 + j) (hN : mN σ a = n) (hv : v = 0 ∨ gAsg j (mT σ v) = true) (hw : ∀ k s, Rl (wR σ a k v) s → Rl σ s) (kk : GG F Rl ω l d μ σ0 (pc + 1) lv st (wR σ a i.toNat v) t) : GG F Rl ω l d μ σ0 pc lv (vR v :: vI i :: vR a :: st) σ (if 0 ≤ i ∧ i < (n : Int) then t else none) := x_if (fun hi ok a0 h => ⟨⟨hw _ _ (kk ok a0 h).1.1, (kk ok a0 h).1.2⟩, fun kc ks h1 h2 => g_aast j hj.2.2 hj.2.1 hj.1 hd ht (by rw [hN]; exact hi) hv ((kk ok a0 h).2 kc ks h1 h2)⟩)
theorem x_castC {a ci idx : Nat} {r : vw_C} (hc : gcl[ci]? = some r) (q1 : Cond.classLink μ.1.cls idx r.1 ∈ lw_all) (hd : decode μ.2.1 pc = .ok (.checkcast idx, 3)) (h : a = 0 ∨ mT σ a = ci + 1) (k : GG F Rl ω l d μ σ0 (pc + 3) lv (vR a :: st) σ t) : GG F Rl ω l d μ σ0 pc lv (vR a :: st) σ t := fun ok a0 h' => ⟨(k ok a0 h').1, fun kc ks h1 h2 => g_castC hc q1 hd h ((k ok a0 h').2 kc ks h1 h2)⟩
theorem x_castP {a idx : Nat} (q1 : Cond.classLink μ.1.cls idx "SheetBranches$Part" ∈ lw_all) (hd : decode μ.2.1 pc = .ok (.checkcast idx, 3)) (h : a = 0 ∨ gPart (mT σ a) = true) (k : GG F Rl ω l d μ σ0 (pc + 3) lv (vR a :: st) σ t) : GG F Rl ω l d μ σ0 pc lv (vR a :: st) σ t := fun ok a0 h' => ⟨(k ok a0 h').1, fun kc ks h1 h2 => g_castP q1 hd h ((k ok a0 h').2 kc ks h1 h2)⟩
theorem gnmA (j : Nat) (nm : String) (ty : FieldType) (h : (∃ C, ty = .object C ∧ nm = "[" ++ (FieldType.object C).toString) ∨ ((∀ C, ty ≠ .object C) ∧ nm = "[" ++ ty.toString)) (U : State) (cA : ClassId) (q : va_RA U cA ty) : U.vm.findClass nm = some cA := by
  rcases h with ⟨C, rfl, rfl⟩ | ⟨h1, rfl⟩
  · obtain ⟨-, -, -, -, -, h⟩ := q; exact h
  · exact gra h1 U cA q
theorem x_castA {a idx : Nat} (j : Nat) {nm : String} {ty : FieldType} (hj : ∀ ω : gW, (gtys ω)[j]? = some (ω.A j, ty)) (had : (∃ C, ty = .object C ∧ nm = "[" ++ (FieldType.object C).toString) ∨ ((∀ C, ty ≠ .object C) ∧ nm = "[" ++ ty.toString)) (q1 : Cond.classLink μ.1.cls idx nm ∈ lw_all) (hd : decode μ.2.1 pc = .ok (.checkcast idx, 3)) (ht : mT σ a = 100 + j) (k : GG F Rl ω l d μ σ0 (pc + 3) lv (vR a :: st) σ t) : GG F Rl ω l d μ σ0 pc lv (vR a :: st) σ t := fun ok a0 h' => ⟨(k ok a0 h').1, fun kc ks h1 h2 => g_castA j hj (gnmA j nm ty had) q1 hd ht ((k ok a0 h').2 kc ks h1 h2)⟩
theorem x_inst {a ci idx : Nat} {r : vw_C} (hci : gNode (ci + 1) = true) (hc : gcl[ci]? = some r) (q1 : Cond.classLink μ.1.cls idx r.1 ∈ lw_all) (hd : decode μ.2.1 pc = .ok (.instanceof idx, 3)) (h : a = 0 ∨ gNode (mT σ a) = true) (kt : GG F Rl ω l d μ σ0 (pc + 3) lv (vI 1 :: st) σ t1) (kf : GG F Rl ω l d μ σ0 (pc + 3) lv (vI 0 :: st) σ t2) : GG F Rl ω l d μ σ0 pc lv (vR a :: st) σ (if mT σ a = ci + 1 then t1 else t2) := fun ok a0 h' => by
  by_cases c : mT σ a = ci + 1
  · rw [if_pos c] at h'
    exact ⟨(kt ok a0 h').1, fun kc ks h1 h2 => g_inst hci hc q1 hd h (fun _ => (kt ok a0 h').2 kc ks h1 h2) (fun z => absurd c z)⟩
  · rw [if_neg c] at h'
    exact ⟨(kf ok a0 h').1, fun kc ks h1 h2 => g_inst hci hc q1 hd h (fun z => absurd z c) (fun _ => (kf ok a0 h').2 kc ks h1 h2)⟩
theorem x_gst {idx j : Nat} {C n dd : String} (hz0 : (C, n, dd, j) ∈ gztab) (q1 : Cond.fieldLink μ.1.cls idx C n dd ∈ lw_all) (hd : decode μ.2.1 pc = .ok (.getstatic idx, 3)) (k : GG F Rl ω l d μ σ0 (pc + 3) lv (vR (mR σ 0 j) :: st) σ t) : GG F Rl ω l d μ σ0 pc lv st σ t := fun ok a0 h => ⟨(k ok a0 h).1, fun kc ks h1 h2 => g_gst hz0 q1 hd ((k ok a0 h).2 kc ks h1 h2)⟩
theorem x_gstN {idx j : Nat} {C n dd host : String} (hz0 : (C, n, dd, j) ∈ gztab) (q1 : Cond.fieldLinkNest μ.1.cls idx C n dd host ∈ lw_tbl) (hd : decode μ.2.1 pc = .ok (.getstatic idx, 3)) (k : GG F Rl ω l d μ σ0 (pc + 3) lv (vR (mR σ 0 j) :: st) σ t) : GG F Rl ω l d μ σ0 pc lv st σ t := fun ok a0 h => ⟨(k ok a0 h).1, fun kc ks h1 h2 => g_gstN hz0 q1 hd ((k ok a0 h).2 kc ks h1 h2)⟩
theorem x_ldcS {idx j : Nat} {tx : String} (hz0 : (μ.1.cls, idx, tx, j) ∈ gstab) (hd : decode μ.2.1 pc = .ok (.ldc idx, 2)) (k : GG F Rl ω l d μ σ0 (pc + 2) lv (vR (mR σ 0 j) :: st) σ t) : GG F Rl ω l d μ σ0 pc lv st σ t := fun ok a0 h => ⟨(k ok a0 h).1, fun kc ks h1 h2 => g_ldcS hz0 hd ((k ok a0 h).2 kc ks h1 h2)⟩
theorem x_ldcwS {idx j : Nat} {tx : String} (hz0 : (μ.1.cls, idx, tx, j) ∈ gstab) (hd : decode μ.2.1 pc = .ok (.ldc_w idx, 3)) (k : GG F Rl ω l d μ σ0 (pc + 3) lv (vR (mR σ 0 j) :: st) σ t) : GG F Rl ω l d μ σ0 pc lv st σ t := fun ok a0 h => ⟨(k ok a0 h).1, fun kc ks h1 h2 => g_ldcwS hz0 hd ((k ok a0 h).2 kc ks h1 h2)⟩
theorem x_ei {a idx k : Nat} {C n : String} (hf : (C, n, "I", k) ∈ gnf) (hk : k ≠ 1) (q1 : Cond.fieldLink μ.1.cls idx C n "I" ∈ lw_all) (hd : decode μ.2.1 pc = .ok (.getfield idx, 3)) (ht : mT σ a = 91) (kk : g32 (mI σ a k) → GG F Rl ω l d μ σ0 (pc + 3) lv (vI (mI σ a k) :: st) σ t) : GG F Rl ω l d μ σ0 pc lv (vR a :: st) σ t := fun ok a0 h => ⟨(kk (mI_rng σ a k) ok a0 h).1, fun kc ks h1 h2 => g_ei hf hk q1 hd ht (fun z => (kk z ok a0 h).2 kc ks h1 h2)⟩
theorem x_eiN {a idx k : Nat} {C n host : String} (hf : (C, n, "I", k) ∈ gnf) (hk : k ≠ 1) (q1 : Cond.fieldLinkNest μ.1.cls idx C n "I" host ∈ lw_tbl) (hd : decode μ.2.1 pc = .ok (.getfield idx, 3)) (ht : mT σ a = 91) (kk : g32 (mI σ a k) → GG F Rl ω l d μ σ0 (pc + 3) lv (vI (mI σ a k) :: st) σ t) : GG F Rl ω l d μ σ0 pc lv (vR a :: st) σ t := fun ok a0 h => ⟨(kk (mI_rng σ a k) ok a0 h).1, fun kc ks h1 h2 => g_eiN hf hk q1 hd ht (fun z => (kk z ok a0 h).2 kc ks h1 h2)⟩
theorem x_esN {a idx k : Nat} {C n host : String} (hf : (C, n, "I", k) ∈ gsf) (hk : k ≠ 1) (q1 : Cond.fieldLinkNest μ.1.cls idx C n "I" host ∈ lw_tbl) (hd : decode μ.2.1 pc = .ok (.getfield idx, 3)) (ht : mT σ a = 92) (kk : g32 (mI σ a k) → GG F Rl ω l d μ σ0 (pc + 3) lv (vI (mI σ a k) :: st) σ t) : GG F Rl ω l d μ σ0 pc lv (vR a :: st) σ t := fun ok a0 h => ⟨(kk (mI_rng σ a k) ok a0 h).1, fun kc ks h1 h2 => g_esN hf hk q1 hd ht (fun z => (kk z ok a0 h).2 kc ks h1 h2)⟩
theorem x_erN {a idx : Nat} {C host : String} (q1 : Cond.fieldLinkNest μ.1.cls idx C "text" "Ljava/lang/String;" host ∈ lw_tbl) (hd : decode μ.2.1 pc = .ok (.getfield idx, 3)) (h : (C = "SheetBranches$Name" ∧ mT σ a = 91) ∨ (C = "SheetBranches$Sign" ∧ mT σ a = 92)) (k : GG F Rl ω l d μ σ0 (pc + 3) lv (vR (mR σ a 1) :: st) σ t) : GG F Rl ω l d μ σ0 pc lv (vR a :: st) σ t := fun ok a0 h' => ⟨(k ok a0 h').1, fun kc ks h1 h2 => g_erN q1 hd h ((k ok a0 h').2 kc ks h1 h2)⟩
theorem x_slen {a idx : Nat} (q1 : Cond.methodLink μ.1.cls idx yJ6_length ∈ lw_all) (hd : decode μ.2.1 pc = .ok (.invokevirtual idx, 3)) (ht : mT σ a = 90) (hdm : 2 ≤ d) (hcat : (st.map gcat).sum ≤ 8) (k : GG F Rl ω l d μ σ0 (pc + 3) lv (vI (mN σ a : Int) :: st) σ t) : GG F Rl ω l d μ σ0 pc lv (vR a :: st) σ t := fun ok a0 h => ⟨(k ok a0 h).1, fun kc ks h1 h2 => g_slen q1 hd ht hdm hcat (fun _ => (k ok a0 h).2 kc ks h1 h2)⟩
theorem x_schar {a idx : Nat} {i : Int} (q1 : Cond.methodLink μ.1.cls idx yJ6_charAt ∈ lw_all) (hd : decode μ.2.1 pc = .ok (.invokevirtual idx, 3)) (ht : mT σ a = 90) (hi0 : g32 i) (hdm : 4 ≤ d) (hcat : (st.map gcat).sum ≤ 8) (kk : g32 (mI σ a i.toNat) → GG F Rl ω l d μ σ0 (pc + 3) lv (vI (mI σ a i.toNat) :: st) σ t) : GG F Rl ω l d μ σ0 pc lv (vI i :: vR a :: st) σ (if 0 ≤ i ∧ i < (mN σ a : Int) then t else none) := x_if (fun hi ok a0 h => ⟨(kk (mI_rng _ _ _) ok a0 h).1, fun kc ks h1 h2 => g_schar q1 hd ht hi hdm hcat ((kk (mI_rng _ _ _) ok a0 h).2 kc ks h1 h2)⟩)
theorem x_ord91 {a idx : Nat} (q1 : Cond.methodLink μ.1.cls idx ⟨"SheetBranches$Name", "ordinal", "()I"⟩ ∈ lw_all) (hd : decode μ.2.1 pc = .ok (.invokevirtual idx, 3)) (ht : mT σ a = 91) (hdm : 1 ≤ d) (hcat : (st.map gcat).sum ≤ 8) (kk : g32 (mI σ a 0) → GG F Rl ω l d μ σ0 (pc + 3) lv (vI (mI σ a 0) :: st) σ t) : GG F Rl ω l d μ σ0 pc lv (vR a :: st) σ t := fun ok a0 h => ⟨(kk (mI_rng _ _ _) ok a0 h).1, fun kc ks h1 h2 => g_ord (gC_ordN ht) q1 q989 q991 hd (grecN ht) hdm hcat (fun z => (kk z ok a0 h).2 kc ks h1 h2)⟩
theorem x_ord92 {a idx : Nat} (q1 : Cond.methodLink μ.1.cls idx ⟨"SheetBranches$Sign", "ordinal", "()I"⟩ ∈ lw_all) (hd : decode μ.2.1 pc = .ok (.invokevirtual idx, 3)) (ht : mT σ a = 92) (hdm : 1 ≤ d) (hcat : (st.map gcat).sum ≤ 8) (kk : g32 (mI σ a 0) → GG F Rl ω l d μ σ0 (pc + 3) lv (vI (mI σ a 0) :: st) σ t) : GG F Rl ω l d μ σ0 pc lv (vR a :: st) σ t := fun ok a0 h => ⟨(kk (mI_rng _ _ _) ok a0 h).1, fun kc ks h1 h2 => g_ord (gC_ordS ht) q1 q1106 q1107 hd (grecG ht) hdm hcat (fun z => (kk z ok a0 h).2 kc ks h1 h2)⟩
theorem x_objI {b ci idx : Nat} {r : vw_C} (hc : gcl[ci]? = some r) (q1 : Cond.methodLink μ.1.cls idx Lib.objectInit ∈ lw_all) (hd : decode μ.2.1 pc = .ok (.invokespecial idx, 3)) (ht : mT σ b = ci + 1) (hdm : 1 ≤ d) (hcat : (st.map gcat).sum ≤ 8) (k : GG F Rl ω l d μ σ0 (pc + 3) lv st σ t) : GG F Rl ω l d μ σ0 pc lv (vR b :: st) σ t := fun ok a0 h => ⟨(k ok a0 h).1, fun kc ks h1 h2 => g_objI hc q1 q274 q275 hd ht hdm hcat ((k ok a0 h).2 kc ks h1 h2)⟩
theorem x_recI {b ci idx : Nat} {r : vw_C} (hc : gcl[ci]? = some r) (q1 : Cond.methodLink μ.1.cls idx yJ7_init ∈ lw_all) (hd : decode μ.2.1 pc = .ok (.invokespecial idx, 3)) (ht : mT σ b = ci + 1) (hdm : 2 ≤ d) (hcat : (st.map gcat).sum ≤ 8) (k : GG F Rl ω l d μ σ0 (pc + 3) lv st σ t) : GG F Rl ω l d μ σ0 pc lv (vR b :: st) σ t := fun ok a0 h => ⟨(k ok a0 h).1, fun kc ks h1 h2 => by
  have hM : gC ω l 1 0 0 (yJ7_init, cJ7_init, 1, none, []) [vR b] σ (fun v s => v = none ∧ s = σ) gNo := by
    refine gC.of (by decide) (by rw [gslen]; exact Nat.le_of_ble_eq_true rfl) ?_
    refine g_aload_n (μ := (yJ7_init, cJ7_init, 1, none, [])) (pc := 0) 0 dJ7_init_0 rfl ?_
    refine g_objI (μ := (yJ7_init, cJ7_init, 1, none, [])) (pc := 1) hc q1872 q274 q275 dJ7_init_1 ht (Nat.le_refl _) (Nat.le_of_ble_eq_true rfl) ?_
    exact g_vret (μ := (yJ7_init, cJ7_init, 1, none, [])) (pc := 4) dJ7_init_4 rfl ⟨rfl, rfl⟩
  refine g_callI (d' := 1) (kc' := 0) (ks' := 0) hM q1 q1870 q240 q1871 hd (gT_ne ht) rfl (by decide +kernel) hdm (by decide) ⟨Nat.zero_le _, Nat.zero_le _⟩ (As := []) rfl hcat (fun v' σ' hp _ => ?_)
  obtain ⟨rfl, rfl⟩ := hp
  exact (k ok a0 h).2 kc ks h1 h2⟩
theorem x_multi {idx : Nat} {r c0 : Int} (q1 : Cond.classLink μ.1.cls idx "[[LSheetBranches$Content;" ∈ lw_all) (hd : decode μ.2.1 pc = .ok (.multianewarray idx 2, 4)) (hb : (0 ≤ r ∧ r < 1000) ∧ 0 ≤ c0 ∧ c0 < 1000)
    (k : GG F gE ω l d μ σ0 (pc + 4) lv (vR (mZ σ) :: st) (wM σ r.toNat c0.toNat) t) : GG F gE ω l d μ σ0 pc lv (vI c0 :: vI r :: st) σ t := fun ok a0 h => by
  have e0 := (gNew_M σ r.toNat c0.toNat).E ok
  obtain ⟨⟨r1, r2⟩, k2⟩ := k (e0.2.2.2 ok) a0 h
  have z1 : mZ (wM σ r.toNat c0.toNat) = mZ σ + (1 + r.toNat) := rfl
  have z2 : mS (wM σ r.toNat c0.toNat) = mS σ + (r.toNat + r.toNat * c0.toNat) := rfl
  have z3 := r1.1
  have z4 := r1.2.1
  exact ⟨⟨e0.tr r1, r2⟩, fun kc ks h1 h2 => g_multi q1 hd hb (by omega) (by omega) (k2 _ _ (by omega) (by omega))⟩
theorem x_clone0 {a j idx tt : Nat} {ad : String} {ty : FieldType} (q1 : Cond.methodLink μ.1.cls idx ⟨ad, "clone", "()Ljava/lang/Object;"⟩ ∈ lw_all) (q2 : Cond.sameMethod ad "java/lang/Object" "clone" "()Ljava/lang/Object;" ∈ lw_all) (q5 : Cond.selects ad ⟨ad, "clone", "()Ljava/lang/Object;"⟩ ⟨"java/lang/Object", "clone", "()Ljava/lang/Object;"⟩ ∈ lw_all) (q6 : Cond.castable ad "java/lang/Cloneable" ∈ lw_tbl)
    (hd : decode μ.2.1 pc = .ok (.invokevirtual idx, 3)) (hj : ∀ ω : gW, (gtys ω)[j]? = some (ω.A j, ty)) (hg : gaty j = ty) (hj2 : j ≠ 2) (had : (∃ C, ty = .object C ∧ ad = "[" ++ (FieldType.object C).toString) ∨ ((∀ C, ty ≠ .object C) ∧ ad = "[" ++ ty.toString)) (hfit : ∀ (σ : gMem) (a i : Nat), fits ty (gfv σ ty a i) = true)
    (hcell : ∀ (s : State) (H : Heap) (locs : List Loc), gKK ω s → gSim ω σ H → va_S (gA ω) s.heap H locs → a ≠ 0 ∧ gLikeA H (a - 1) (ω.A j) (mN σ a) (fun i => gfv σ (gaty j) a i))
    (hdm : 1 ≤ d) (hcat : (st.map gcat).sum ≤ 8) (hT : tt = 100 + j)
    (k : GG F gE ω l d μ σ0 (pc + 3) lv (vR (mZ σ) :: st) (wK σ a tt) t) : GG F gE ω l d μ σ0 pc lv (vR a :: st) σ t := fun ok a0 h => by
  have e0 := (gNew_K σ a tt).E ok
  obtain ⟨⟨r1, r2⟩, k2⟩ := k (e0.2.2.2 ok) a0 h
  have z1 : mZ (wK σ a tt) = mZ σ + 1 := rfl
  have z2 : mS (wK σ a tt) = mS σ + mN σ a := rfl
  have z3 := r1.1
  have z4 := r1.2.1
  exact ⟨⟨e0.tr r1, r2⟩, fun kc ks h1 h2 => g_clone q1 q2 q475 q476 q5 q6 hd hj hg hj2 (gnmA j ad ty had) hfit hcell hdm hcat (by omega) (by omega) hT (k2 _ _ (by omega) (by omega))⟩
theorem gfitI (σ : gMem) (a i : Nat) : fits .int (gfv σ .int a i) = true := rfl
theorem gfitO (C : String) (σ : gMem) (a i : Nat) : fits (.object C) (gfv σ (.object C) a i) = true := by
  show fits (.object C) (grv _) = true
  cases mR σ a i <;> rfl
theorem gfitA (t0 : FieldType) (σ : gMem) (a i : Nat) : fits (.array t0) (gfv σ (.array t0) a i) = true := by
  show fits (.array t0) (grv _) = true
  cases mR σ a i <;> rfl
theorem x_clonei {a idx : Nat} (q1 : Cond.methodLink μ.1.cls idx ⟨"[I", "clone", "()Ljava/lang/Object;"⟩ ∈ lw_all) (hd : decode μ.2.1 pc = .ok (.invokevirtual idx, 3)) (ht : mT σ a = 100) (hdm : 1 ≤ d) (hcat : (st.map gcat).sum ≤ 8) (k : GG F gE ω l d μ σ0 (pc + 3) lv (vR (mZ σ) :: st) (wK σ a 100) t) : GG F gE ω l d μ σ0 pc lv (vR a :: st) σ t := x_clone0 (j := 0) (ty := .int) q1 q629 q630 q631 hd (fun _ => rfl) rfl (by decide) (Or.inr ⟨fun _ h => (by cases h), rfl⟩) gfitI (fun s H locs hK hS hA => ⟨(gArr (j := 0) hS ht).2.1, gLikeA.of (gArr (j := 0) hS ht).1⟩) hdm hcat rfl k
theorem x_clonec {a idx : Nat} (q1 : Cond.methodLink μ.1.cls idx ⟨"[LSheetBranches$Content;", "clone", "()Ljava/lang/Object;"⟩ ∈ lw_all) (hd : decode μ.2.1 pc = .ok (.invokevirtual idx, 3)) (ht : mT σ a = 110) (hdm : 1 ≤ d) (hcat : (st.map gcat).sum ≤ 8) (k : GG F gE ω l d μ σ0 (pc + 3) lv (vR (mZ σ) :: st) (wK σ a 110) t) : GG F gE ω l d μ σ0 pc lv (vR a :: st) σ t := x_clone0 (j := 10) (ty := .object "SheetBranches$Content") q1 q641 q642 q643 hd (fun _ => rfl) rfl (by decide) (Or.inl ⟨_, rfl, rfl⟩) (gfitO _) (fun s H locs hK hS hA => ⟨(gArr (j := 10) hS ht).2.1, gLikeA.of (gArr (j := 10) hS ht).1⟩) hdm hcat rfl k
theorem x_cloned {a idx : Nat} (q1 : Cond.methodLink μ.1.cls idx ⟨"[[LSheetBranches$Content;", "clone", "()Ljava/lang/Object;"⟩ ∈ lw_all) (hd : decode μ.2.1 pc = .ok (.invokevirtual idx, 3)) (ht : mT σ a = 111) (hdm : 1 ≤ d) (hcat : (st.map gcat).sum ≤ 8) (k : GG F gE ω l d μ σ0 (pc + 3) lv (vR (mZ σ) :: st) (wK σ a 111) t) : GG F gE ω l d μ σ0 pc lv (vR a :: st) σ t := x_clone0 (j := 11) (ty := .array (.object "SheetBranches$Content")) q1 q634 q635 q636 hd (fun _ => rfl) rfl (by decide) (Or.inr ⟨fun _ h => (by cases h), rfl⟩) (gfitA _) (fun s H locs hK hS hA => ⟨(gArr (j := 11) hS ht).2.1, gLikeA.of (gArr (j := 11) hS ht).1⟩) hdm hcat rfl k
theorem x_cloneV {a idx : Nat} (q1 : Cond.methodLink μ.1.cls idx ⟨"[LSheetBranches$Name;", "clone", "()Ljava/lang/Object;"⟩ ∈ lw_all) (hd : decode μ.2.1 pc = .ok (.invokevirtual idx, 3)) (ht : mT σ a = 93) (hdm : 1 ≤ d) (hcat : (st.map gcat).sum ≤ 8) (k : GG F gE ω l d μ σ0 (pc + 3) lv (vR (mZ σ) :: st) (wK σ a 109) t) : GG F gE ω l d μ σ0 pc lv (vR a :: st) σ t := x_clone0 (j := 9) (ty := .object "SheetBranches$Name") q1 q474 q477 q478 hd (fun _ => rfl) rfl (by decide) (Or.inl ⟨_, rfl, rfl⟩) (gfitO _) (fun s H locs hK hS hA => by
  obtain ⟨rfl, hN, hv⟩ := (gold hS ht (by decide)).2.2.2.1 ht
  obtain ⟨g1, g2⟩ := (hK.2.2.1.kept hA.2.1).2.2.2.2.1
  obtain ⟨cell, c1, c2, c3, c4, c5⟩ := g1
  refine ⟨Nat.succ_ne_zero _, cell, c1, c2, c3, c4, c5.trans ?_⟩
  rw [hN]
  refine congrArg Cell.slots (garr_ext (fun j hj => ?_))
  show _ = grv (mR σ _ j)
  rw [hv j hj]
  rfl) hdm hcat rfl k
theorem x_copy0 {a b j idx : Nat} {sp dp n : Int} {ty : FieldType} {σ' : gMem} (q1 : Cond.methodLink μ.1.cls idx arraycopyName ∈ lw_all) (hd : decode μ.2.1 pc = .ok (.invokestatic idx, 3)) (hj : ∀ ω : gW, (gtys ω)[j]? = some (ω.A j, ty)) (hg : gaty j = ty)
    (h1 : mT σ a = 100 + j) (h2 : mT σ b = 100 + j) (h : (0 ≤ sp ∧ 0 ≤ dp ∧ 0 ≤ n) ∧ sp + n ≤ (mN σ a : Int) ∧ dp + n ≤ (mN σ b : Int)) (hdm : 1 ≤ d) (hcat : (st.map gcat).sum ≤ 8)
    (hfit : ∀ (s : State) (H : Heap), gKK ω s → gSim ω σ H → ∀ i, i < n.toNat → fits ty (gfv σ ty a (sp.toNat + i)) = true ∧ (refKind ty = true → ∀ y, gfv σ ty a (sp.toNat + i) = .ref y → ∃ cell : Cell, H[y]? = some cell ∧ cell.vm.isStatics = false ∧ (∃ kC, s.vm.classes[cell.cls]? = some kC) ∧ ∀ (comp : ClassId) (k1 : Class), s.vm.classes[ω.A j]? = some k1 → k1.kind = .array comp ty → (∃ kE, s.vm.classes[comp]? = some kE) ∧ s.vm.assignable cell.cls comp = true))
    (hm : gMany σ σ' b) (hv : ∀ i, gfv σ' ty b i = va_cpy (fun i => gfv σ ty a i) (fun i => gfv σ ty b i) sp.toNat dp.toNat n.toNat i) (hby : mT σ b = 102 → gBy σ → ∀ i, -128 ≤ mI σ' b i ∧ mI σ' b i ≤ 127) (hw : ∀ s, Rl σ' s → Rl σ s)
    (kk : GG F Rl ω l d μ σ0 (pc + 3) lv st σ' t) : GG F Rl ω l d μ σ0 pc lv (vI n :: vI dp :: vR b :: vI sp :: vR a :: st) σ t := fun ok a0 h' => by
  have z1 := hm.Z
  have z2 : mS σ' = mS σ := by unfold mS; rw [hm.2]
  have k0 := kk (hm.ok ok) a0 h'
  exact ⟨⟨hw _ k0.1.1, k0.1.2⟩, fun kc ks g1 g2 => g_copy q1 q1029 q1028 q243 hd hj hg h1 h2 h hdm hcat hfit hm hv hby (k0.2 kc ks (by rw [z1]; exact g1) (by rw [z2]; exact g2))⟩
theorem x_copyI {a b idx : Nat} {sp dp n : Int} (q1 : Cond.methodLink μ.1.cls idx arraycopyName ∈ lw_all) (hd : decode μ.2.1 pc = .ok (.invokestatic idx, 3)) (h1 : mT σ a = 100) (h2 : mT σ b = 100) (h : (0 ≤ sp ∧ 0 ≤ dp ∧ 0 ≤ n) ∧ sp + n ≤ (mN σ a : Int) ∧ dp + n ≤ (mN σ b : Int)) (hdm : 1 ≤ d) (hcat : (st.map gcat).sum ≤ 8) (hw : ∀ s, Rl (wCI σ a sp.toNat b dp.toNat n.toNat) s → Rl σ s)
    (kk : GG F Rl ω l d μ σ0 (pc + 3) lv st (wCI σ a sp.toNat b dp.toNat n.toNat) t) : GG F Rl ω l d μ σ0 pc lv (vI n :: vI dp :: vR b :: vI sp :: vR a :: st) σ t := x_copy0 (j := 0) (ty := .int) q1 hd (fun _ => rfl) rfl h1 h2 h hdm hcat (fun _ _ _ _ i _ => ⟨rfl, fun q => by cases q⟩) (gMany_CI _ _ _ _ _ _) (fun i => by
  show Value.int (if b = b ∧ _ then _ else _) = if _ then _ else _
  by_cases c : dp.toNat ≤ i ∧ i < dp.toNat + n.toNat
  · rw [if_pos ⟨rfl, c⟩, if_pos c]; rfl
  · rw [if_neg (fun z => c z.2), if_neg c]; rfl) (fun z => by rw [h2] at z; omega) hw kk
theorem gfitB {σ : gMem} {a i : Nat} (h : -128 ≤ mI σ a i ∧ mI σ a i ≤ 127) : fits .byte (gfv σ .byte a i) = true := by
  show fits .byte (.int (σ.1 a i)) = true
  rw [← mI_of σ a i]
  generalize mI σ a i = x at h
  have e1 : (-128 : Int32).toInt = -128 := by decide
  have e2 : (127 : Int32).toInt = 127 := by decide
  simp only [fits, Bool.and_eq_true, decide_eq_true_eq]
  exact ⟨by rw [Int32.le_iff_toInt_le, g32_of (by omega), e1]; exact h.1, by rw [Int32.le_iff_toInt_le, g32_of (by omega), e2]; exact h.2⟩
theorem x_copyB {a b idx : Nat} {sp dp n : Int} (q1 : Cond.methodLink μ.1.cls idx arraycopyName ∈ lw_all) (hd : decode μ.2.1 pc = .ok (.invokestatic idx, 3)) (h1 : mT σ a = 102) (h2 : mT σ b = 102) (h : (0 ≤ sp ∧ 0 ≤ dp ∧ 0 ≤ n) ∧ sp + n ≤ (mN σ a : Int) ∧ dp + n ≤ (mN σ b : Int)) (hdm : 1 ≤ d) (hcat : (st.map gcat).sum ≤ 8) (hw : ∀ s, Rl (wCI σ a sp.toNat b dp.toNat n.toNat) s → Rl σ s)
    (kk : GG F Rl ω l d μ σ0 (pc + 3) lv st (wCI σ a sp.toNat b dp.toNat n.toNat) t) : GG F Rl ω l d μ σ0 pc lv (vI n :: vI dp :: vR b :: vI sp :: vR a :: st) σ t := x_copy0 (j := 2) (ty := .byte) q1 hd (fun _ => rfl) rfl h1 h2 h hdm hcat (fun _ _ _ hS i _ => ⟨gfitB (hS.2.2.2.2.2.2 a _ h1), fun q => by cases q⟩) (gMany_CI _ _ _ _ _ _) (fun i => by
  show Value.int (if b = b ∧ _ then _ else _) = if _ then _ else _
  by_cases c : dp.toNat ≤ i ∧ i < dp.toNat + n.toNat
  · rw [if_pos ⟨rfl, c⟩, if_pos c]; rfl
  · rw [if_neg (fun z => c z.2), if_neg c]; rfl) (fun _ hB i => by
  have e : mI (wCI σ a sp.toNat b dp.toNat n.toNat) b i = if dp.toNat ≤ i ∧ i < dp.toNat + n.toNat then mI σ a (sp.toNat + (i - dp.toNat)) else mI σ b i := by
    show Int32.toInt (if b = b ∧ _ then _ else _) = _
    by_cases c : dp.toNat ≤ i ∧ i < dp.toNat + n.toNat
    · rw [if_pos ⟨rfl, c⟩, if_pos c]; rfl
    · rw [if_neg (fun z => c z.2), if_neg c]; rfl
  rw [e]
  by_cases c : dp.toNat ≤ i ∧ i < dp.toNat + n.toNat
  · rw [if_pos c]; exact hB a _ h1
  · rw [if_neg c]; exact hB b _ h2) hw kk
theorem x_copyL {a b idx : Nat} {sp dp n : Int} (q1 : Cond.methodLink μ.1.cls idx arraycopyName ∈ lw_all) (hd : decode μ.2.1 pc = .ok (.invokestatic idx, 3)) (h1 : mT σ a = 101) (h2 : mT σ b = 101) (h : (0 ≤ sp ∧ 0 ≤ dp ∧ 0 ≤ n) ∧ sp + n ≤ (mN σ a : Int) ∧ dp + n ≤ (mN σ b : Int)) (hdm : 1 ≤ d) (hcat : (st.map gcat).sum ≤ 8) (hw : ∀ s, Rl (wCL σ a sp.toNat b dp.toNat n.toNat) s → Rl σ s)
    (kk : GG F Rl ω l d μ σ0 (pc + 3) lv st (wCL σ a sp.toNat b dp.toNat n.toNat) t) : GG F Rl ω l d μ σ0 pc lv (vI n :: vI dp :: vR b :: vI sp :: vR a :: st) σ t := x_copy0 (j := 1) (ty := .long) q1 hd (fun _ => rfl) rfl h1 h2 h hdm hcat (fun _ _ _ _ i _ => ⟨rfl, fun q => by cases q⟩) (gMany_CL _ _ _ _ _ _) (fun i => by
  show Value.long (if b = b ∧ _ then _ else _) = if _ then _ else _
  by_cases c : dp.toNat ≤ i ∧ i < dp.toNat + n.toNat
  · rw [if_pos ⟨rfl, c⟩, if_pos c]; rfl
  · rw [if_neg (fun z => c z.2), if_neg c]; rfl) (fun z => by rw [h2] at z; omega) hw kk
theorem x_copyR {a b idx : Nat} {sp dp n : Int} (q1 : Cond.methodLink μ.1.cls idx arraycopyName ∈ lw_all) (hd : decode μ.2.1 pc = .ok (.invokestatic idx, 3)) (h1 : mT σ a = 106) (h2 : mT σ b = 106) (h : (0 ≤ sp ∧ 0 ≤ dp ∧ 0 ≤ n) ∧ sp + n ≤ (mN σ a : Int) ∧ dp + n ≤ (mN σ b : Int)) (hre : gRefs σ a sp.toNat n.toNat = true) (hdm : 1 ≤ d) (hcat : (st.map gcat).sum ≤ 8) (hw : ∀ s, Rl (wCR σ a sp.toNat b dp.toNat n.toNat) s → Rl σ s)
    (kk : GG F Rl ω l d μ σ0 (pc + 3) lv st (wCR σ a sp.toNat b dp.toNat n.toNat) t) : GG F Rl ω l d μ σ0 pc lv (vI n :: vI dp :: vR b :: vI sp :: vR a :: st) σ t := x_copy0 (j := 6) (ty := .object "SheetBranches$Conflict") q1 hd (fun _ => rfl) rfl h1 h2 h hdm hcat (fun s H hK hS i hi => ⟨gfitO _ _ _ _, fun _ y hy => by
    have h3 := List.all_eq_true.mp hre i (List.mem_range.mpr hi)
    simp only [Bool.or_eq_true, beq_iff_eq] at h3
    have hy2 : grv (mR σ a (sp.toNat + i)) = .ref y := hy
    have h0 : mR σ a (sp.toNat + i) ≠ 0 := fun e => by rw [e] at hy2; cases hy2
    have ht := h3.resolve_left h0
    obtain ⟨-, cv, kv, kA, kcp, comp, t2, s1, s2, s3, s4, s5, s6, s7, s8⟩ := gasg (j := 6) hK hS (v := mR σ a (sp.toNat + i)) (by rw [ht]; decide)
    rw [grv_pos h0] at hy2
    injection hy2 with hy2
    rw [hy2] at s1
    refine ⟨cv, s1, by rw [s2]; rfl, ⟨kv, s3⟩, fun comp2 k1 g1 g2 => ?_⟩
    cases Option.some.inj (g1.symm.trans s4)
    rw [s5] at g2
    injection g2 with g3 g4
    subst g3
    exact ⟨⟨kcp, s7⟩, s8⟩⟩) (gMany_CR _ _ _ _ _ _) (fun i => by
  show grv (if b = b ∧ _ then _ else _) = if _ then _ else _
  by_cases c : dp.toNat ≤ i ∧ i < dp.toNat + n.toNat
  · rw [if_pos ⟨rfl, c⟩, if_pos c]; rfl
  · rw [if_neg (fun z => c z.2), if_neg c]; rfl) (fun z => by rw [h2] at z; omega) hw kk
theorem x_throw0 {own X : String} {ik ic : Nat} {names : List String} (hl0 : l.stackTraces = false) (hex : gexOk own ic X names = true) (hnl : names.length ≤ 3) (hown : μ.1.cls = own) (q1 : Cond.classLink own ik X ∈ lw_all) (q2 : Cond.initialized X ∈ lw_all) (d0 : decode μ.2.1 pc = .ok (.new ik, 3)) (d3 : decode μ.2.1 (pc + 3) = .ok (.dup, 1)) (d4 : decode μ.2.1 (pc + 4) = .ok (.invokespecial ic, 3)) (d7 : decode μ.2.1 (pc + 7) = .ok (.athrow, 1)) (hout : ∀ x ∈ tableOf μ.2.2.2.2, covers x (pc + 7) = false) (hdm : 8 ≤ d) (hcat : (st.map gcat).sum ≤ 8) : GG (fun p : gR => p) gE ω l d μ σ0 pc lv st σ (some (.inr X, wX σ 6)) := fun ok a0 h => by
  injection h with h
  subst h
  have z1 : mZ (wX σ 6) = mZ σ + 1 := rfl
  have z2 : mS (wX σ 6) = mS σ + 6 := rfl
  exact ⟨⟨(gNew_X σ 6).E ok, trivial⟩, fun kc ks h1 h2 => g_throw0 hl0 hex hnl hown q1 q2 d0 d3 d4 d7 hout hdm hcat (by dsimp only at h1; omega) (by dsimp only at h2; omega) ⟨rfl, rfl⟩⟩
theorem x_makeW {ik ic : Nat} {names : List String} (hl0 : l.stackTraces = false) (hex : gexOk μ.1.cls ic "SheetBranches$Wrong" names = true) (hnl : names.length ≤ 3) (q1 : Cond.classLink μ.1.cls ik "SheetBranches$Wrong" ∈ lw_all) (q2 : Cond.initialized "SheetBranches$Wrong" ∈ lw_all) (d0 : decode μ.2.1 pc = .ok (.new ik, 3)) (d3 : decode μ.2.1 (pc + 3) = .ok (.dup, 1)) (d4 : decode μ.2.1 (pc + 4) = .ok (.invokespecial ic, 3)) (hdm : 8 ≤ d) (hcat : (st.map gcat).sum ≤ 8) (k : GG F gE ω l d μ σ0 (pc + 7) lv (vR (mZ σ) :: st) (wN σ 25 6) t) : GG F gE ω l d μ σ0 pc lv st σ t := fun ok a0 h => by
  have e0 := (gNew_N σ 25 6).E ok
  obtain ⟨⟨r1, r2⟩, k2⟩ := k (e0.2.2.2 ok) a0 h
  have z1 : mZ (wN σ 25 6) = mZ σ + 1 := rfl
  have z2 : mS (wN σ 25 6) = mS σ + 6 := rfl
  have z3 := r1.1
  have z4 := r1.2.1
  exact ⟨⟨e0.tr r1, r2⟩, fun kc ks h1 h2 => g_makeW hl0 hex hnl q1 q2 d0 d3 d4 hdm hcat (by omega) (by omega) (k2 _ _ (by omega) (by omega))⟩
theorem x_athrow {a : Nat} (hd : decode μ.2.1 pc = .ok (.athrow, 1)) (ht : mT σ a = 25) (hout : ∀ x ∈ tableOf μ.2.2.2.2, covers x pc = false) : GG (fun p : gR => p) gE ω l d μ σ0 pc lv (vR a :: st) σ (some (.inr "SheetBranches$Wrong", σ)) := fun ok a0 h => by
  injection h with h
  subst h
  exact ⟨⟨gE.rf, trivial⟩, fun kc ks h1 h2 => g_athrow hd ht (gx_out hout ⟨rfl, rfl⟩)⟩
/-! an exception under way: by which class -/
theorem x_xnone {E : String} : GGX F Rl ω l d μ σ0 pc lv st E σ none := fun _ a0 h => by cases h
theorem x_eqE {E : String} (X : String) (k1 : E = X → GGX F Rl ω l d μ σ0 pc lv st X σ t1) (k2 : E ≠ X → GGX F Rl ω l d μ σ0 pc lv st E σ t2) : GGX F Rl ω l d μ σ0 pc lv st E σ (if E = X then t1 else t2) := by
  by_cases c : E = X
  · rw [if_pos c]; subst c; exact k1 rfl
  · rw [if_neg c]; exact k2 c
theorem x_catchG {E nm : String} {tgt : Nat} (pre : List ExceptionTableEntry) (x : ExceptionTableEntry) (suf : List ExceptionTableEntry) (hsplit : tableOf μ.2.2.2.2 = pre ++ x :: suf) (hpass : ∀ z ∈ pre, z.catchType ≠ 0 ∧ ∃ nm2 : String, Cond.classLink μ.1.cls z.catchType nm2 ∈ lw_all ∧ (E, nm2) ∈ gnc) (hx : covers x pc = true) (h0 : x.catchType ≠ 0) (q1 : Cond.classLink μ.1.cls x.catchType nm ∈ lw_all) (q2 : Cond.castable E nm ∈ lw_tbl) (ht : x.handlerPc = tgt)
    (kk : ∀ q : Nat, GG F Rl ω l d μ σ0 tgt lv [vR q] σ t) : GGX F Rl ω l d μ σ0 pc lv st E σ t := fun ok a0 h => ⟨(kk 0 ok a0 h).1, fun kc ks h1 h2 => gx_catch pre x suf hsplit hpass hx h0 q1 q2 ht (fun q => (kk q ok a0 h).2 kc ks h1 h2)⟩
theorem x_catch0 {E : String} {tgt : Nat} {h0 : Nat × Nat × Nat × Nat} {hh : List (Nat × Nat × Nat × Nat)} (hs : μ.2.2.2.2 = h0 :: hh) (q1 : Cond.classLink μ.1.cls h0.2.2.2 E ∈ lw_all) (q2 : Cond.castable E E ∈ lw_tbl) (hc : (h0.1 ≤ pc ∧ pc < h0.2.1) ∧ h0.2.2.2 ≠ 0 ∧ h0.2.2.1 = tgt) (kk : ∀ q : Nat, GG F Rl ω l d μ σ0 tgt lv [vR q] σ t) : GGX F Rl ω l d μ σ0 pc lv st E σ t :=
  x_catchG [] (tableOf [h0]).head! (tableOf hh) (by rw [hs]; rfl) (fun z hz => nomatch hz) (gcov hc.1) hc.2.1 q1 q2 hc.2.2 kk
theorem x_catch1 {E E1 : String} {tgt : Nat} {h1 h0 : Nat × Nat × Nat × Nat} {hh : List (Nat × Nat × Nat × Nat)} (hs : μ.2.2.2.2 = h1 :: h0 :: hh) (q3 : Cond.classLink μ.1.cls h1.2.2.2 E1 ∈ lw_all) (n1 : h1.2.2.2 ≠ 0 ∧ (E, E1) ∈ gnc) (q1 : Cond.classLink μ.1.cls h0.2.2.2 E ∈ lw_all) (q2 : Cond.castable E E ∈ lw_tbl) (hc : (h0.1 ≤ pc ∧ pc < h0.2.1) ∧ h0.2.2.2 ≠ 0 ∧ h0.2.2.1 = tgt) (kk : ∀ q : Nat, GG F Rl ω l d μ σ0 tgt lv [vR q] σ t) : GGX F Rl ω l d μ σ0 pc lv st E σ t :=
  x_catchG (tableOf [h1]) (tableOf [h0]).head! (tableOf hh) (by rw [hs]; rfl) (fun z hz => by rw [List.mem_singleton.mp hz]; exact ⟨n1.1, E1, q3, n1.2⟩) (gcov hc.1) hc.2.1 q1 q2 hc.2.2 kk
theorem x_catch2 {E E1 E2 : String} {tgt : Nat} {h2 h1 h0 : Nat × Nat × Nat × Nat} {hh : List (Nat × Nat × Nat × Nat)} (hs : μ.2.2.2.2 = h2 :: h1 :: h0 :: hh) (q4 : Cond.classLink μ.1.cls h2.2.2.2 E2 ∈ lw_all) (n2 : h2.2.2.2 ≠ 0 ∧ (E, E2) ∈ gnc) (q3 : Cond.classLink μ.1.cls h1.2.2.2 E1 ∈ lw_all) (n1 : h1.2.2.2 ≠ 0 ∧ (E, E1) ∈ gnc) (q1 : Cond.classLink μ.1.cls h0.2.2.2 E ∈ lw_all) (q2 : Cond.castable E E ∈ lw_tbl) (hc : (h0.1 ≤ pc ∧ pc < h0.2.1) ∧ h0.2.2.2 ≠ 0 ∧ h0.2.2.1 = tgt) (kk : ∀ q : Nat, GG F Rl ω l d μ σ0 tgt lv [vR q] σ t) : GGX F Rl ω l d μ σ0 pc lv st E σ t :=
  x_catchG (tableOf [h2, h1]) (tableOf [h0]).head! (tableOf hh) (by rw [hs]; rfl) (fun z hz => by
    rcases List.mem_cons.mp hz with e | hz
    · rw [e]; exact ⟨n2.1, E2, q4, n2.2⟩
    · rw [List.mem_singleton.mp hz]; exact ⟨n1.1, E1, q3, n1.2⟩) (gcov hc.1) hc.2.1 q1 q2 hc.2.2 kk
theorem x_catch3 {E E1 E2 E3 : String} {tgt : Nat} {h3 h2 h1 h0 : Nat × Nat × Nat × Nat} {hh : List (Nat × Nat × Nat × Nat)} (hs : μ.2.2.2.2 = h3 :: h2 :: h1 :: h0 :: hh) (q5 : Cond.classLink μ.1.cls h3.2.2.2 E3 ∈ lw_all) (n3 : h3.2.2.2 ≠ 0 ∧ (E, E3) ∈ gnc) (q4 : Cond.classLink μ.1.cls h2.2.2.2 E2 ∈ lw_all) (n2 : h2.2.2.2 ≠ 0 ∧ (E, E2) ∈ gnc) (q3 : Cond.classLink μ.1.cls h1.2.2.2 E1 ∈ lw_all) (n1 : h1.2.2.2 ≠ 0 ∧ (E, E1) ∈ gnc) (q1 : Cond.classLink μ.1.cls h0.2.2.2 E ∈ lw_all) (q2 : Cond.castable E E ∈ lw_tbl) (hc : (h0.1 ≤ pc ∧ pc < h0.2.1) ∧ h0.2.2.2 ≠ 0 ∧ h0.2.2.1 = tgt) (kk : ∀ q : Nat, GG F Rl ω l d μ σ0 tgt lv [vR q] σ t) : GGX F Rl ω l d μ σ0 pc lv st E σ t :=
  x_catchG (tableOf [h3, h2, h1]) (tableOf [h0]).head! (tableOf hh) (by rw [hs]; rfl) (fun z hz => by
    rcases List.mem_cons.mp hz with e | hz
    · rw [e]; exact ⟨n3.1, E3, q5, n3.2⟩
    rcases List.mem_cons.mp hz with e | hz
    · rw [e]; exact ⟨n2.1, E2, q4, n2.2⟩
    · rw [List.mem_singleton.mp hz]; exact ⟨n1.1, E1, q3, n1.2⟩) (gcov hc.1) hc.2.1 q1 q2 hc.2.2 kk
theorem x_callF_pi {d' idx count b : Nat} {As st0 : List gV} {x0 : MethodName} {ret' : Option FieldType} {f : Option (Int)} {tc : Int → Option α} (hM : gKI (fun x => (.inl (some (vI x)), σ)) gE ω l d' x0 ret' (vR b :: As) σ f) (_ : gRel gE) (_ : gRel gE) (_ : ∀ s, gE σ s → gE σ s) (q0 : Cond.methodLink μ.1.cls idx x0 ∈ lw_all) (hd : decode μ.2.1 pc = .ok (.invokeinterface idx count, 5)) (hy : x0.cls ≠ "java/lang/invoke/MethodHandle" ∧ x0.cls ≠ "java/lang/invoke/VarHandle" ∧ (parseMethodDescriptor x0.desc).map (fun d => d.parameters.length) = some As.length) (hdm : d' + 1 ≤ d) (hs : st0 = As.reverse ++ vR b :: st) (hcat : (st.map gcat).sum ≤ 8) (kk : ∀ x, g32 x → GG F gE ω l d μ σ0 (pc + 5) lv (vI x :: st) (σ) (tc x)) : GG F gE ω l d μ σ0 pc lv st0 σ (f.bind tc) := by
  intro ok a0 h
  obtain ⟨x, hb, hq⟩ := Option.bind_eq_some_iff.mp h
  obtain ⟨b2, As2, ci, N, T, y, cc, nL, e0, hc, ht, hfw, w1, w2, w3, w4, hnl, ⟨k1, k0⟩, k2⟩ := hM ok x hb
  injection e0 with e1 e2
  injection e1 with e1
  injection e1 with e1
  subst e1; subst e2
  have k3 := kk x k0 (k1.2.2.2 ok) a0 hq
  have m1 := k1
  have m2 := k3.1.1
  refine ⟨⟨gE.tr k1 k3.1.1, k3.1.2⟩, fun kc ks h1 h2 => ?_⟩
  dsimp only at m1 m2 k3 k2
  have m11 := m1.1
  have m12 := m1.2.1
  have m21 := m2.1
  have m22 := m2.2.1
  refine g_callF k2.no q0 hfw w1 w2 w3 w4 hd hc ht hy hdm hnl ⟨by omega, by omega⟩ hs hcat (fun v' σ' hp hE => ?_)
  obtain ⟨e1, e2⟩ := hp
  injection e1 with e1
  subst e1; subst e2
  exact k3.2 _ _ (by omega) (by omega)
theorem x_callF_mv {d' idx count b : Nat} {As st0 : List gV} {x0 : MethodName} {ret' : Option FieldType} {f : Option (gMem)} {tc : gMem → Option α} (hM : gKI (fun p => (.inl none, p)) gE ω l d' x0 ret' (vR b :: As) σ f) (_ : gRel gE) (_ : gRel gE) (_ : ∀ s, gE σ s → gE σ s) (q0 : Cond.methodLink μ.1.cls idx x0 ∈ lw_all) (hd : decode μ.2.1 pc = .ok (.invokeinterface idx count, 5)) (hy : x0.cls ≠ "java/lang/invoke/MethodHandle" ∧ x0.cls ≠ "java/lang/invoke/VarHandle" ∧ (parseMethodDescriptor x0.desc).map (fun d => d.parameters.length) = some As.length) (hdm : d' + 1 ≤ d) (hs : st0 = As.reverse ++ vR b :: st) (hcat : (st.map gcat).sum ≤ 8) (kk : ∀ p, gE σ (p) → GG F gE ω l d μ σ0 (pc + 5) lv st (p) (tc p)) : GG F gE ω l d μ σ0 pc lv st0 σ (f.bind tc) := by
  intro ok a0 h
  obtain ⟨p, hb, hq⟩ := Option.bind_eq_some_iff.mp h
  obtain ⟨b2, As2, ci, N, T, y, cc, nL, e0, hc, ht, hfw, w1, w2, w3, w4, hnl, ⟨k1, k0⟩, k2⟩ := hM ok p hb
  injection e0 with e1 e2
  injection e1 with e1
  injection e1 with e1
  subst e1; subst e2
  have k3 := kk p k1 (k1.2.2.2 ok) a0 hq
  have m1 := k1
  have m2 := k3.1.1
  refine ⟨⟨gE.tr k1 k3.1.1, k3.1.2⟩, fun kc ks h1 h2 => ?_⟩
  dsimp only at m1 m2 k3 k2
  have m11 := m1.1
  have m12 := m1.2.1
  have m21 := m2.1
  have m22 := m2.2.1
  refine g_callF k2.no q0 hfw w1 w2 w3 w4 hd hc ht hy hdm hnl ⟨by omega, by omega⟩ hs hcat (fun v' σ' hp hE => ?_)
  obtain ⟨e1, e2⟩ := hp
  injection e1 with e1
  subst e1; subst e2
  exact k3.2 _ _ (by omega) (by omega)
theorem x_callF_mr {d' idx count b : Nat} {As st0 : List gV} {x0 : MethodName} {ret' : Option FieldType} {f : Option (Nat × gMem)} {tc : Nat × gMem → Option α} (hM : gKI (fun p => (.inl (some (vR p.1)), p.2)) gE ω l d' x0 ret' (vR b :: As) σ f) (_ : gRel gE) (_ : gRel gE) (_ : ∀ s, gE σ s → gE σ s) (q0 : Cond.methodLink μ.1.cls idx x0 ∈ lw_all) (hd : decode μ.2.1 pc = .ok (.invokeinterface idx count, 5)) (hy : x0.cls ≠ "java/lang/invoke/MethodHandle" ∧ x0.cls ≠ "java/lang/invoke/VarHandle" ∧ (parseMethodDescriptor x0.desc).map (fun d => d.parameters.length) = some As.length) (hdm : d' + 1 ≤ d) (hs : st0 = As.reverse ++ vR b :: st) (hcat : (st.map gcat).sum ≤ 8) (kk : ∀ p, gE σ (p.2) → GG F gE ω l d μ σ0 (pc + 5) lv (vR p.1 :: st) (p.2) (tc p)) : GG F gE ω l d μ σ0 pc lv st0 σ (f.bind tc) := by
  intro ok a0 h
  obtain ⟨p, hb, hq⟩ := Option.bind_eq_some_iff.mp h
  obtain ⟨b2, As2, ci, N, T, y, cc, nL, e0, hc, ht, hfw, w1, w2, w3, w4, hnl, ⟨k1, k0⟩, k2⟩ := hM ok p hb
  injection e0 with e1 e2
  injection e1 with e1
  injection e1 with e1
  subst e1; subst e2
  have k3 := kk p k1 (k1.2.2.2 ok) a0 hq
  have m1 := k1
  have m2 := k3.1.1
  refine ⟨⟨gE.tr k1 k3.1.1, k3.1.2⟩, fun kc ks h1 h2 => ?_⟩
  dsimp only at m1 m2 k3 k2
  have m11 := m1.1
  have m12 := m1.2.1
  have m21 := m2.1
  have m22 := m2.2.1
  refine g_callF k2.no q0 hfw w1 w2 w3 w4 hd hc ht hy hdm hnl ⟨by omega, by omega⟩ hs hcat (fun v' σ' hp hE => ?_)
  obtain ⟨e1, e2⟩ := hp
  injection e1 with e1
  subst e1; subst e2
  exact k3.2 _ _ (by omega) (by omega)
theorem x_callV_xi {d' idx b ci N nL' : Nat} {As st0 : List gV} {y' : MethodName} {cc' : ByteArray} {ret' : Option FieldType} {T : u_T} {f : Option gR} {tc : Int → gMem → Option gR} (hM : gK (fun p : gR => p) gE ω l d' (y', cc', nL', ret', []) (vR b :: As) σ f) (q1 : Cond.methodLink μ.1.cls idx y' ∈ lw_all) (q2 : Cond.instanceMethod y' ∈ lw_all) (q3 : Cond.selects y'.cls y' y' ∈ lw_all) (q4 : Cond.initialized y'.cls ∈ lw_all) (q5 : Cond.code y' cc' nL' ret' ∈ lw_all) (hd : decode μ.2.1 pc = .ok (.invokevirtual idx, 3)) (hc : gcl[ci]? = some (y'.cls, T, N)) (ht : mT σ b = ci + 1) (hy : y'.cls ≠ "java/lang/invoke/MethodHandle" ∧ y'.cls ≠ "java/lang/invoke/VarHandle" ∧ (parseMethodDescriptor y'.desc).map (fun d => d.parameters.length) = some As.length) (hdm : d' + 1 ≤ d) (hnl : nL' ≤ 45) (hs : st0 = As.reverse ++ vR b :: st) (hcat : (st.map gcat).sum ≤ 8) (hout : ∀ x ∈ tableOf μ.2.2.2.2, covers x pc = false) (kk : ∀ (x : Int) (s : gMem), gE σ s → g32 x → GG (fun p : gR => p) gE ω l d μ σ0 (pc + 3) lv (vI x :: st) s (tc x s))  : GG (fun p : gR => p) gE ω l d μ σ0 pc lv st0 σ (f.bind (fun p => gThrI p tc)) := by
  intro ok a0 h
  obtain ⟨⟨p1, s⟩, hb, hq⟩ := Option.bind_eq_some_iff.mp h
  obtain ⟨⟨k1, k0⟩, k2⟩ := hM ok (p1, s) hb
  dsimp only at k1 k0 k2
  have m11 := k1.1
  have m12 := k1.2.1
  rcases p1 with p1 | E
  · have key : ∃ x, p1 = some (.inl x) := by
      rcases p1 with _ | ⟨x | x | x⟩ <;> first | exact ⟨_, rfl⟩ | exact ⟨(), rfl⟩ | (simp [gThrI] at hq)
    obtain ⟨x, rfl⟩ := key
    have hq : tc x s = some a0 := hq
    have k3 := kk x s k1 k0 (k1.2.2.2 ok) a0 hq
    have m2 := k3.1.1
    have m21 := m2.1
    have m22 := m2.2.1
    refine ⟨⟨gE.tr k1 k3.1.1, k3.1.2⟩, fun kc ks h1 h2 => ?_⟩
    refine g_xcallV k2 q1 q2 q3 q4 q5 hd hc ht hy hdm hnl ⟨by omega, by omega⟩ hs hcat (fun v' σ' hp hE => ?_) (fun E σ' hp hE => absurd hp.1 (fun q => by cases q))
    obtain ⟨e1, e2⟩ := hp
    injection e1 with e1
    subst e1; subst e2
    exact k3.2 _ _ (by omega) (by omega)
  · have hq : some ((Sum.inr E, s) : gR) = some a0 := hq
    injection hq with hq
    subst hq
    refine ⟨⟨k1, trivial⟩, fun kc ks h1 h2 => ?_⟩
    dsimp only at h1 h2
    refine g_xcallV k2 q1 q2 q3 q4 q5 hd hc ht hy hdm hnl ⟨by omega, by omega⟩ hs hcat (fun v' σ' hp hE => absurd hp.1 (fun q => by cases q)) (fun E2 σ' hp hE => ?_)
    obtain ⟨e1, e2⟩ := hp
    injection e1 with e1
    subst e1; subst e2
    exact gx_out hout ⟨rfl, rfl⟩
theorem x_callV_ti {d' idx b ci N nL' : Nat} {As st0 : List gV} {y' : MethodName} {cc' : ByteArray} {ret' : Option FieldType} {T : u_T} {f : Option gR} {tc : Int → gMem → Option α} {th : String → gMem → Option α} (hM : gK (fun p : gR => p) gE ω l d' (y', cc', nL', ret', []) (vR b :: As) σ f) (q1 : Cond.methodLink μ.1.cls idx y' ∈ lw_all) (q2 : Cond.instanceMethod y' ∈ lw_all) (q3 : Cond.selects y'.cls y' y' ∈ lw_all) (q4 : Cond.initialized y'.cls ∈ lw_all) (q5 : Cond.code y' cc' nL' ret' ∈ lw_all) (hd : decode μ.2.1 pc = .ok (.invokevirtual idx, 3)) (hc : gcl[ci]? = some (y'.cls, T, N)) (ht : mT σ b = ci + 1) (hy : y'.cls ≠ "java/lang/invoke/MethodHandle" ∧ y'.cls ≠ "java/lang/invoke/VarHandle" ∧ (parseMethodDescriptor y'.desc).map (fun d => d.parameters.length) = some As.length) (hdm : d' + 1 ≤ d) (hnl : nL' ≤ 45) (hs : st0 = As.reverse ++ vR b :: st) (hcat : (st.map gcat).sum ≤ 8) (kk : ∀ (x : Int) (s : gMem), gE σ s → g32 x → GG F gE ω l d μ σ0 (pc + 3) lv (vI x :: st) s (tc x s)) (kx : ∀ (E : String) (s : gMem), gE σ s → GGX F gE ω l d μ σ0 pc lv st E s (th E s)) : GG F gE ω l d μ σ0 pc lv st0 σ (f.bind (fun p => gTryI p tc th)) := by
  intro ok a0 h
  obtain ⟨⟨p1, s⟩, hb, hq⟩ := Option.bind_eq_some_iff.mp h
  obtain ⟨⟨k1, k0⟩, k2⟩ := hM ok (p1, s) hb
  dsimp only at k1 k0 k2
  have m11 := k1.1
  have m12 := k1.2.1
  rcases p1 with p1 | E
  · have key : ∃ x, p1 = some (.inl x) := by
      rcases p1 with _ | ⟨x | x | x⟩ <;> first | exact ⟨_, rfl⟩ | exact ⟨(), rfl⟩ | (simp [gTryI] at hq)
    obtain ⟨x, rfl⟩ := key
    have hq : tc x s = some a0 := hq
    have k3 := kk x s k1 k0 (k1.2.2.2 ok) a0 hq
    have m2 := k3.1.1
    have m21 := m2.1
    have m22 := m2.2.1
    refine ⟨⟨gE.tr k1 k3.1.1, k3.1.2⟩, fun kc ks h1 h2 => ?_⟩
    refine g_xcallV k2 q1 q2 q3 q4 q5 hd hc ht hy hdm hnl ⟨by omega, by omega⟩ hs hcat (fun v' σ' hp hE => ?_) (fun E σ' hp hE => absurd hp.1 (fun q => by cases q))
    obtain ⟨e1, e2⟩ := hp
    injection e1 with e1
    subst e1; subst e2
    exact k3.2 _ _ (by omega) (by omega)
  · have hq : th E s = some a0 := hq
    have k3 := kx E s k1 (k1.2.2.2 ok) a0 hq
    have m2 := k3.1.1
    have m21 := m2.1
    have m22 := m2.2.1
    refine ⟨⟨gE.tr k1 k3.1.1, k3.1.2⟩, fun kc ks h1 h2 => ?_⟩
    refine g_xcallV k2 q1 q2 q3 q4 q5 hd hc ht hy hdm hnl ⟨by omega, by omega⟩ hs hcat (fun v' σ' hp hE => absurd hp.1 (fun q => by cases q)) (fun E2 σ' hp hE => ?_)
    obtain ⟨e1, e2⟩ := hp
    injection e1 with e1
    subst e1; subst e2
    exact k3.2 _ _ (by omega) (by omega)
theorem x_callV_xr {d' idx b ci N nL' : Nat} {As st0 : List gV} {y' : MethodName} {cc' : ByteArray} {ret' : Option FieldType} {T : u_T} {f : Option gR} {tc : Nat → gMem → Option gR} (hM : gK (fun p : gR => p) gE ω l d' (y', cc', nL', ret', []) (vR b :: As) σ f) (q1 : Cond.methodLink μ.1.cls idx y' ∈ lw_all) (q2 : Cond.instanceMethod y' ∈ lw_all) (q3 : Cond.selects y'.cls y' y' ∈ lw_all) (q4 : Cond.initialized y'.cls ∈ lw_all) (q5 : Cond.code y' cc' nL' ret' ∈ lw_all) (hd : decode μ.2.1 pc = .ok (.invokevirtual idx, 3)) (hc : gcl[ci]? = some (y'.cls, T, N)) (ht : mT σ b = ci + 1) (hy : y'.cls ≠ "java/lang/invoke/MethodHandle" ∧ y'.cls ≠ "java/lang/invoke/VarHandle" ∧ (parseMethodDescriptor y'.desc).map (fun d => d.parameters.length) = some As.length) (hdm : d' + 1 ≤ d) (hnl : nL' ≤ 45) (hs : st0 = As.reverse ++ vR b :: st) (hcat : (st.map gcat).sum ≤ 8) (hout : ∀ x ∈ tableOf μ.2.2.2.2, covers x pc = false) (kk : ∀ (x : Nat) (s : gMem), gE σ s → GG (fun p : gR => p) gE ω l d μ σ0 (pc + 3) lv (vR x :: st) s (tc x s))  : GG (fun p : gR => p) gE ω l d μ σ0 pc lv st0 σ (f.bind (fun p => gThrR p tc)) := by
  intro ok a0 h
  obtain ⟨⟨p1, s⟩, hb, hq⟩ := Option.bind_eq_some_iff.mp h
  obtain ⟨⟨k1, k0⟩, k2⟩ := hM ok (p1, s) hb
  dsimp only at k1 k0 k2
  have m11 := k1.1
  have m12 := k1.2.1
  rcases p1 with p1 | E
  · have key : ∃ x, p1 = some (.inr (.inr x)) := by
      rcases p1 with _ | ⟨x | x | x⟩ <;> first | exact ⟨_, rfl⟩ | exact ⟨(), rfl⟩ | (simp [gThrR] at hq)
    obtain ⟨x, rfl⟩ := key
    have hq : tc x s = some a0 := hq
    have k3 := kk x s k1 (k1.2.2.2 ok) a0 hq
    have m2 := k3.1.1
    have m21 := m2.1
    have m22 := m2.2.1
    refine ⟨⟨gE.tr k1 k3.1.1, k3.1.2⟩, fun kc ks h1 h2 => ?_⟩
    refine g_xcallV k2 q1 q2 q3 q4 q5 hd hc ht hy hdm hnl ⟨by omega, by omega⟩ hs hcat (fun v' σ' hp hE => ?_) (fun E σ' hp hE => absurd hp.1 (fun q => by cases q))
    obtain ⟨e1, e2⟩ := hp
    injection e1 with e1
    subst e1; subst e2
    exact k3.2 _ _ (by omega) (by omega)
  · have hq : some ((Sum.inr E, s) : gR) = some a0 := hq
    injection hq with hq
    subst hq
    refine ⟨⟨k1, trivial⟩, fun kc ks h1 h2 => ?_⟩
    dsimp only at h1 h2
    refine g_xcallV k2 q1 q2 q3 q4 q5 hd hc ht hy hdm hnl ⟨by omega, by omega⟩ hs hcat (fun v' σ' hp hE => absurd hp.1 (fun q => by cases q)) (fun E2 σ' hp hE => ?_)
    obtain ⟨e1, e2⟩ := hp
    injection e1 with e1
    subst e1; subst e2
    exact gx_out hout ⟨rfl, rfl⟩
theorem x_callV_xv {d' idx b ci N nL' : Nat} {As st0 : List gV} {y' : MethodName} {cc' : ByteArray} {ret' : Option FieldType} {T : u_T} {f : Option gR} {tc : gMem → Option gR} (hM : gK (fun p : gR => p) gE ω l d' (y', cc', nL', ret', []) (vR b :: As) σ f) (q1 : Cond.methodLink μ.1.cls idx y' ∈ lw_all) (q2 : Cond.instanceMethod y' ∈ lw_all) (q3 : Cond.selects y'.cls y' y' ∈ lw_all) (q4 : Cond.initialized y'.cls ∈ lw_all) (q5 : Cond.code y' cc' nL' ret' ∈ lw_all) (hd : decode μ.2.1 pc = .ok (.invokevirtual idx, 3)) (hc : gcl[ci]? = some (y'.cls, T, N)) (ht : mT σ b = ci + 1) (hy : y'.cls ≠ "java/lang/invoke/MethodHandle" ∧ y'.cls ≠ "java/lang/invoke/VarHandle" ∧ (parseMethodDescriptor y'.desc).map (fun d => d.parameters.length) = some As.length) (hdm : d' + 1 ≤ d) (hnl : nL' ≤ 45) (hs : st0 = As.reverse ++ vR b :: st) (hcat : (st.map gcat).sum ≤ 8) (hout : ∀ x ∈ tableOf μ.2.2.2.2, covers x pc = false) (kk : ∀ (s : gMem), gE σ s → GG (fun p : gR => p) gE ω l d μ σ0 (pc + 3) lv st s (tc s))  : GG (fun p : gR => p) gE ω l d μ σ0 pc lv st0 σ (f.bind (fun p => gThrV p tc)) := by
  intro ok a0 h
  obtain ⟨⟨p1, s⟩, hb, hq⟩ := Option.bind_eq_some_iff.mp h
  obtain ⟨⟨k1, k0⟩, k2⟩ := hM ok (p1, s) hb
  dsimp only at k1 k0 k2
  have m11 := k1.1
  have m12 := k1.2.1
  rcases p1 with p1 | E
  · have key : ∃ _ : Unit, p1 = none := by
      rcases p1 with _ | ⟨x | x | x⟩ <;> first | exact ⟨_, rfl⟩ | exact ⟨(), rfl⟩ | (simp [gThrV] at hq)
    obtain ⟨x, rfl⟩ := key
    have hq : tc s = some a0 := hq
    have k3 := kk s k1 (k1.2.2.2 ok) a0 hq
    have m2 := k3.1.1
    have m21 := m2.1
    have m22 := m2.2.1
    refine ⟨⟨gE.tr k1 k3.1.1, k3.1.2⟩, fun kc ks h1 h2 => ?_⟩
    refine g_xcallV k2 q1 q2 q3 q4 q5 hd hc ht hy hdm hnl ⟨by omega, by omega⟩ hs hcat (fun v' σ' hp hE => ?_) (fun E σ' hp hE => absurd hp.1 (fun q => by cases q))
    obtain ⟨e1, e2⟩ := hp
    injection e1 with e1
    subst e1; subst e2
    exact k3.2 _ _ (by omega) (by omega)
  · have hq : some ((Sum.inr E, s) : gR) = some a0 := hq
    injection hq with hq
    subst hq
    refine ⟨⟨k1, trivial⟩, fun kc ks h1 h2 => ?_⟩
    dsimp only at h1 h2
    refine g_xcallV k2 q1 q2 q3 q4 q5 hd hc ht hy hdm hnl ⟨by omega, by omega⟩ hs hcat (fun v' σ' hp hE => absurd hp.1 (fun q => by cases q)) (fun E2 σ' hp hE => ?_)
    obtain ⟨e1, e2⟩ := hp
    injection e1 with e1
    subst e1; subst e2
    exact gx_out hout ⟨rfl, rfl⟩
theorem x_callV_tv {d' idx b ci N nL' : Nat} {As st0 : List gV} {y' : MethodName} {cc' : ByteArray} {ret' : Option FieldType} {T : u_T} {f : Option gR} {tc : gMem → Option α} {th : String → gMem → Option α} (hM : gK (fun p : gR => p) gE ω l d' (y', cc', nL', ret', []) (vR b :: As) σ f) (q1 : Cond.methodLink μ.1.cls idx y' ∈ lw_all) (q2 : Cond.instanceMethod y' ∈ lw_all) (q3 : Cond.selects y'.cls y' y' ∈ lw_all) (q4 : Cond.initialized y'.cls ∈ lw_all) (q5 : Cond.code y' cc' nL' ret' ∈ lw_all) (hd : decode μ.2.1 pc = .ok (.invokevirtual idx, 3)) (hc : gcl[ci]? = some (y'.cls, T, N)) (ht : mT σ b = ci + 1) (hy : y'.cls ≠ "java/lang/invoke/MethodHandle" ∧ y'.cls ≠ "java/lang/invoke/VarHandle" ∧ (parseMethodDescriptor y'.desc).map (fun d => d.parameters.length) = some As.length) (hdm : d' + 1 ≤ d) (hnl : nL' ≤ 45) (hs : st0 = As.reverse ++ vR b :: st) (hcat : (st.map gcat).sum ≤ 8) (kk : ∀ (s : gMem), gE σ s → GG F gE ω l d μ σ0 (pc + 3) lv st s (tc s)) (kx : ∀ (E : String) (s : gMem), gE σ s → GGX F gE ω l d μ σ0 pc lv st E s (th E s)) : GG F gE ω l d μ σ0 pc lv st0 σ (f.bind (fun p => gTryV p tc th)) := by
  intro ok a0 h
  obtain ⟨⟨p1, s⟩, hb, hq⟩ := Option.bind_eq_some_iff.mp h
  obtain ⟨⟨k1, k0⟩, k2⟩ := hM ok (p1, s) hb
  dsimp only at k1 k0 k2
  have m11 := k1.1
  have m12 := k1.2.1
  rcases p1 with p1 | E
  · have key : ∃ _ : Unit, p1 = none := by
      rcases p1 with _ | ⟨x | x | x⟩ <;> first | exact ⟨_, rfl⟩ | exact ⟨(), rfl⟩ | (simp [gTryV] at hq)
    obtain ⟨x, rfl⟩ := key
    have hq : tc s = some a0 := hq
    have k3 := kk s k1 (k1.2.2.2 ok) a0 hq
    have m2 := k3.1.1
    have m21 := m2.1
    have m22 := m2.2.1
    refine ⟨⟨gE.tr k1 k3.1.1, k3.1.2⟩, fun kc ks h1 h2 => ?_⟩
    refine g_xcallV k2 q1 q2 q3 q4 q5 hd hc ht hy hdm hnl ⟨by omega, by omega⟩ hs hcat (fun v' σ' hp hE => ?_) (fun E σ' hp hE => absurd hp.1 (fun q => by cases q))
    obtain ⟨e1, e2⟩ := hp
    injection e1 with e1
    subst e1; subst e2
    exact k3.2 _ _ (by omega) (by omega)
  · have hq : th E s = some a0 := hq
    have k3 := kx E s k1 (k1.2.2.2 ok) a0 hq
    have m2 := k3.1.1
    have m21 := m2.1
    have m22 := m2.2.1
    refine ⟨⟨gE.tr k1 k3.1.1, k3.1.2⟩, fun kc ks h1 h2 => ?_⟩
    refine g_xcallV k2 q1 q2 q3 q4 q5 hd hc ht hy hdm hnl ⟨by omega, by omega⟩ hs hcat (fun v' σ' hp hE => absurd hp.1 (fun q => by cases q)) (fun E2 σ' hp hE => ?_)
    obtain ⟨e1, e2⟩ := hp
    injection e1 with e1
    subst e1; subst e2
    exact k3.2 _ _ (by omega) (by omega)
theorem x_callVW_ti {d' idx b ci N nL' : Nat} {As st0 : List gV} {y' : MethodName} {cc' : ByteArray} {ret' : Option FieldType} {T : u_T} {hh0 : Nat × Nat × Nat × Nat} {hh : List (Nat × Nat × Nat × Nat)} {f : Option gR} {tc : Int → gMem → Option α} {th : String → gMem → Option α} (hM : gK (fun p : gR => p) gE ω l d' (y', cc', nL', ret', hh0 :: hh) (vR b :: As) σ f) (q1 : Cond.methodLink μ.1.cls idx y' ∈ lw_all) (q2 : Cond.instanceMethod y' ∈ lw_all) (q3 : Cond.selects y'.cls y' y' ∈ lw_all) (q4 : Cond.initialized y'.cls ∈ lw_all) (q5 : Cond.codeWith y' cc' nL' ret' (hh0 :: hh) ∈ lw_all) (hd : decode μ.2.1 pc = .ok (.invokevirtual idx, 3)) (hc : gcl[ci]? = some (y'.cls, T, N)) (ht : mT σ b = ci + 1) (hy : y'.cls ≠ "java/lang/invoke/MethodHandle" ∧ y'.cls ≠ "java/lang/invoke/VarHandle" ∧ (parseMethodDescriptor y'.desc).map (fun d => d.parameters.length) = some As.length) (hdm : d' + 1 ≤ d) (hnl : nL' ≤ 45) (hs : st0 = As.reverse ++ vR b :: st) (hcat : (st.map gcat).sum ≤ 8) (kk : ∀ (x : Int) (s : gMem), gE σ s → g32 x → GG F gE ω l d μ σ0 (pc + 3) lv (vI x :: st) s (tc x s)) (kx : ∀ (E : String) (s : gMem), gE σ s → GGX F gE ω l d μ σ0 pc lv st E s (th E s)) : GG F gE ω l d μ σ0 pc lv st0 σ (f.bind (fun p => gTryI p tc th)) := by
  intro ok a0 h
  obtain ⟨⟨p1, s⟩, hb, hq⟩ := Option.bind_eq_some_iff.mp h
  obtain ⟨⟨k1, k0⟩, k2⟩ := hM ok (p1, s) hb
  dsimp only at k1 k0 k2
  have m11 := k1.1
  have m12 := k1.2.1
  rcases p1 with p1 | E
  · have key : ∃ x, p1 = some (.inl x) := by
      rcases p1 with _ | ⟨x | x | x⟩ <;> first | exact ⟨_, rfl⟩ | exact ⟨(), rfl⟩ | (simp [gTryI] at hq)
    obtain ⟨x, rfl⟩ := key
    have hq : tc x s = some a0 := hq
    have k3 := kk x s k1 k0 (k1.2.2.2 ok) a0 hq
    have m2 := k3.1.1
    have m21 := m2.1
    have m22 := m2.2.1
    refine ⟨⟨gE.tr k1 k3.1.1, k3.1.2⟩, fun kc ks h1 h2 => ?_⟩
    refine g_xcallVW k2 q1 q2 q3 q4 q5 hd hc ht hy hdm hnl ⟨by omega, by omega⟩ hs hcat (fun v' σ' hp hE => ?_) (fun E σ' hp hE => absurd hp.1 (fun q => by cases q))
    obtain ⟨e1, e2⟩ := hp
    injection e1 with e1
    subst e1; subst e2
    exact k3.2 _ _ (by omega) (by omega)
  · have hq : th E s = some a0 := hq
    have k3 := kx E s k1 (k1.2.2.2 ok) a0 hq
    have m2 := k3.1.1
    have m21 := m2.1
    have m22 := m2.2.1
    refine ⟨⟨gE.tr k1 k3.1.1, k3.1.2⟩, fun kc ks h1 h2 => ?_⟩
    refine g_xcallVW k2 q1 q2 q3 q4 q5 hd hc ht hy hdm hnl ⟨by omega, by omega⟩ hs hcat (fun v' σ' hp hE => absurd hp.1 (fun q => by cases q)) (fun E2 σ' hp hE => ?_)
    obtain ⟨e1, e2⟩ := hp
    injection e1 with e1
    subst e1; subst e2
    exact k3.2 _ _ (by omega) (by omega)
theorem x_sclen {a : Nat} (hd : decode μ.2.1 pc = .ok (.arraylength, 1)) (ht : mT σ a = 94) (k : GG F Rl ω l d μ σ0 (pc + 1) lv (vI (mN σ a : Int) :: st) σ t) : GG F Rl ω l d μ σ0 pc lv (vR a :: st) σ t := fun ok a0 h => ⟨(k ok a0 h).1, fun kc ks h1 h2 => g_sclen hd ht ((k ok a0 h).2 kc ks h1 h2)⟩
theorem x_scald {a : Nat} {i : Int} (hd : decode μ.2.1 pc = .ok (.iaload, 1)) (ht : mT σ a = 94) (kk : g32 (mI σ a i.toNat) → GG F Rl ω l d μ σ0 (pc + 1) lv (vI (mI σ a i.toNat) :: st) σ t) : GG F Rl ω l d μ σ0 pc lv (vI i :: vR a :: st) σ (if 0 ≤ i ∧ i < (mN σ a : Int) then t else none) := x_if (fun hi ok a0 h => ⟨(kk (mI_rng _ _ _) ok a0 h).1, fun kc ks h1 h2 => g_scald hd ht hi ((kk (mI_rng _ _ _) ok a0 h).2 kc ks h1 h2)⟩)
theorem x_callSW_mi {d' idx nL' : Nat} {As st0 : List gV} {y' : MethodName} {cc' : ByteArray} {ret' : Option FieldType} {hh0 : Nat × Nat × Nat × Nat} {hh : List (Nat × Nat × Nat × Nat)} {Rl' : gMem → gMem → Prop} {f : Option (Int × gMem)} {tc : Int × gMem → Option α} (hM : gK (fun p => (.inl (some (vI p.1)), p.2)) Rl' ω l d' (y', cc', nL', ret', hh0 :: hh) As σ f) (hRl : gRel Rl) (hRl' : gRel Rl') (hw : ∀ s, Rl' σ s → Rl σ s) (q1 : Cond.methodLink μ.1.cls idx y' ∈ lw_all) (q2 : Cond.static y' ∈ lw_all) (q4 : Cond.initialized y'.cls ∈ lw_all) (q5 : Cond.codeWith y' cc' nL' ret' (hh0 :: hh) ∈ lw_all) (hd : decode μ.2.1 pc = .ok (.invokestatic idx, 3)) (hy : y'.cls ≠ "java/lang/invoke/MethodHandle" ∧ y'.cls ≠ "java/lang/invoke/VarHandle" ∧ (parseMethodDescriptor y'.desc).map (fun d => d.parameters.length) = some As.length) (hdm : d' + 1 ≤ d) (hnl : nL' ≤ 45) (hs : st0 = As.reverse ++ st) (hcat : (st.map gcat).sum ≤ 8) (kk : ∀ p, Rl' σ (p.2) → g32 p.1 → GG F Rl ω l d μ σ0 (pc + 3) lv (vI p.1 :: st) (p.2) (tc p)) : GG F Rl ω l d μ σ0 pc lv st0 σ (f.bind tc) := by
  intro ok a0 h
  obtain ⟨p, hb, hq⟩ := Option.bind_eq_some_iff.mp h
  obtain ⟨⟨k1, k0⟩, k2⟩ := hM ok p hb
  have m1 := hRl'.2.2 _ _ k1
  have k3 := kk p k1 k0 (m1.2.2 ok) a0 hq
  have m2 := hRl.2.2 _ _ k3.1.1
  refine ⟨⟨hRl.2.1 _ _ _ (hw _ k1) k3.1.1, k3.1.2⟩, fun kc ks h1 h2 => ?_⟩
  dsimp only at m1 m2 k3 k2
  refine g_callSW k2.no q1 q2 q4 q5 hd hy hdm hnl ⟨by omega, by omega⟩ hs hcat (fun v' σ' hp hE => ?_)
  obtain ⟨e1, e2⟩ := hp
  injection e1 with e1
  subst e1; subst e2
  exact k3.2 _ _ (by omega) (by omega)

end GT
