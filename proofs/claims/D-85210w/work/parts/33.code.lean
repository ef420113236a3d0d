def x11_init_l503 (N : Nat) (v0 : Nat) (K : gMem → Option gMem) : Nat → Int → gMem → Option gMem
  | 0, _, _ => none
  | n + 1, v1, s => if 6 ≤ v1 then K s else if mT s v0 = 10 then if mT s (mR s v0 11) = 100 then if 0 ≤ v1 ∧ v1 < (mN s (mR s v0 11) : Int) then gLet (wI s (mR s v0 11) v1.toNat (-1)) (fun s348 => x11_init_l503 N v0 K n (w32 (v1 + 1)) s348) else none else none else none
set_option maxRecDepth 100000 in
theorem okl_x11_init_l503 {ω : gW} {l : Launch} {d : Nat} {N : Nat} {σ0 : gMem} {v0 : Nat} {K : gMem → Option gMem} (hl : l.stackTraces = false) (hdp : 1 ≤ d) (hK : ∀ (s : gMem) , GG (fun p : gMem => (.inl none, p)) gE ω l d mu_x11_init σ0 522 [(0, vR v0)] [] s (K s)) : ∀ (n : Nat) (v1 : Int) (s : gMem) , g32 v1 → GG (fun p : gMem => (.inl none, p)) gE ω l d mu_x11_init σ0 503 [(0, vR v0), (1, vI v1)] [] s (x11_init_l503 N v0 K n v1 s) := by
  intro n
  induction n with
  | zero => intros; exact x_none
  | succ n ih =>
    intro v1 s hv1
    unfold x11_init_l503
    refine x_iload_n (μ := mu_x11_init) (pc := 503) 1 dX11_init_503 rfl ?_
    refine x_bipush (μ := mu_x11_init) (pc := 504) dX11_init_504 (by decide) ?_
    refine x_icmp_ge (μ := mu_x11_init) (pc := 506) (tgt := 522) dX11_init_506 rfl hv1 (by decide) ?_ ?_
    · refine x_loc (lv' := [(0, vR v0)]) [0] rfl ?_
      exact hK s
    · refine x_aload_n (μ := mu_x11_init) (pc := 509) 0 dX11_init_509 rfl ?_
      refine x_if (fun hT346 => ?_)
      refine x_fgr (μ := mu_x11_init) (pc := 510) fX11_11 (by first | exact Or.inl ⟨_, rfl⟩ | exact Or.inr ⟨_, rfl⟩) q2647 dX11_init_510 hT346 ?_
      refine x_iload_n (μ := mu_x11_init) (pc := 513) 1 dX11_init_513 rfl ?_
      refine x_iconst (μ := mu_x11_init) (pc := 514) dX11_init_514 ?_
      refine x_if (fun hT347 => ?_)
      refine x_iast (μ := mu_x11_init) (pc := 515) dX11_init_515 hT347 rfl (fun _ _ q => gE_wI q) ?_
      refine x_let (fun s348 e349 => ?_)
      refine x_iincw (μ := mu_x11_init) (pc := 516) (lv' := [(1, vI (w32 (v1 + 1))), (0, vR v0)]) 1 dX11_init_516 rfl (by decide) rfl ?_
      refine x_goto (μ := mu_x11_init) (pc := 519) (tgt := 503) dX11_init_519 rfl ?_
      refine x_loc (lv' := [(0, vR v0), (1, vI (w32 (v1 + 1)))]) [1, 0] rfl ?_
      exact ih (w32 (v1 + 1)) s348 (w32_rng _)
def x11_init_l554 (N : Nat) (v0 : Nat) (K : gMem → Option gMem) : Nat → Int → gMem → Option gMem
  | 0, _, _ => none
  | n + 1, v1, s => if 8 ≤ v1 then K s else if mT s v0 = 10 then if mT s (mR s v0 3) = 100 then if 0 ≤ v1 ∧ v1 < (mN s (mR s v0 3) : Int) then gLet (wI s (mR s v0 3) v1.toNat v1) (fun s366 => x11_init_l554 N v0 K n (w32 (v1 + 1)) s366) else none else none else none
set_option maxRecDepth 100000 in
theorem okl_x11_init_l554 {ω : gW} {l : Launch} {d : Nat} {N : Nat} {σ0 : gMem} {v0 : Nat} {K : gMem → Option gMem} (hl : l.stackTraces = false) (hdp : 1 ≤ d) (hK : ∀ (s : gMem) , GG (fun p : gMem => (.inl none, p)) gE ω l d mu_x11_init σ0 573 [(0, vR v0)] [] s (K s)) : ∀ (n : Nat) (v1 : Int) (s : gMem) , g32 v1 → GG (fun p : gMem => (.inl none, p)) gE ω l d mu_x11_init σ0 554 [(0, vR v0), (1, vI v1)] [] s (x11_init_l554 N v0 K n v1 s) := by
  intro n
  induction n with
  | zero => intros; exact x_none
  | succ n ih =>
    intro v1 s hv1
    unfold x11_init_l554
    refine x_iload_n (μ := mu_x11_init) (pc := 554) 1 dX11_init_554 rfl ?_
    refine x_bipush (μ := mu_x11_init) (pc := 555) dX11_init_555 (by decide) ?_
    refine x_icmp_ge (μ := mu_x11_init) (pc := 557) (tgt := 573) dX11_init_557 rfl hv1 (by decide) ?_ ?_
    · refine x_loc (lv' := [(0, vR v0)]) [0] rfl ?_
      exact hK s
    · refine x_aload_n (μ := mu_x11_init) (pc := 560) 0 dX11_init_560 rfl ?_
      refine x_if (fun hT364 => ?_)
      refine x_fgr (μ := mu_x11_init) (pc := 561) fX11_3 (by first | exact Or.inl ⟨_, rfl⟩ | exact Or.inr ⟨_, rfl⟩) q2639 dX11_init_561 hT364 ?_
      refine x_iload_n (μ := mu_x11_init) (pc := 564) 1 dX11_init_564 rfl ?_
      refine x_iload_n (μ := mu_x11_init) (pc := 565) 1 dX11_init_565 rfl ?_
      refine x_if (fun hT365 => ?_)
      refine x_iast (μ := mu_x11_init) (pc := 566) dX11_init_566 hT365 rfl (fun _ _ q => gE_wI q) ?_
      refine x_let (fun s366 e367 => ?_)
      refine x_iincw (μ := mu_x11_init) (pc := 567) (lv' := [(1, vI (w32 (v1 + 1))), (0, vR v0)]) 1 dX11_init_567 rfl (by decide) rfl ?_
      refine x_goto (μ := mu_x11_init) (pc := 570) (tgt := 554) dX11_init_570 rfl ?_
      refine x_loc (lv' := [(0, vR v0), (1, vI (w32 (v1 + 1)))]) [1, 0] rfl ?_
      exact ih (w32 (v1 + 1)) s366 (w32_rng _)
def x11_init_l575 (N : Nat) (v0 : Nat) (K : gMem → Option gMem) : Nat → Int → gMem → Option gMem
  | 0, _, _ => none
  | n + 1, v1, s => if 6 ≤ v1 then K s else if mT s v0 = 10 then if mT s (mR s v0 4) = 100 then if 0 ≤ v1 ∧ v1 < (mN s (mR s v0 4) : Int) then gLet (wI s (mR s v0 4) v1.toNat v1) (fun s371 => x11_init_l575 N v0 K n (w32 (v1 + 1)) s371) else none else none else none
set_option maxRecDepth 100000 in
theorem okl_x11_init_l575 {ω : gW} {l : Launch} {d : Nat} {N : Nat} {σ0 : gMem} {v0 : Nat} {K : gMem → Option gMem} (hl : l.stackTraces = false) (hdp : 1 ≤ d) (hK : ∀ (s : gMem) , GG (fun p : gMem => (.inl none, p)) gE ω l d mu_x11_init σ0 594 [(0, vR v0)] [] s (K s)) : ∀ (n : Nat) (v1 : Int) (s : gMem) , g32 v1 → GG (fun p : gMem => (.inl none, p)) gE ω l d mu_x11_init σ0 575 [(0, vR v0), (1, vI v1)] [] s (x11_init_l575 N v0 K n v1 s) := by
  intro n
  induction n with
  | zero => intros; exact x_none
  | succ n ih =>
    intro v1 s hv1
    unfold x11_init_l575
    refine x_iload_n (μ := mu_x11_init) (pc := 575) 1 dX11_init_575 rfl ?_
    refine x_bipush (μ := mu_x11_init) (pc := 576) dX11_init_576 (by decide) ?_
    refine x_icmp_ge (μ := mu_x11_init) (pc := 578) (tgt := 594) dX11_init_578 rfl hv1 (by decide) ?_ ?_
    · refine x_loc (lv' := [(0, vR v0)]) [0] rfl ?_
      exact hK s
    · refine x_aload_n (μ := mu_x11_init) (pc := 581) 0 dX11_init_581 rfl ?_
      refine x_if (fun hT369 => ?_)
      refine x_fgr (μ := mu_x11_init) (pc := 582) fX11_4 (by first | exact Or.inl ⟨_, rfl⟩ | exact Or.inr ⟨_, rfl⟩) q2640 dX11_init_582 hT369 ?_
      refine x_iload_n (μ := mu_x11_init) (pc := 585) 1 dX11_init_585 rfl ?_
      refine x_iload_n (μ := mu_x11_init) (pc := 586) 1 dX11_init_586 rfl ?_
      refine x_if (fun hT370 => ?_)
      refine x_iast (μ := mu_x11_init) (pc := 587) dX11_init_587 hT370 rfl (fun _ _ q => gE_wI q) ?_
      refine x_let (fun s371 e372 => ?_)
      refine x_iincw (μ := mu_x11_init) (pc := 588) (lv' := [(1, vI (w32 (v1 + 1))), (0, vR v0)]) 1 dX11_init_588 rfl (by decide) rfl ?_
      refine x_goto (μ := mu_x11_init) (pc := 591) (tgt := 575) dX11_init_591 rfl ?_
      refine x_loc (lv' := [(0, vR v0), (1, vI (w32 (v1 + 1)))]) [1, 0] rfl ?_
      exact ih (w32 (v1 + 1)) s371 (w32_rng _)
set_option maxRecDepth 100000 in
def x11_init (N : Nat) (v0 : Nat) (σ : gMem) : Option gMem := if mT σ v0 = 10 then if 0 ≤ (122 : Int) ∧ (122 : Int) < 1000000 then gLet (wN σ 100 (122 : Int).toNat) (fun s4 => gLet (wR s4 v0 1 (mZ σ)) (fun s6 => if 0 ≤ (122 : Int) ∧ (122 : Int) < 1000000 then gLet (wN s6 100 (122 : Int).toNat) (fun s10 => gLet (wR s10 v0 2 (mZ s6)) (fun s12 => if 0 ≤ (3904 : Int) ∧ (3904 : Int) < 1000000 then gLet (wN s12 100 (3904 : Int).toNat) (fun s16 => gLet (wR s16 v0 3 (mZ s12)) (fun s18 => if 0 ≤ (1220 : Int) ∧ (1220 : Int) < 1000000 then gLet (wN s18 100 (1220 : Int).toNat) (fun s22 => gLet (wR s22 v0 4 (mZ s18)) (fun s24 => if 0 ≤ (39040 : Int) ∧ (39040 : Int) < 1000000 then gLet (wN s24 100 (39040 : Int).toNat) (fun s28 => gLet (wR s28 v0 5 (mZ s24)) (fun s30 => gLet (wI s30 v0 6 8) (fun s32 => gLet (wI s32 v0 7 6) (fun s34 => gLet (wI s34 v0 8 1) (fun s36 => if 0 ≤ (40 : Int) ∧ (40 : Int) < 1000000 then gLet (wN s36 100 (40 : Int).toNat) (fun s40 => gLet (wR s40 v0 9 (mZ s36)) (fun s42 => if 0 ≤ (40 : Int) ∧ (40 : Int) < 1000000 then gLet (wN s42 100 (40 : Int).toNat) (fun s46 => gLet (wR s46 v0 10 (mZ s42)) (fun s48 => if 0 ≤ (6 : Int) ∧ (6 : Int) < 1000000 then gLet (wN s48 100 (6 : Int).toNat) (fun s52 => gLet (wR s52 v0 11 (mZ s48)) (fun s54 => gLet (wI s54 v0 13 (-1)) (fun s56 => if 0 ≤ (82400 : Int) ∧ (82400 : Int) < 1000000 then gLet (wN s56 102 (82400 : Int).toNat) (fun s60 => gLet (wR s60 v0 18 (mZ s56)) (fun s62 => if 0 ≤ (4200 : Int) ∧ (4200 : Int) < 1000000 then gLet (wN s62 100 (4200 : Int).toNat) (fun s66 => gLet (wR s66 v0 20 (mZ s62)) (fun s68 => if 0 ≤ (4200 : Int) ∧ (4200 : Int) < 1000000 then gLet (wN s68 101 (4200 : Int).toNat) (fun s72 => gLet (wR s72 v0 21 (mZ s68)) (fun s74 => if 0 ≤ (4200 : Int) ∧ (4200 : Int) < 1000000 then gLet (wN s74 100 (4200 : Int).toNat) (fun s78 => gLet (wR s78 v0 22 (mZ s74)) (fun s80 => if 0 ≤ (4200 : Int) ∧ (4200 : Int) < 1000000 then gLet (wN s80 100 (4200 : Int).toNat) (fun s84 => gLet (wR s84 v0 23 (mZ s80)) (fun s86 => if 0 ≤ (60420 : Int) ∧ (60420 : Int) < 1000000 then gLet (wN s86 100 (60420 : Int).toNat) (fun s90 => gLet (wR s90 v0 26 (mZ s86)) (fun s92 => if 0 ≤ (60420 : Int) ∧ (60420 : Int) < 1000000 then gLet (wN s92 100 (60420 : Int).toNat) (fun s96 => gLet (wR s96 v0 27 (mZ s92)) (fun s98 => if 0 ≤ (60420 : Int) ∧ (60420 : Int) < 1000000 then gLet (wN s98 100 (60420 : Int).toNat) (fun s102 => gLet (wR s102 v0 28 (mZ s98)) (fun s104 => if 0 ≤ (60420 : Int) ∧ (60420 : Int) < 1000000 then gLet (wN s104 101 (60420 : Int).toNat) (fun s108 => gLet (wR s108 v0 29 (mZ s104)) (fun s110 => if 0 ≤ (60420 : Int) ∧ (60420 : Int) < 1000000 then gLet (wN s110 100 (60420 : Int).toNat) (fun s114 => gLet (wR s114 v0 30 (mZ s110)) (fun s116 => if 0 ≤ (60420 : Int) ∧ (60420 : Int) < 1000000 then gLet (wN s116 100 (60420 : Int).toNat) (fun s120 => gLet (wR s120 v0 31 (mZ s116)) (fun s122 => if 0 ≤ (60420 : Int) ∧ (60420 : Int) < 1000000 then gLet (wN s122 100 (60420 : Int).toNat) (fun s126 => gLet (wR s126 v0 32 (mZ s122)) (fun s128 => if 0 ≤ (60420 : Int) ∧ (60420 : Int) < 1000000 then gLet (wN s128 100 (60420 : Int).toNat) (fun s132 => gLet (wR s132 v0 33 (mZ s128)) (fun s134 => if 0 ≤ (60420 : Int) ∧ (60420 : Int) < 1000000 then gLet (wN s134 100 (60420 : Int).toNat) (fun s138 => gLet (wR s138 v0 34 (mZ s134)) (fun s140 => if 0 ≤ (60420 : Int) ∧ (60420 : Int) < 1000000 then gLet (wN s140 100 (60420 : Int).toNat) (fun s144 => gLet (wR s144 v0 35 (mZ s140)) (fun s146 => if 0 ≤ (60420 : Int) ∧ (60420 : Int) < 1000000 then gLet (wN s146 100 (60420 : Int).toNat) (fun s150 => gLet (wR s150 v0 36 (mZ s146)) (fun s152 => if 0 ≤ (60420 : Int) ∧ (60420 : Int) < 1000000 then gLet (wN s152 100 (60420 : Int).toNat) (fun s156 => gLet (wR s156 v0 37 (mZ s152)) (fun s158 => if 0 ≤ (60420 : Int) ∧ (60420 : Int) < 1000000 then gLet (wN s158 100 (60420 : Int).toNat) (fun s162 => gLet (wR s162 v0 38 (mZ s158)) (fun s164 => if 0 ≤ (400 : Int) ∧ (400 : Int) < 1000000 then gLet (wN s164 100 (400 : Int).toNat) (fun s168 => gLet (wR s168 v0 39 (mZ s164)) (fun s170 => if 0 ≤ (13120 : Int) ∧ (13120 : Int) < 1000000 then gLet (wN s170 100 (13120 : Int).toNat) (fun s174 => gLet (wR s174 v0 60 (mZ s170)) (fun s176 => if 0 ≤ (13120 : Int) ∧ (13120 : Int) < 1000000 then gLet (wN s176 101 (13120 : Int).toNat) (fun s180 => gLet (wR s180 v0 61 (mZ s176)) (fun s182 => if 0 ≤ (13120 : Int) ∧ (13120 : Int) < 1000000 then gLet (wN s182 100 (13120 : Int).toNat) (fun s186 => gLet (wR s186 v0 62 (mZ s182)) (fun s188 => if 0 ≤ (314880 : Int) ∧ (314880 : Int) < 1000000 then gLet (wN s188 102 (314880 : Int).toNat) (fun s192 => gLet (wR s192 v0 63 (mZ s188)) (fun s194 => if 0 ≤ (40 : Int) ∧ (40 : Int) < 1000000 then gLet (wN s194 103 (40 : Int).toNat) (fun s198 => gLet (wR s198 v0 64 (mZ s194)) (fun s200 => if 0 ≤ (200 : Int) ∧ (200 : Int) < 1000000 then gLet (wN s200 100 (200 : Int).toNat) (fun s204 => gLet (wR s204 v0 66 (mZ s200)) (fun s206 => if 0 ≤ (200 : Int) ∧ (200 : Int) < 1000000 then gLet (wN s206 101 (200 : Int).toNat) (fun s210 => gLet (wR s210 v0 67 (mZ s206)) (fun s212 => if 0 ≤ (200 : Int) ∧ (200 : Int) < 1000000 then gLet (wN s212 100 (200 : Int).toNat) (fun s216 => gLet (wR s216 v0 68 (mZ s212)) (fun s218 => if 0 ≤ (4800 : Int) ∧ (4800 : Int) < 1000000 then gLet (wN s218 102 (4800 : Int).toNat) (fun s222 => gLet (wR s222 v0 69 (mZ s218)) (fun s224 => if 0 ≤ (20 : Int) ∧ (20 : Int) < 1000000 then gLet (wN s224 102 (20 : Int).toNat) (fun s228 => gLet (wR s228 v0 70 (mZ s224)) (fun s230 => if 0 ≤ (1600 : Int) ∧ (1600 : Int) < 1000000 then gLet (wN s230 101 (1600 : Int).toNat) (fun s234 => gLet (wR s234 v0 82 (mZ s230)) (fun s236 => if 0 ≤ (1600 : Int) ∧ (1600 : Int) < 1000000 then gLet (wN s236 101 (1600 : Int).toNat) (fun s240 => gLet (wR s240 v0 83 (mZ s236)) (fun s242 => if 0 ≤ (320 : Int) ∧ (320 : Int) < 1000000 then gLet (wN s242 103 (320 : Int).toNat) (fun s246 => gLet (wR s246 v0 84 (mZ s242)) (fun s248 => if 0 ≤ (5 : Int) ∧ (5 : Int) < 1000000 then gLet (wN s248 101 (5 : Int).toNat) (fun s252 => gLet (wR s252 v0 85 (mZ s248)) (fun s254 => if 0 ≤ (2000 : Int) ∧ (2000 : Int) < 1000000 then gLet (wN s254 102 (2000 : Int).toNat) (fun s258 => gLet (wR s258 v0 86 (mZ s254)) (fun s260 => if 0 ≤ (32 : Int) ∧ (32 : Int) < 1000000 then gLet (wN s260 100 (32 : Int).toNat) (fun s264 => gLet (wR s264 v0 88 (mZ s260)) (fun s266 => if 0 ≤ (40 : Int) ∧ (40 : Int) < 1000000 then gLet (wN s266 103 (40 : Int).toNat) (fun s270 => gLet (wR s270 v0 89 (mZ s266)) (fun s272 => if 0 ≤ (40 : Int) ∧ (40 : Int) < 1000000 then gLet (wN s272 103 (40 : Int).toNat) (fun s276 => gLet (wR s276 v0 90 (mZ s272)) (fun s278 => if 0 ≤ (370 : Int) ∧ (370 : Int) < 1000000 then gLet (wN s278 100 (370 : Int).toNat) (fun s282 => gLet (wR s282 v0 91 (mZ s278)) (fun s284 => if 0 ≤ (370 : Int) ∧ (370 : Int) < 1000000 then gLet (wN s284 100 (370 : Int).toNat) (fun s288 => gLet (wR s288 v0 92 (mZ s284)) (fun s290 => if 0 ≤ (370 : Int) ∧ (370 : Int) < 1000000 then gLet (wN s290 100 (370 : Int).toNat) (fun s294 => gLet (wR s294 v0 93 (mZ s290)) (fun s296 => if 0 ≤ (370 : Int) ∧ (370 : Int) < 1000000 then gLet (wN s296 100 (370 : Int).toNat) (fun s300 => gLet (wR s300 v0 94 (mZ s296)) (fun s302 => if 0 ≤ (370 : Int) ∧ (370 : Int) < 1000000 then gLet (wN s302 100 (370 : Int).toNat) (fun s306 => gLet (wR s306 v0 95 (mZ s302)) (fun s308 => if 0 ≤ (370 : Int) ∧ (370 : Int) < 1000000 then gLet (wN s308 103 (370 : Int).toNat) (fun s312 => gLet (wR s312 v0 96 (mZ s308)) (fun s314 => if 0 ≤ (370 : Int) ∧ (370 : Int) < 1000000 then gLet (wN s314 103 (370 : Int).toNat) (fun s318 => gLet (wR s318 v0 97 (mZ s314)) (fun s320 => if 0 ≤ (64 : Int) ∧ (64 : Int) < 1000000 then gLet (wN s320 100 (64 : Int).toNat) (fun s324 => gLet (wR s324 v0 99 (mZ s320)) (fun s326 => if 0 ≤ (410 : Int) ∧ (410 : Int) < 1000000 then gLet (wN s326 100 (410 : Int).toNat) (fun s330 => gLet (wR s330 v0 101 (mZ s326)) (fun s332 => if 0 ≤ (410 : Int) ∧ (410 : Int) < 1000000 then gLet (wN s332 100 (410 : Int).toNat) (fun s336 => gLet (wR s336 v0 102 (mZ s332)) (fun s338 => if 0 ≤ (410 : Int) ∧ (410 : Int) < 1000000 then gLet (wN s338 100 (410 : Int).toNat) (fun s342 => gLet (wR s342 v0 103 (mZ s338)) (fun s344 => x11_init_l503 N v0 (fun s350 => if mT s350 v0 = 10 then if mT s350 (mR s350 v0 9) = 100 then if 0 ≤ (0 : Int) ∧ (0 : Int) < (mN s350 (mR s350 v0 9) : Int) then gLet (wI s350 (mR s350 v0 9) (0 : Int).toNat (-1)) (fun s353 => if mT s353 (mR s353 v0 10) = 100 then if 0 ≤ (0 : Int) ∧ (0 : Int) < (mN s353 (mR s353 v0 10) : Int) then gLet (wI s353 (mR s353 v0 10) (0 : Int).toNat (-1)) (fun s356 => if mT s356 (mR s356 v0 1) = 100 then if 0 ≤ (0 : Int) ∧ (0 : Int) < (mN s356 (mR s356 v0 1) : Int) then gLet (wI s356 (mR s356 v0 1) (0 : Int).toNat 8) (fun s359 => if mT s359 (mR s359 v0 2) = 100 then if 0 ≤ (0 : Int) ∧ (0 : Int) < (mN s359 (mR s359 v0 2) : Int) then gLet (wI s359 (mR s359 v0 2) (0 : Int).toNat 6) (fun s362 => x11_init_l554 N v0 (fun s368 => x11_init_l575 N v0 (fun s373 => if TMb s373 v0 = true then (tw_copySheet N v0 0 40 s373).bind (fun x375 => some x375) else none) N 0 s368) N 0 s362) else none else none) else none else none) else none else none) else none else none else none) N 1 s344)) else none)) else none)) else none)) else none)) else none)) else none)) else none)) else none)) else none)) else none)) else none)) else none)) else none)) else none)) else none)) else none)) else none)) else none)) else none)) else none)) else none)) else none)) else none)) else none)) else none)) else none)) else none)) else none)) else none)) else none)) else none)) else none)) else none)) else none)) else none)) else none)) else none)) else none)) else none)) else none)) else none)) else none)) else none)) else none)) else none)) else none)) else none)) else none))) else none)) else none)) else none))))) else none)) else none)) else none)) else none)) else none else none
set_option maxRecDepth 100000 in
theorem ok_x11_init {ω : gW} {l : Launch} {d : Nat} {N : Nat} {σ : gMem} {v0 : Nat} (hl : l.stackTraces = false) (hdp : 1 ≤ d) : gK (fun p : gMem => (.inl none, p)) gE ω l d mu_x11_init [vR v0] σ (x11_init N v0 σ) := by
  refine gK.of hp_X11 (Nat.le_of_ble_eq_true rfl) ?_
  unfold x11_init
  refine x_aload_n (μ := mu_x11_init) (pc := 0) 0 dX11_init_0 rfl ?_
  refine x_if (fun hT1 => ?_)
  refine x_objI (μ := mu_x11_init) (pc := 1) (ci := 9) rfl q2627 dX11_init_1 hT1 (by omega) (Nat.le_of_ble_eq_true rfl) ?_
  refine x_aload_n (μ := mu_x11_init) (pc := 4) 0 dX11_init_4 rfl ?_
  refine x_bipush (μ := mu_x11_init) (pc := 5) dX11_init_5 (by decide) ?_
  refine x_if (fun hg2 => ?_)
  refine x_ok (fun ok3 => ?_)
  refine x_newai (μ := mu_x11_init) (pc := 7) dX11_init_7 hg2 ?_
  refine x_let (fun s4 e5 => ?_)
  refine x_fprF (μ := mu_x11_init) (pc := 9) fX11_1 q2637 rfl rfl (by first | exact Or.inl ⟨_, rfl⟩ | exact Or.inr ⟨_, rfl⟩) dX11_init_9 (gT_N e5 ok3 hT1 (by decide)) (fun _ q => gE_wR q) ?_
  refine x_let (fun s6 e7 => ?_)
  refine x_aload_n (μ := mu_x11_init) (pc := 12) 0 dX11_init_12 rfl ?_
  refine x_bipush (μ := mu_x11_init) (pc := 13) dX11_init_13 (by decide) ?_
  refine x_if (fun hg8 => ?_)
  refine x_ok (fun ok9 => ?_)
  refine x_newai (μ := mu_x11_init) (pc := 15) dX11_init_15 hg8 ?_
  refine x_let (fun s10 e11 => ?_)
  refine x_fprF (μ := mu_x11_init) (pc := 17) fX11_2 q2638 rfl rfl (by first | exact Or.inl ⟨_, rfl⟩ | exact Or.inr ⟨_, rfl⟩) dX11_init_17 (gT_N e11 ok9 (gT_R e7 (gT_N e5 ok3 hT1 (by decide))) (by decide)) (fun _ q => gE_wR q) ?_
  refine x_let (fun s12 e13 => ?_)
  refine x_aload_n (μ := mu_x11_init) (pc := 20) 0 dX11_init_20 rfl ?_
  refine x_sipush (μ := mu_x11_init) (pc := 21) dX11_init_21 (by decide) ?_
  refine x_if (fun hg14 => ?_)
  refine x_ok (fun ok15 => ?_)
  refine x_newai (μ := mu_x11_init) (pc := 24) dX11_init_24 hg14 ?_
  refine x_let (fun s16 e17 => ?_)
  refine x_fprF (μ := mu_x11_init) (pc := 26) fX11_3 q2639 rfl rfl (by first | exact Or.inl ⟨_, rfl⟩ | exact Or.inr ⟨_, rfl⟩) dX11_init_26 (gT_N e17 ok15 (gT_R e13 (gT_N e11 ok9 (gT_R e7 (gT_N e5 ok3 hT1 (by decide))) (by decide))) (by decide)) (fun _ q => gE_wR q) ?_
  refine x_let (fun s18 e19 => ?_)
  refine x_aload_n (μ := mu_x11_init) (pc := 29) 0 dX11_init_29 rfl ?_
  refine x_sipush (μ := mu_x11_init) (pc := 30) dX11_init_30 (by decide) ?_
  refine x_if (fun hg20 => ?_)
  refine x_ok (fun ok21 => ?_)
  refine x_newai (μ := mu_x11_init) (pc := 33) dX11_init_33 hg20 ?_
  refine x_let (fun s22 e23 => ?_)
  refine x_fprF (μ := mu_x11_init) (pc := 35) fX11_4 q2640 rfl rfl (by first | exact Or.inl ⟨_, rfl⟩ | exact Or.inr ⟨_, rfl⟩) dX11_init_35 (gT_N e23 ok21 (gT_R e19 (gT_N e17 ok15 (gT_R e13 (gT_N e11 ok9 (gT_R e7 (gT_N e5 ok3 hT1 (by decide))) (by decide))) (by decide))) (by decide)) (fun _ q => gE_wR q) ?_
  refine x_let (fun s24 e25 => ?_)
  refine x_aload_n (μ := mu_x11_init) (pc := 38) 0 dX11_init_38 rfl ?_
  refine x_ldc (μ := mu_x11_init) (pc := 39) (n := 39040) dX11_init_39 q2628 ?_
  refine x_if (fun hg26 => ?_)
  refine x_ok (fun ok27 => ?_)
  refine x_newai (μ := mu_x11_init) (pc := 41) dX11_init_41 hg26 ?_
  refine x_let (fun s28 e29 => ?_)
  refine x_fprF (μ := mu_x11_init) (pc := 43) fX11_5 q2641 rfl rfl (by first | exact Or.inl ⟨_, rfl⟩ | exact Or.inr ⟨_, rfl⟩) dX11_init_43 (gT_N e29 ok27 (gT_R e25 (gT_N e23 ok21 (gT_R e19 (gT_N e17 ok15 (gT_R e13 (gT_N e11 ok9 (gT_R e7 (gT_N e5 ok3 hT1 (by decide))) (by decide))) (by decide))) (by decide))) (by decide)) (fun _ q => gE_wR q) ?_
  refine x_let (fun s30 e31 => ?_)
  refine x_aload_n (μ := mu_x11_init) (pc := 46) 0 dX11_init_46 rfl ?_
  refine x_bipush (μ := mu_x11_init) (pc := 47) dX11_init_47 (by decide) ?_
  refine x_fpi (μ := mu_x11_init) (pc := 49) fX11_6 q2642 dX11_init_49 (gT_R e31 (gT_N e29 ok27 (gT_R e25 (gT_N e23 ok21 (gT_R e19 (gT_N e17 ok15 (gT_R e13 (gT_N e11 ok9 (gT_R e7 (gT_N e5 ok3 hT1 (by decide))) (by decide))) (by decide))) (by decide))) (by decide))) (fun _ q => gE_wI q) ?_
  refine x_let (fun s32 e33 => ?_)
  refine x_aload_n (μ := mu_x11_init) (pc := 52) 0 dX11_init_52 rfl ?_
  refine x_bipush (μ := mu_x11_init) (pc := 53) dX11_init_53 (by decide) ?_
  refine x_fpi (μ := mu_x11_init) (pc := 55) fX11_7 q2643 dX11_init_55 (gT_I e33 (gT_R e31 (gT_N e29 ok27 (gT_R e25 (gT_N e23 ok21 (gT_R e19 (gT_N e17 ok15 (gT_R e13 (gT_N e11 ok9 (gT_R e7 (gT_N e5 ok3 hT1 (by decide))) (by decide))) (by decide))) (by decide))) (by decide)))) (fun _ q => gE_wI q) ?_
  refine x_let (fun s34 e35 => ?_)
  refine x_aload_n (μ := mu_x11_init) (pc := 58) 0 dX11_init_58 rfl ?_
  refine x_iconst (μ := mu_x11_init) (pc := 59) dX11_init_59 ?_
  refine x_fpi (μ := mu_x11_init) (pc := 60) fX11_8 q2644 dX11_init_60 (gT_I e35 (gT_I e33 (gT_R e31 (gT_N e29 ok27 (gT_R e25 (gT_N e23 ok21 (gT_R e19 (gT_N e17 ok15 (gT_R e13 (gT_N e11 ok9 (gT_R e7 (gT_N e5 ok3 hT1 (by decide))) (by decide))) (by decide))) (by decide))) (by decide))))) (fun _ q => gE_wI q) ?_
  refine x_let (fun s36 e37 => ?_)
  refine x_aload_n (μ := mu_x11_init) (pc := 63) 0 dX11_init_63 rfl ?_
  refine x_bipush (μ := mu_x11_init) (pc := 64) dX11_init_64 (by decide) ?_
  refine x_if (fun hg38 => ?_)
  refine x_ok (fun ok39 => ?_)
  refine x_newai (μ := mu_x11_init) (pc := 66) dX11_init_66 hg38 ?_
  refine x_let (fun s40 e41 => ?_)
  refine x_fprF (μ := mu_x11_init) (pc := 68) fX11_9 q2645 rfl rfl (by first | exact Or.inl ⟨_, rfl⟩ | exact Or.inr ⟨_, rfl⟩) dX11_init_68 (gT_N e41 ok39 (gT_I e37 (gT_I e35 (gT_I e33 (gT_R e31 (gT_N e29 ok27 (gT_R e25 (gT_N e23 ok21 (gT_R e19 (gT_N e17 ok15 (gT_R e13 (gT_N e11 ok9 (gT_R e7 (gT_N e5 ok3 hT1 (by decide))) (by decide))) (by decide))) (by decide))) (by decide)))))) (by decide)) (fun _ q => gE_wR q) ?_
  refine x_let (fun s42 e43 => ?_)
  refine x_aload_n (μ := mu_x11_init) (pc := 71) 0 dX11_init_71 rfl ?_
  refine x_bipush (μ := mu_x11_init) (pc := 72) dX11_init_72 (by decide) ?_
  refine x_if (fun hg44 => ?_)
  refine x_ok (fun ok45 => ?_)
  refine x_newai (μ := mu_x11_init) (pc := 74) dX11_init_74 hg44 ?_
  refine x_let (fun s46 e47 => ?_)
  refine x_fprF (μ := mu_x11_init) (pc := 76) fX11_10 q2646 rfl rfl (by first | exact Or.inl ⟨_, rfl⟩ | exact Or.inr ⟨_, rfl⟩) dX11_init_76 (gT_N e47 ok45 (gT_R e43 (gT_N e41 ok39 (gT_I e37 (gT_I e35 (gT_I e33 (gT_R e31 (gT_N e29 ok27 (gT_R e25 (gT_N e23 ok21 (gT_R e19 (gT_N e17 ok15 (gT_R e13 (gT_N e11 ok9 (gT_R e7 (gT_N e5 ok3 hT1 (by decide))) (by decide))) (by decide))) (by decide))) (by decide)))))) (by decide))) (by decide)) (fun _ q => gE_wR q) ?_
  refine x_let (fun s48 e49 => ?_)
  refine x_aload_n (μ := mu_x11_init) (pc := 79) 0 dX11_init_79 rfl ?_
  refine x_bipush (μ := mu_x11_init) (pc := 80) dX11_init_80 (by decide) ?_
  refine x_if (fun hg50 => ?_)
  refine x_ok (fun ok51 => ?_)
  refine x_newai (μ := mu_x11_init) (pc := 82) dX11_init_82 hg50 ?_
  refine x_let (fun s52 e53 => ?_)
  refine x_fprF (μ := mu_x11_init) (pc := 84) fX11_11 q2647 rfl rfl (by first | exact Or.inl ⟨_, rfl⟩ | exact Or.inr ⟨_, rfl⟩) dX11_init_84 (gT_N e53 ok51 (gT_R e49 (gT_N e47 ok45 (gT_R e43 (gT_N e41 ok39 (gT_I e37 (gT_I e35 (gT_I e33 (gT_R e31 (gT_N e29 ok27 (gT_R e25 (gT_N e23 ok21 (gT_R e19 (gT_N e17 ok15 (gT_R e13 (gT_N e11 ok9 (gT_R e7 (gT_N e5 ok3 hT1 (by decide))) (by decide))) (by decide))) (by decide))) (by decide)))))) (by decide))) (by decide))) (by decide)) (fun _ q => gE_wR q) ?_
  refine x_let (fun s54 e55 => ?_)
  refine x_aload_n (μ := mu_x11_init) (pc := 87) 0 dX11_init_87 rfl ?_
  refine x_iconst (μ := mu_x11_init) (pc := 88) dX11_init_88 ?_
  refine x_fpi (μ := mu_x11_init) (pc := 89) fX11_13 q2649 dX11_init_89 (gT_R e55 (gT_N e53 ok51 (gT_R e49 (gT_N e47 ok45 (gT_R e43 (gT_N e41 ok39 (gT_I e37 (gT_I e35 (gT_I e33 (gT_R e31 (gT_N e29 ok27 (gT_R e25 (gT_N e23 ok21 (gT_R e19 (gT_N e17 ok15 (gT_R e13 (gT_N e11 ok9 (gT_R e7 (gT_N e5 ok3 hT1 (by decide))) (by decide))) (by decide))) (by decide))) (by decide)))))) (by decide))) (by decide))) (by decide))) (fun _ q => gE_wI q) ?_
  refine x_let (fun s56 e57 => ?_)
  refine x_aload_n (μ := mu_x11_init) (pc := 92) 0 dX11_init_92 rfl ?_
  refine x_ldc (μ := mu_x11_init) (pc := 93) (n := 82400) dX11_init_93 q2629 ?_
  refine x_if (fun hg58 => ?_)
  refine x_ok (fun ok59 => ?_)
  refine x_newab (μ := mu_x11_init) (pc := 95) dX11_init_95 hg58 ?_
  refine x_let (fun s60 e61 => ?_)
  refine x_fprF (μ := mu_x11_init) (pc := 97) fX11_18 q2654 rfl rfl (by first | exact Or.inl ⟨_, rfl⟩ | exact Or.inr ⟨_, rfl⟩) dX11_init_97 (gT_N e61 ok59 (gT_I e57 (gT_R e55 (gT_N e53 ok51 (gT_R e49 (gT_N e47 ok45 (gT_R e43 (gT_N e41 ok39 (gT_I e37 (gT_I e35 (gT_I e33 (gT_R e31 (gT_N e29 ok27 (gT_R e25 (gT_N e23 ok21 (gT_R e19 (gT_N e17 ok15 (gT_R e13 (gT_N e11 ok9 (gT_R e7 (gT_N e5 ok3 hT1 (by decide))) (by decide))) (by decide))) (by decide))) (by decide)))))) (by decide))) (by decide))) (by decide)))) (by decide)) (fun _ q => gE_wR q) ?_
  refine x_let (fun s62 e63 => ?_)
  refine x_aload_n (μ := mu_x11_init) (pc := 100) 0 dX11_init_100 rfl ?_
  refine x_sipush (μ := mu_x11_init) (pc := 101) dX11_init_101 (by decide) ?_
  refine x_if (fun hg64 => ?_)
  refine x_ok (fun ok65 => ?_)
  refine x_newai (μ := mu_x11_init) (pc := 104) dX11_init_104 hg64 ?_
  refine x_let (fun s66 e67 => ?_)
  refine x_fprF (μ := mu_x11_init) (pc := 106) fX11_20 q2656 rfl rfl (by first | exact Or.inl ⟨_, rfl⟩ | exact Or.inr ⟨_, rfl⟩) dX11_init_106 (gT_N e67 ok65 (gT_R e63 (gT_N e61 ok59 (gT_I e57 (gT_R e55 (gT_N e53 ok51 (gT_R e49 (gT_N e47 ok45 (gT_R e43 (gT_N e41 ok39 (gT_I e37 (gT_I e35 (gT_I e33 (gT_R e31 (gT_N e29 ok27 (gT_R e25 (gT_N e23 ok21 (gT_R e19 (gT_N e17 ok15 (gT_R e13 (gT_N e11 ok9 (gT_R e7 (gT_N e5 ok3 hT1 (by decide))) (by decide))) (by decide))) (by decide))) (by decide)))))) (by decide))) (by decide))) (by decide)))) (by decide))) (by decide)) (fun _ q => gE_wR q) ?_
  refine x_let (fun s68 e69 => ?_)
  refine x_aload_n (μ := mu_x11_init) (pc := 109) 0 dX11_init_109 rfl ?_
  refine x_sipush (μ := mu_x11_init) (pc := 110) dX11_init_110 (by decide) ?_
  refine x_if (fun hg70 => ?_)
  refine x_ok (fun ok71 => ?_)
  refine x_newal (μ := mu_x11_init) (pc := 113) dX11_init_113 hg70 ?_
  refine x_let (fun s72 e73 => ?_)
  refine x_fprF (μ := mu_x11_init) (pc := 115) fX11_21 q2657 rfl rfl (by first | exact Or.inl ⟨_, rfl⟩ | exact Or.inr ⟨_, rfl⟩) dX11_init_115 (gT_N e73 ok71 (gT_R e69 (gT_N e67 ok65 (gT_R e63 (gT_N e61 ok59 (gT_I e57 (gT_R e55 (gT_N e53 ok51 (gT_R e49 (gT_N e47 ok45 (gT_R e43 (gT_N e41 ok39 (gT_I e37 (gT_I e35 (gT_I e33 (gT_R e31 (gT_N e29 ok27 (gT_R e25 (gT_N e23 ok21 (gT_R e19 (gT_N e17 ok15 (gT_R e13 (gT_N e11 ok9 (gT_R e7 (gT_N e5 ok3 hT1 (by decide))) (by decide))) (by decide))) (by decide))) (by decide)))))) (by decide))) (by decide))) (by decide)))) (by decide))) (by decide))) (by decide)) (fun _ q => gE_wR q) ?_
  refine x_let (fun s74 e75 => ?_)
  refine x_aload_n (μ := mu_x11_init) (pc := 118) 0 dX11_init_118 rfl ?_
  refine x_sipush (μ := mu_x11_init) (pc := 119) dX11_init_119 (by decide) ?_
  refine x_if (fun hg76 => ?_)
  refine x_ok (fun ok77 => ?_)
  refine x_newai (μ := mu_x11_init) (pc := 122) dX11_init_122 hg76 ?_
  refine x_let (fun s78 e79 => ?_)
  refine x_fprF (μ := mu_x11_init) (pc := 124) fX11_22 q2658 rfl rfl (by first | exact Or.inl ⟨_, rfl⟩ | exact Or.inr ⟨_, rfl⟩) dX11_init_124 (gT_N e79 ok77 (gT_R e75 (gT_N e73 ok71 (gT_R e69 (gT_N e67 ok65 (gT_R e63 (gT_N e61 ok59 (gT_I e57 (gT_R e55 (gT_N e53 ok51 (gT_R e49 (gT_N e47 ok45 (gT_R e43 (gT_N e41 ok39 (gT_I e37 (gT_I e35 (gT_I e33 (gT_R e31 (gT_N e29 ok27 (gT_R e25 (gT_N e23 ok21 (gT_R e19 (gT_N e17 ok15 (gT_R e13 (gT_N e11 ok9 (gT_R e7 (gT_N e5 ok3 hT1 (by decide))) (by decide))) (by decide))) (by decide))) (by decide)))))) (by decide))) (by decide))) (by decide)))) (by decide))) (by decide))) (by decide))) (by decide)) (fun _ q => gE_wR q) ?_
  refine x_let (fun s80 e81 => ?_)
  refine x_aload_n (μ := mu_x11_init) (pc := 127) 0 dX11_init_127 rfl ?_
  refine x_sipush (μ := mu_x11_init) (pc := 128) dX11_init_128 (by decide) ?_
  refine x_if (fun hg82 => ?_)
  refine x_ok (fun ok83 => ?_)
  refine x_newai (μ := mu_x11_init) (pc := 131) dX11_init_131 hg82 ?_
  refine x_let (fun s84 e85 => ?_)
  refine x_fprF (μ := mu_x11_init) (pc := 133) fX11_23 q2659 rfl rfl (by first | exact Or.inl ⟨_, rfl⟩ | exact Or.inr ⟨_, rfl⟩) dX11_init_133 (gT_N e85 ok83 (gT_R e81 (gT_N e79 ok77 (gT_R e75 (gT_N e73 ok71 (gT_R e69 (gT_N e67 ok65 (gT_R e63 (gT_N e61 ok59 (gT_I e57 (gT_R e55 (gT_N e53 ok51 (gT_R e49 (gT_N e47 ok45 (gT_R e43 (gT_N e41 ok39 (gT_I e37 (gT_I e35 (gT_I e33 (gT_R e31 (gT_N e29 ok27 (gT_R e25 (gT_N e23 ok21 (gT_R e19 (gT_N e17 ok15 (gT_R e13 (gT_N e11 ok9 (gT_R e7 (gT_N e5 ok3 hT1 (by decide))) (by decide))) (by decide))) (by decide))) (by decide)))))) (by decide))) (by decide))) (by decide)))) (by decide))) (by decide))) (by decide))) (by decide))) (by decide)) (fun _ q => gE_wR q) ?_
  refine x_let (fun s86 e87 => ?_)
  refine x_aload_n (μ := mu_x11_init) (pc := 136) 0 dX11_init_136 rfl ?_
  refine x_ldc (μ := mu_x11_init) (pc := 137) (n := 60420) dX11_init_137 q2630 ?_
  refine x_if (fun hg88 => ?_)
  refine x_ok (fun ok89 => ?_)
  refine x_newai (μ := mu_x11_init) (pc := 139) dX11_init_139 hg88 ?_
  refine x_let (fun s90 e91 => ?_)
  refine x_fprF (μ := mu_x11_init) (pc := 141) fX11_26 q2662 rfl rfl (by first | exact Or.inl ⟨_, rfl⟩ | exact Or.inr ⟨_, rfl⟩) dX11_init_141 (gT_N e91 ok89 (gT_R e87 (gT_N e85 ok83 (gT_R e81 (gT_N e79 ok77 (gT_R e75 (gT_N e73 ok71 (gT_R e69 (gT_N e67 ok65 (gT_R e63 (gT_N e61 ok59 (gT_I e57 (gT_R e55 (gT_N e53 ok51 (gT_R e49 (gT_N e47 ok45 (gT_R e43 (gT_N e41 ok39 (gT_I e37 (gT_I e35 (gT_I e33 (gT_R e31 (gT_N e29 ok27 (gT_R e25 (gT_N e23 ok21 (gT_R e19 (gT_N e17 ok15 (gT_R e13 (gT_N e11 ok9 (gT_R e7 (gT_N e5 ok3 hT1 (by decide))) (by decide))) (by decide))) (by decide))) (by decide)))))) (by decide))) (by decide))) (by decide)))) (by decide))) (by decide))) (by decide))) (by decide))) (by decide))) (by decide)) (fun _ q => gE_wR q) ?_
  refine x_let (fun s92 e93 => ?_)
  refine x_aload_n (μ := mu_x11_init) (pc := 144) 0 dX11_init_144 rfl ?_
  refine x_ldc (μ := mu_x11_init) (pc := 145) (n := 60420) dX11_init_145 q2630 ?_
  refine x_if (fun hg94 => ?_)
  refine x_ok (fun ok95 => ?_)
  refine x_newai (μ := mu_x11_init) (pc := 147) dX11_init_147 hg94 ?_
  refine x_let (fun s96 e97 => ?_)
  refine x_fprF (μ := mu_x11_init) (pc := 149) fX11_27 q2663 rfl rfl (by first | exact Or.inl ⟨_, rfl⟩ | exact Or.inr ⟨_, rfl⟩) dX11_init_149 (gT_N e97 ok95 (gT_R e93 (gT_N e91 ok89 (gT_R e87 (gT_N e85 ok83 (gT_R e81 (gT_N e79 ok77 (gT_R e75 (gT_N e73 ok71 (gT_R e69 (gT_N e67 ok65 (gT_R e63 (gT_N e61 ok59 (gT_I e57 (gT_R e55 (gT_N e53 ok51 (gT_R e49 (gT_N e47 ok45 (gT_R e43 (gT_N e41 ok39 (gT_I e37 (gT_I e35 (gT_I e33 (gT_R e31 (gT_N e29 ok27 (gT_R e25 (gT_N e23 ok21 (gT_R e19 (gT_N e17 ok15 (gT_R e13 (gT_N e11 ok9 (gT_R e7 (gT_N e5 ok3 hT1 (by decide))) (by decide))) (by decide))) (by decide))) (by decide)))))) (by decide))) (by decide))) (by decide)))) (by decide))) (by decide))) (by decide))) (by decide))) (by decide))) (by decide))) (by decide)) (fun _ q => gE_wR q) ?_
  refine x_let (fun s98 e99 => ?_)
  refine x_aload_n (μ := mu_x11_init) (pc := 152) 0 dX11_init_152 rfl ?_
  refine x_ldc (μ := mu_x11_init) (pc := 153) (n := 60420) dX11_init_153 q2630 ?_
  refine x_if (fun hg100 => ?_)
  refine x_ok (fun ok101 => ?_)
  refine x_newai (μ := mu_x11_init) (pc := 155) dX11_init_155 hg100 ?_
  refine x_let (fun s102 e103 => ?_)
  refine x_fprF (μ := mu_x11_init) (pc := 157) fX11_28 q2664 rfl rfl (by first | exact Or.inl ⟨_, rfl⟩ | exact Or.inr ⟨_, rfl⟩) dX11_init_157 (gT_N e103 ok101 (gT_R e99 (gT_N e97 ok95 (gT_R e93 (gT_N e91 ok89 (gT_R e87 (gT_N e85 ok83 (gT_R e81 (gT_N e79 ok77 (gT_R e75 (gT_N e73 ok71 (gT_R e69 (gT_N e67 ok65 (gT_R e63 (gT_N e61 ok59 (gT_I e57 (gT_R e55 (gT_N e53 ok51 (gT_R e49 (gT_N e47 ok45 (gT_R e43 (gT_N e41 ok39 (gT_I e37 (gT_I e35 (gT_I e33 (gT_R e31 (gT_N e29 ok27 (gT_R e25 (gT_N e23 ok21 (gT_R e19 (gT_N e17 ok15 (gT_R e13 (gT_N e11 ok9 (gT_R e7 (gT_N e5 ok3 hT1 (by decide))) (by decide))) (by decide))) (by decide))) (by decide)))))) (by decide))) (by decide))) (by decide)))) (by decide))) (by decide))) (by decide))) (by decide))) (by decide))) (by decide))) (by decide))) (by decide)) (fun _ q => gE_wR q) ?_
  refine x_let (fun s104 e105 => ?_)
  refine x_aload_n (μ := mu_x11_init) (pc := 160) 0 dX11_init_160 rfl ?_
  refine x_ldc (μ := mu_x11_init) (pc := 161) (n := 60420) dX11_init_161 q2630 ?_
  refine x_if (fun hg106 => ?_)
  refine x_ok (fun ok107 => ?_)
  refine x_newal (μ := mu_x11_init) (pc := 163) dX11_init_163 hg106 ?_
  refine x_let (fun s108 e109 => ?_)
  refine x_fprF (μ := mu_x11_init) (pc := 165) fX11_29 q2665 rfl rfl (by first | exact Or.inl ⟨_, rfl⟩ | exact Or.inr ⟨_, rfl⟩) dX11_init_165 (gT_N e109 ok107 (gT_R e105 (gT_N e103 ok101 (gT_R e99 (gT_N e97 ok95 (gT_R e93 (gT_N e91 ok89 (gT_R e87 (gT_N e85 ok83 (gT_R e81 (gT_N e79 ok77 (gT_R e75 (gT_N e73 ok71 (gT_R e69 (gT_N e67 ok65 (gT_R e63 (gT_N e61 ok59 (gT_I e57 (gT_R e55 (gT_N e53 ok51 (gT_R e49 (gT_N e47 ok45 (gT_R e43 (gT_N e41 ok39 (gT_I e37 (gT_I e35 (gT_I e33 (gT_R e31 (gT_N e29 ok27 (gT_R e25 (gT_N e23 ok21 (gT_R e19 (gT_N e17 ok15 (gT_R e13 (gT_N e11 ok9 (gT_R e7 (gT_N e5 ok3 hT1 (by decide))) (by decide))) (by decide))) (by decide))) (by decide)))))) (by decide))) (by decide))) (by decide)))) (by decide))) (by decide))) (by decide))) (by decide))) (by decide))) (by decide))) (by decide))) (by decide))) (by decide)) (fun _ q => gE_wR q) ?_
  refine x_let (fun s110 e111 => ?_)
  refine x_aload_n (μ := mu_x11_init) (pc := 168) 0 dX11_init_168 rfl ?_
  refine x_ldc (μ := mu_x11_init) (pc := 169) (n := 60420) dX11_init_169 q2630 ?_
  refine x_if (fun hg112 => ?_)
  refine x_ok (fun ok113 => ?_)
  refine x_newai (μ := mu_x11_init) (pc := 171) dX11_init_171 hg112 ?_
  refine x_let (fun s114 e115 => ?_)
  refine x_fprF (μ := mu_x11_init) (pc := 173) fX11_30 q2666 rfl rfl (by first | exact Or.inl ⟨_, rfl⟩ | exact Or.inr ⟨_, rfl⟩) dX11_init_173 (gT_N e115 ok113 (gT_R e111 (gT_N e109 ok107 (gT_R e105 (gT_N e103 ok101 (gT_R e99 (gT_N e97 ok95 (gT_R e93 (gT_N e91 ok89 (gT_R e87 (gT_N e85 ok83 (gT_R e81 (gT_N e79 ok77 (gT_R e75 (gT_N e73 ok71 (gT_R e69 (gT_N e67 ok65 (gT_R e63 (gT_N e61 ok59 (gT_I e57 (gT_R e55 (gT_N e53 ok51 (gT_R e49 (gT_N e47 ok45 (gT_R e43 (gT_N e41 ok39 (gT_I e37 (gT_I e35 (gT_I e33 (gT_R e31 (gT_N e29 ok27 (gT_R e25 (gT_N e23 ok21 (gT_R e19 (gT_N e17 ok15 (gT_R e13 (gT_N e11 ok9 (gT_R e7 (gT_N e5 ok3 hT1 (by decide))) (by decide))) (by decide))) (by decide))) (by decide)))))) (by decide))) (by decide))) (by decide)))) (by decide))) (by decide))) (by decide))) (by decide))) (by decide))) (by decide))) (by decide))) (by decide))) (by decide))) (by decide)) (fun _ q => gE_wR q) ?_
  refine x_let (fun s116 e117 => ?_)
  refine x_aload_n (μ := mu_x11_init) (pc := 176) 0 dX11_init_176 rfl ?_
  refine x_ldc (μ := mu_x11_init) (pc := 177) (n := 60420) dX11_init_177 q2630 ?_
  refine x_if (fun hg118 => ?_)
  refine x_ok (fun ok119 => ?_)
  refine x_newai (μ := mu_x11_init) (pc := 179) dX11_init_179 hg118 ?_
  refine x_let (fun s120 e121 => ?_)
  refine x_fprF (μ := mu_x11_init) (pc := 181) fX11_31 q2667 rfl rfl (by first | exact Or.inl ⟨_, rfl⟩ | exact Or.inr ⟨_, rfl⟩) dX11_init_181 (gT_N e121 ok119 (gT_R e117 (gT_N e115 ok113 (gT_R e111 (gT_N e109 ok107 (gT_R e105 (gT_N e103 ok101 (gT_R e99 (gT_N e97 ok95 (gT_R e93 (gT_N e91 ok89 (gT_R e87 (gT_N e85 ok83 (gT_R e81 (gT_N e79 ok77 (gT_R e75 (gT_N e73 ok71 (gT_R e69 (gT_N e67 ok65 (gT_R e63 (gT_N e61 ok59 (gT_I e57 (gT_R e55 (gT_N e53 ok51 (gT_R e49 (gT_N e47 ok45 (gT_R e43 (gT_N e41 ok39 (gT_I e37 (gT_I e35 (gT_I e33 (gT_R e31 (gT_N e29 ok27 (gT_R e25 (gT_N e23 ok21 (gT_R e19 (gT_N e17 ok15 (gT_R e13 (gT_N e11 ok9 (gT_R e7 (gT_N e5 ok3 hT1 (by decide))) (by decide))) (by decide))) (by decide))) (by decide)))))) (by decide))) (by decide))) (by decide)))) (by decide))) (by decide))) (by decide))) (by decide))) (by decide))) (by decide))) (by decide))) (by decide))) (by decide))) (by decide))) (by decide)) (fun _ q => gE_wR q) ?_
  refine x_let (fun s122 e123 => ?_)
  refine x_aload_n (μ := mu_x11_init) (pc := 184) 0 dX11_init_184 rfl ?_
  refine x_ldc (μ := mu_x11_init) (pc := 185) (n := 60420) dX11_init_185 q2630 ?_
  refine x_if (fun hg124 => ?_)
  refine x_ok (fun ok125 => ?_)
  refine x_newai (μ := mu_x11_init) (pc := 187) dX11_init_187 hg124 ?_
  refine x_let (fun s126 e127 => ?_)
  refine x_fprF (μ := mu_x11_init) (pc := 189) fX11_32 q2668 rfl rfl (by first | exact Or.inl ⟨_, rfl⟩ | exact Or.inr ⟨_, rfl⟩) dX11_init_189 (gT_N e127 ok125 (gT_R e123 (gT_N e121 ok119 (gT_R e117 (gT_N e115 ok113 (gT_R e111 (gT_N e109 ok107 (gT_R e105 (gT_N e103 ok101 (gT_R e99 (gT_N e97 ok95 (gT_R e93 (gT_N e91 ok89 (gT_R e87 (gT_N e85 ok83 (gT_R e81 (gT_N e79 ok77 (gT_R e75 (gT_N e73 ok71 (gT_R e69 (gT_N e67 ok65 (gT_R e63 (gT_N e61 ok59 (gT_I e57 (gT_R e55 (gT_N e53 ok51 (gT_R e49 (gT_N e47 ok45 (gT_R e43 (gT_N e41 ok39 (gT_I e37 (gT_I e35 (gT_I e33 (gT_R e31 (gT_N e29 ok27 (gT_R e25 (gT_N e23 ok21 (gT_R e19 (gT_N e17 ok15 (gT_R e13 (gT_N e11 ok9 (gT_R e7 (gT_N e5 ok3 hT1 (by decide))) (by decide))) (by decide))) (by decide))) (by decide)))))) (by decide))) (by decide))) (by decide)))) (by decide))) (by decide))) (by decide))) (by decide))) (by decide))) (by decide))) (by decide))) (by decide))) (by decide))) (by decide))) (by decide))) (by decide)) (fun _ q => gE_wR q) ?_
  refine x_let (fun s128 e129 => ?_)
  refine x_aload_n (μ := mu_x11_init) (pc := 192) 0 dX11_init_192 rfl ?_
  refine x_ldc (μ := mu_x11_init) (pc := 193) (n := 60420) dX11_init_193 q2630 ?_
  refine x_if (fun hg130 => ?_)
  refine x_ok (fun ok131 => ?_)
  refine x_newai (μ := mu_x11_init) (pc := 195) dX11_init_195 hg130 ?_
  refine x_let (fun s132 e133 => ?_)
  refine x_fprF (μ := mu_x11_init) (pc := 197) fX11_33 q2669 rfl rfl (by first | exact Or.inl ⟨_, rfl⟩ | exact Or.inr ⟨_, rfl⟩) dX11_init_197 (gT_N e133 ok131 (gT_R e129 (gT_N e127 ok125 (gT_R e123 (gT_N e121 ok119 (gT_R e117 (gT_N e115 ok113 (gT_R e111 (gT_N e109 ok107 (gT_R e105 (gT_N e103 ok101 (gT_R e99 (gT_N e97 ok95 (gT_R e93 (gT_N e91 ok89 (gT_R e87 (gT_N e85 ok83 (gT_R e81 (gT_N e79 ok77 (gT_R e75 (gT_N e73 ok71 (gT_R e69 (gT_N e67 ok65 (gT_R e63 (gT_N e61 ok59 (gT_I e57 (gT_R e55 (gT_N e53 ok51 (gT_R e49 (gT_N e47 ok45 (gT_R e43 (gT_N e41 ok39 (gT_I e37 (gT_I e35 (gT_I e33 (gT_R e31 (gT_N e29 ok27 (gT_R e25 (gT_N e23 ok21 (gT_R e19 (gT_N e17 ok15 (gT_R e13 (gT_N e11 ok9 (gT_R e7 (gT_N e5 ok3 hT1 (by decide))) (by decide))) (by decide))) (by decide))) (by decide)))))) (by decide))) (by decide))) (by decide)))) (by decide))) (by decide))) (by decide))) (by decide))) (by decide))) (by decide))) (by decide))) (by decide))) (by decide))) (by decide))) (by decide))) (by decide))) (by decide)) (fun _ q => gE_wR q) ?_
  refine x_let (fun s134 e135 => ?_)
  refine x_aload_n (μ := mu_x11_init) (pc := 200) 0 dX11_init_200 rfl ?_
  refine x_ldc (μ := mu_x11_init) (pc := 201) (n := 60420) dX11_init_201 q2630 ?_
  refine x_if (fun hg136 => ?_)
  refine x_ok (fun ok137 => ?_)
  refine x_newai (μ := mu_x11_init) (pc := 203) dX11_init_203 hg136 ?_
  refine x_let (fun s138 e139 => ?_)
  refine x_fprF (μ := mu_x11_init) (pc := 205) fX11_34 q2670 rfl rfl (by first | exact Or.inl ⟨_, rfl⟩ | exact Or.inr ⟨_, rfl⟩) dX11_init_205 (gT_N e139 ok137 (gT_R e135 (gT_N e133 ok131 (gT_R e129 (gT_N e127 ok125 (gT_R e123 (gT_N e121 ok119 (gT_R e117 (gT_N e115 ok113 (gT_R e111 (gT_N e109 ok107 (gT_R e105 (gT_N e103 ok101 (gT_R e99 (gT_N e97 ok95 (gT_R e93 (gT_N e91 ok89 (gT_R e87 (gT_N e85 ok83 (gT_R e81 (gT_N e79 ok77 (gT_R e75 (gT_N e73 ok71 (gT_R e69 (gT_N e67 ok65 (gT_R e63 (gT_N e61 ok59 (gT_I e57 (gT_R e55 (gT_N e53 ok51 (gT_R e49 (gT_N e47 ok45 (gT_R e43 (gT_N e41 ok39 (gT_I e37 (gT_I e35 (gT_I e33 (gT_R e31 (gT_N e29 ok27 (gT_R e25 (gT_N e23 ok21 (gT_R e19 (gT_N e17 ok15 (gT_R e13 (gT_N e11 ok9 (gT_R e7 (gT_N e5 ok3 hT1 (by decide))) (by decide))) (by decide))) (by decide))) (by decide)))))) (by decide))) (by decide))) (by decide)))) (by decide))) (by decide))) (by decide))) (by decide))) (by decide))) (by decide))) (by decide))) (by decide))) (by decide))) (by decide))) (by decide))) (by decide))) (by decide))) (by decide)) (fun _ q => gE_wR q) ?_
  refine x_let (fun s140 e141 => ?_)
  refine x_aload_n (μ := mu_x11_init) (pc := 208) 0 dX11_init_208 rfl ?_
  refine x_ldc (μ := mu_x11_init) (pc := 209) (n := 60420) dX11_init_209 q2630 ?_
  refine x_if (fun hg142 => ?_)
  refine x_ok (fun ok143 => ?_)
  refine x_newai (μ := mu_x11_init) (pc := 211) dX11_init_211 hg142 ?_
  refine x_let (fun s144 e145 => ?_)
  refine x_fprF (μ := mu_x11_init) (pc := 213) fX11_35 q2671 rfl rfl (by first | exact Or.inl ⟨_, rfl⟩ | exact Or.inr ⟨_, rfl⟩) dX11_init_213 (gT_N e145 ok143 (gT_R e141 (gT_N e139 ok137 (gT_R e135 (gT_N e133 ok131 (gT_R e129 (gT_N e127 ok125 (gT_R e123 (gT_N e121 ok119 (gT_R e117 (gT_N e115 ok113 (gT_R e111 (gT_N e109 ok107 (gT_R e105 (gT_N e103 ok101 (gT_R e99 (gT_N e97 ok95 (gT_R e93 (gT_N e91 ok89 (gT_R e87 (gT_N e85 ok83 (gT_R e81 (gT_N e79 ok77 (gT_R e75 (gT_N e73 ok71 (gT_R e69 (gT_N e67 ok65 (gT_R e63 (gT_N e61 ok59 (gT_I e57 (gT_R e55 (gT_N e53 ok51 (gT_R e49 (gT_N e47 ok45 (gT_R e43 (gT_N e41 ok39 (gT_I e37 (gT_I e35 (gT_I e33 (gT_R e31 (gT_N e29 ok27 (gT_R e25 (gT_N e23 ok21 (gT_R e19 (gT_N e17 ok15 (gT_R e13 (gT_N e11 ok9 (gT_R e7 (gT_N e5 ok3 hT1 (by decide))) (by decide))) (by decide))) (by decide))) (by decide)))))) (by decide))) (by decide))) (by decide)))) (by decide))) (by decide))) (by decide))) (by decide))) (by decide))) (by decide))) (by decide))) (by decide))) (by decide))) (by decide))) (by decide))) (by decide))) (by decide))) (by decide))) (by decide)) (fun _ q => gE_wR q) ?_
  refine x_let (fun s146 e147 => ?_)
  refine x_aload_n (μ := mu_x11_init) (pc := 216) 0 dX11_init_216 rfl ?_
  refine x_ldc (μ := mu_x11_init) (pc := 217) (n := 60420) dX11_init_217 q2630 ?_
  refine x_if (fun hg148 => ?_)
  refine x_ok (fun ok149 => ?_)
  refine x_newai (μ := mu_x11_init) (pc := 219) dX11_init_219 hg148 ?_
  refine x_let (fun s150 e151 => ?_)
  refine x_fprF (μ := mu_x11_init) (pc := 221) fX11_36 q2672 rfl rfl (by first | exact Or.inl ⟨_, rfl⟩ | exact Or.inr ⟨_, rfl⟩) dX11_init_221 (gT_N e151 ok149 (gT_R e147 (gT_N e145 ok143 (gT_R e141 (gT_N e139 ok137 (gT_R e135 (gT_N e133 ok131 (gT_R e129 (gT_N e127 ok125 (gT_R e123 (gT_N e121 ok119 (gT_R e117 (gT_N e115 ok113 (gT_R e111 (gT_N e109 ok107 (gT_R e105 (gT_N e103 ok101 (gT_R e99 (gT_N e97 ok95 (gT_R e93 (gT_N e91 ok89 (gT_R e87 (gT_N e85 ok83 (gT_R e81 (gT_N e79 ok77 (gT_R e75 (gT_N e73 ok71 (gT_R e69 (gT_N e67 ok65 (gT_R e63 (gT_N e61 ok59 (gT_I e57 (gT_R e55 (gT_N e53 ok51 (gT_R e49 (gT_N e47 ok45 (gT_R e43 (gT_N e41 ok39 (gT_I e37 (gT_I e35 (gT_I e33 (gT_R e31 (gT_N e29 ok27 (gT_R e25 (gT_N e23 ok21 (gT_R e19 (gT_N e17 ok15 (gT_R e13 (gT_N e11 ok9 (gT_R e7 (gT_N e5 ok3 hT1 (by decide))) (by decide))) (by decide))) (by decide))) (by decide)))))) (by decide))) (by decide))) (by decide)))) (by decide))) (by decide))) (by decide))) (by decide))) (by decide))) (by decide))) (by decide))) (by decide))) (by decide))) (by decide))) (by decide))) (by decide))) (by decide))) (by decide))) (by decide))) (by decide)) (fun _ q => gE_wR q) ?_
  refine x_let (fun s152 e153 => ?_)
  refine x_aload_n (μ := mu_x11_init) (pc := 224) 0 dX11_init_224 rfl ?_
  refine x_ldc (μ := mu_x11_init) (pc := 225) (n := 60420) dX11_init_225 q2630 ?_
  refine x_if (fun hg154 => ?_)
  refine x_ok (fun ok155 => ?_)
  refine x_newai (μ := mu_x11_init) (pc := 227) dX11_init_227 hg154 ?_
  refine x_let (fun s156 e157 => ?_)
  refine x_fprF (μ := mu_x11_init) (pc := 229) fX11_37 q2673 rfl rfl (by first | exact Or.inl ⟨_, rfl⟩ | exact Or.inr ⟨_, rfl⟩) dX11_init_229 (gT_N e157 ok155 (gT_R e153 (gT_N e151 ok149 (gT_R e147 (gT_N e145 ok143 (gT_R e141 (gT_N e139 ok137 (gT_R e135 (gT_N e133 ok131 (gT_R e129 (gT_N e127 ok125 (gT_R e123 (gT_N e121 ok119 (gT_R e117 (gT_N e115 ok113 (gT_R e111 (gT_N e109 ok107 (gT_R e105 (gT_N e103 ok101 (gT_R e99 (gT_N e97 ok95 (gT_R e93 (gT_N e91 ok89 (gT_R e87 (gT_N e85 ok83 (gT_R e81 (gT_N e79 ok77 (gT_R e75 (gT_N e73 ok71 (gT_R e69 (gT_N e67 ok65 (gT_R e63 (gT_N e61 ok59 (gT_I e57 (gT_R e55 (gT_N e53 ok51 (gT_R e49 (gT_N e47 ok45 (gT_R e43 (gT_N e41 ok39 (gT_I e37 (gT_I e35 (gT_I e33 (gT_R e31 (gT_N e29 ok27 (gT_R e25 (gT_N e23 ok21 (gT_R e19 (gT_N e17 ok15 (gT_R e13 (gT_N e11 ok9 (gT_R e7 (gT_N e5 ok3 hT1 (by decide))) (by decide))) (by decide))) (by decide))) (by decide)))))) (by decide))) (by decide))) (by decide)))) (by decide))) (by decide))) (by decide))) (by decide))) (by decide))) (by decide))) (by decide))) (by decide))) (by decide))) (by decide))) (by decide))) (by decide))) (by decide))) (by decide))) (by decide))) (by decide))) (by decide)) (fun _ q => gE_wR q) ?_
  refine x_let (fun s158 e159 => ?_)
  refine x_aload_n (μ := mu_x11_init) (pc := 232) 0 dX11_init_232 rfl ?_
  refine x_ldc (μ := mu_x11_init) (pc := 233) (n := 60420) dX11_init_233 q2630 ?_
  refine x_if (fun hg160 => ?_)
  refine x_ok (fun ok161 => ?_)
  refine x_newai (μ := mu_x11_init) (pc := 235) dX11_init_235 hg160 ?_
  refine x_let (fun s162 e163 => ?_)
  refine x_fprF (μ := mu_x11_init) (pc := 237) fX11_38 q2674 rfl rfl (by first | exact Or.inl ⟨_, rfl⟩ | exact Or.inr ⟨_, rfl⟩) dX11_init_237 (gT_N e163 ok161 (gT_R e159 (gT_N e157 ok155 (gT_R e153 (gT_N e151 ok149 (gT_R e147 (gT_N e145 ok143 (gT_R e141 (gT_N e139 ok137 (gT_R e135 (gT_N e133 ok131 (gT_R e129 (gT_N e127 ok125 (gT_R e123 (gT_N e121 ok119 (gT_R e117 (gT_N e115 ok113 (gT_R e111 (gT_N e109 ok107 (gT_R e105 (gT_N e103 ok101 (gT_R e99 (gT_N e97 ok95 (gT_R e93 (gT_N e91 ok89 (gT_R e87 (gT_N e85 ok83 (gT_R e81 (gT_N e79 ok77 (gT_R e75 (gT_N e73 ok71 (gT_R e69 (gT_N e67 ok65 (gT_R e63 (gT_N e61 ok59 (gT_I e57 (gT_R e55 (gT_N e53 ok51 (gT_R e49 (gT_N e47 ok45 (gT_R e43 (gT_N e41 ok39 (gT_I e37 (gT_I e35 (gT_I e33 (gT_R e31 (gT_N e29 ok27 (gT_R e25 (gT_N e23 ok21 (gT_R e19 (gT_N e17 ok15 (gT_R e13 (gT_N e11 ok9 (gT_R e7 (gT_N e5 ok3 hT1 (by decide))) (by decide))) (by decide))) (by decide))) (by decide)))))) (by decide))) (by decide))) (by decide)))) (by decide))) (by decide))) (by decide))) (by decide))) (by decide))) (by decide))) (by decide))) (by decide))) (by decide))) (by decide))) (by decide))) (by decide))) (by decide))) (by decide))) (by decide))) (by decide))) (by decide))) (by decide)) (fun _ q => gE_wR q) ?_
  refine x_let (fun s164 e165 => ?_)
  refine x_aload_n (μ := mu_x11_init) (pc := 240) 0 dX11_init_240 rfl ?_
  refine x_sipush (μ := mu_x11_init) (pc := 241) dX11_init_241 (by decide) ?_
  refine x_if (fun hg166 => ?_)
  refine x_ok (fun ok167 => ?_)
  refine x_newai (μ := mu_x11_init) (pc := 244) dX11_init_244 hg166 ?_
  refine x_let (fun s168 e169 => ?_)
  refine x_fprF (μ := mu_x11_init) (pc := 246) fX11_39 q2675 rfl rfl (by first | exact Or.inl ⟨_, rfl⟩ | exact Or.inr ⟨_, rfl⟩) dX11_init_246 (gT_N e169 ok167 (gT_R e165 (gT_N e163 ok161 (gT_R e159 (gT_N e157 ok155 (gT_R e153 (gT_N e151 ok149 (gT_R e147 (gT_N e145 ok143 (gT_R e141 (gT_N e139 ok137 (gT_R e135 (gT_N e133 ok131 (gT_R e129 (gT_N e127 ok125 (gT_R e123 (gT_N e121 ok119 (gT_R e117 (gT_N e115 ok113 (gT_R e111 (gT_N e109 ok107 (gT_R e105 (gT_N e103 ok101 (gT_R e99 (gT_N e97 ok95 (gT_R e93 (gT_N e91 ok89 (gT_R e87 (gT_N e85 ok83 (gT_R e81 (gT_N e79 ok77 (gT_R e75 (gT_N e73 ok71 (gT_R e69 (gT_N e67 ok65 (gT_R e63 (gT_N e61 ok59 (gT_I e57 (gT_R e55 (gT_N e53 ok51 (gT_R e49 (gT_N e47 ok45 (gT_R e43 (gT_N e41 ok39 (gT_I e37 (gT_I e35 (gT_I e33 (gT_R e31 (gT_N e29 ok27 (gT_R e25 (gT_N e23 ok21 (gT_R e19 (gT_N e17 ok15 (gT_R e13 (gT_N e11 ok9 (gT_R e7 (gT_N e5 ok3 hT1 (by decide))) (by decide))) (by decide))) (by decide))) (by decide)))))) (by decide))) (by decide))) (by decide)))) (by decide))) (by decide))) (by decide))) (by decide))) (by decide))) (by decide))) (by decide))) (by decide))) (by decide))) (by decide))) (by decide))) (by decide))) (by decide))) (by decide))) (by decide))) (by decide))) (by decide))) (by decide))) (by decide)) (fun _ q => gE_wR q) ?_
  refine x_let (fun s170 e171 => ?_)
  refine x_aload_n (μ := mu_x11_init) (pc := 249) 0 dX11_init_249 rfl ?_
  refine x_sipush (μ := mu_x11_init) (pc := 250) dX11_init_250 (by decide) ?_
  refine x_if (fun hg172 => ?_)
  refine x_ok (fun ok173 => ?_)
  refine x_newai (μ := mu_x11_init) (pc := 253) dX11_init_253 hg172 ?_
  refine x_let (fun s174 e175 => ?_)
  refine x_fprF (μ := mu_x11_init) (pc := 255) fX11_60 q2696 rfl rfl (by first | exact Or.inl ⟨_, rfl⟩ | exact Or.inr ⟨_, rfl⟩) dX11_init_255 (gT_N e175 ok173 (gT_R e171 (gT_N e169 ok167 (gT_R e165 (gT_N e163 ok161 (gT_R e159 (gT_N e157 ok155 (gT_R e153 (gT_N e151 ok149 (gT_R e147 (gT_N e145 ok143 (gT_R e141 (gT_N e139 ok137 (gT_R e135 (gT_N e133 ok131 (gT_R e129 (gT_N e127 ok125 (gT_R e123 (gT_N e121 ok119 (gT_R e117 (gT_N e115 ok113 (gT_R e111 (gT_N e109 ok107 (gT_R e105 (gT_N e103 ok101 (gT_R e99 (gT_N e97 ok95 (gT_R e93 (gT_N e91 ok89 (gT_R e87 (gT_N e85 ok83 (gT_R e81 (gT_N e79 ok77 (gT_R e75 (gT_N e73 ok71 (gT_R e69 (gT_N e67 ok65 (gT_R e63 (gT_N e61 ok59 (gT_I e57 (gT_R e55 (gT_N e53 ok51 (gT_R e49 (gT_N e47 ok45 (gT_R e43 (gT_N e41 ok39 (gT_I e37 (gT_I e35 (gT_I e33 (gT_R e31 (gT_N e29 ok27 (gT_R e25 (gT_N e23 ok21 (gT_R e19 (gT_N e17 ok15 (gT_R e13 (gT_N e11 ok9 (gT_R e7 (gT_N e5 ok3 hT1 (by decide))) (by decide))) (by decide))) (by decide))) (by decide)))))) (by decide))) (by decide))) (by decide)))) (by decide))) (by decide))) (by decide))) (by decide))) (by decide))) (by decide))) (by decide))) (by decide))) (by decide))) (by decide))) (by decide))) (by decide))) (by decide))) (by decide))) (by decide))) (by decide))) (by decide))) (by decide))) (by decide))) (by decide)) (fun _ q => gE_wR q) ?_
  refine x_let (fun s176 e177 => ?_)
  refine x_aload_n (μ := mu_x11_init) (pc := 258) 0 dX11_init_258 rfl ?_
  refine x_sipush (μ := mu_x11_init) (pc := 259) dX11_init_259 (by decide) ?_
  refine x_if (fun hg178 => ?_)
  refine x_ok (fun ok179 => ?_)
  refine x_newal (μ := mu_x11_init) (pc := 262) dX11_init_262 hg178 ?_
  refine x_let (fun s180 e181 => ?_)
  refine x_fprF (μ := mu_x11_init) (pc := 264) fX11_61 q2697 rfl rfl (by first | exact Or.inl ⟨_, rfl⟩ | exact Or.inr ⟨_, rfl⟩) dX11_init_264 (gT_N e181 ok179 (gT_R e177 (gT_N e175 ok173 (gT_R e171 (gT_N e169 ok167 (gT_R e165 (gT_N e163 ok161 (gT_R e159 (gT_N e157 ok155 (gT_R e153 (gT_N e151 ok149 (gT_R e147 (gT_N e145 ok143 (gT_R e141 (gT_N e139 ok137 (gT_R e135 (gT_N e133 ok131 (gT_R e129 (gT_N e127 ok125 (gT_R e123 (gT_N e121 ok119 (gT_R e117 (gT_N e115 ok113 (gT_R e111 (gT_N e109 ok107 (gT_R e105 (gT_N e103 ok101 (gT_R e99 (gT_N e97 ok95 (gT_R e93 (gT_N e91 ok89 (gT_R e87 (gT_N e85 ok83 (gT_R e81 (gT_N e79 ok77 (gT_R e75 (gT_N e73 ok71 (gT_R e69 (gT_N e67 ok65 (gT_R e63 (gT_N e61 ok59 (gT_I e57 (gT_R e55 (gT_N e53 ok51 (gT_R e49 (gT_N e47 ok45 (gT_R e43 (gT_N e41 ok39 (gT_I e37 (gT_I e35 (gT_I e33 (gT_R e31 (gT_N e29 ok27 (gT_R e25 (gT_N e23 ok21 (gT_R e19 (gT_N e17 ok15 (gT_R e13 (gT_N e11 ok9 (gT_R e7 (gT_N e5 ok3 hT1 (by decide))) (by decide))) (by decide))) (by decide))) (by decide)))))) (by decide))) (by decide))) (by decide)))) (by decide))) (by decide))) (by decide))) (by decide))) (by decide))) (by decide))) (by decide))) (by decide))) (by decide))) (by decide))) (by decide))) (by decide))) (by decide))) (by decide))) (by decide))) (by decide))) (by decide))) (by decide))) (by decide))) (by decide))) (by decide)) (fun _ q => gE_wR q) ?_
  refine x_let (fun s182 e183 => ?_)
  refine x_aload_n (μ := mu_x11_init) (pc := 267) 0 dX11_init_267 rfl ?_
  refine x_sipush (μ := mu_x11_init) (pc := 268) dX11_init_268 (by decide) ?_
  refine x_if (fun hg184 => ?_)
  refine x_ok (fun ok185 => ?_)
  refine x_newai (μ := mu_x11_init) (pc := 271) dX11_init_271 hg184 ?_
  refine x_let (fun s186 e187 => ?_)
  refine x_fprF (μ := mu_x11_init) (pc := 273) fX11_62 q2698 rfl rfl (by first | exact Or.inl ⟨_, rfl⟩ | exact Or.inr ⟨_, rfl⟩) dX11_init_273 (gT_N e187 ok185 (gT_R e183 (gT_N e181 ok179 (gT_R e177 (gT_N e175 ok173 (gT_R e171 (gT_N e169 ok167 (gT_R e165 (gT_N e163 ok161 (gT_R e159 (gT_N e157 ok155 (gT_R e153 (gT_N e151 ok149 (gT_R e147 (gT_N e145 ok143 (gT_R e141 (gT_N e139 ok137 (gT_R e135 (gT_N e133 ok131 (gT_R e129 (gT_N e127 ok125 (gT_R e123 (gT_N e121 ok119 (gT_R e117 (gT_N e115 ok113 (gT_R e111 (gT_N e109 ok107 (gT_R e105 (gT_N e103 ok101 (gT_R e99 (gT_N e97 ok95 (gT_R e93 (gT_N e91 ok89 (gT_R e87 (gT_N e85 ok83 (gT_R e81 (gT_N e79 ok77 (gT_R e75 (gT_N e73 ok71 (gT_R e69 (gT_N e67 ok65 (gT_R e63 (gT_N e61 ok59 (gT_I e57 (gT_R e55 (gT_N e53 ok51 (gT_R e49 (gT_N e47 ok45 (gT_R e43 (gT_N e41 ok39 (gT_I e37 (gT_I e35 (gT_I e33 (gT_R e31 (gT_N e29 ok27 (gT_R e25 (gT_N e23 ok21 (gT_R e19 (gT_N e17 ok15 (gT_R e13 (gT_N e11 ok9 (gT_R e7 (gT_N e5 ok3 hT1 (by decide))) (by decide))) (by decide))) (by decide))) (by decide)))))) (by decide))) (by decide))) (by decide)))) (by decide))) (by decide))) (by decide))) (by decide))) (by decide))) (by decide))) (by decide))) (by decide))) (by decide))) (by decide))) (by decide))) (by decide))) (by decide))) (by decide))) (by decide))) (by decide))) (by decide))) (by decide))) (by decide))) (by decide))) (by decide))) (by decide)) (fun _ q => gE_wR q) ?_
  refine x_let (fun s188 e189 => ?_)
  refine x_aload_n (μ := mu_x11_init) (pc := 276) 0 dX11_init_276 rfl ?_
  refine x_ldc (μ := mu_x11_init) (pc := 277) (n := 314880) dX11_init_277 q2631 ?_
  refine x_if (fun hg190 => ?_)
  refine x_ok (fun ok191 => ?_)
  refine x_newab (μ := mu_x11_init) (pc := 279) dX11_init_279 hg190 ?_
  refine x_let (fun s192 e193 => ?_)
  refine x_fprF (μ := mu_x11_init) (pc := 281) fX11_63 q2699 rfl rfl (by first | exact Or.inl ⟨_, rfl⟩ | exact Or.inr ⟨_, rfl⟩) dX11_init_281 (gT_N e193 ok191 (gT_R e189 (gT_N e187 ok185 (gT_R e183 (gT_N e181 ok179 (gT_R e177 (gT_N e175 ok173 (gT_R e171 (gT_N e169 ok167 (gT_R e165 (gT_N e163 ok161 (gT_R e159 (gT_N e157 ok155 (gT_R e153 (gT_N e151 ok149 (gT_R e147 (gT_N e145 ok143 (gT_R e141 (gT_N e139 ok137 (gT_R e135 (gT_N e133 ok131 (gT_R e129 (gT_N e127 ok125 (gT_R e123 (gT_N e121 ok119 (gT_R e117 (gT_N e115 ok113 (gT_R e111 (gT_N e109 ok107 (gT_R e105 (gT_N e103 ok101 (gT_R e99 (gT_N e97 ok95 (gT_R e93 (gT_N e91 ok89 (gT_R e87 (gT_N e85 ok83 (gT_R e81 (gT_N e79 ok77 (gT_R e75 (gT_N e73 ok71 (gT_R e69 (gT_N e67 ok65 (gT_R e63 (gT_N e61 ok59 (gT_I e57 (gT_R e55 (gT_N e53 ok51 (gT_R e49 (gT_N e47 ok45 (gT_R e43 (gT_N e41 ok39 (gT_I e37 (gT_I e35 (gT_I e33 (gT_R e31 (gT_N e29 ok27 (gT_R e25 (gT_N e23 ok21 (gT_R e19 (gT_N e17 ok15 (gT_R e13 (gT_N e11 ok9 (gT_R e7 (gT_N e5 ok3 hT1 (by decide))) (by decide))) (by decide))) (by decide))) (by decide)))))) (by decide))) (by decide))) (by decide)))) (by decide))) (by decide))) (by decide))) (by decide))) (by decide))) (by decide))) (by decide))) (by decide))) (by decide))) (by decide))) (by decide))) (by decide))) (by decide))) (by decide))) (by decide))) (by decide))) (by decide))) (by decide))) (by decide))) (by decide))) (by decide))) (by decide))) (by decide)) (fun _ q => gE_wR q) ?_
  refine x_let (fun s194 e195 => ?_)
  refine x_aload_n (μ := mu_x11_init) (pc := 284) 0 dX11_init_284 rfl ?_
  refine x_bipush (μ := mu_x11_init) (pc := 285) dX11_init_285 (by decide) ?_
  refine x_if (fun hg196 => ?_)
  refine x_ok (fun ok197 => ?_)
  refine x_newaz (μ := mu_x11_init) (pc := 287) dX11_init_287 hg196 ?_
  refine x_let (fun s198 e199 => ?_)
  refine x_fprF (μ := mu_x11_init) (pc := 289) fX11_64 q2700 rfl rfl (by first | exact Or.inl ⟨_, rfl⟩ | exact Or.inr ⟨_, rfl⟩) dX11_init_289 (gT_N e199 ok197 (gT_R e195 (gT_N e193 ok191 (gT_R e189 (gT_N e187 ok185 (gT_R e183 (gT_N e181 ok179 (gT_R e177 (gT_N e175 ok173 (gT_R e171 (gT_N e169 ok167 (gT_R e165 (gT_N e163 ok161 (gT_R e159 (gT_N e157 ok155 (gT_R e153 (gT_N e151 ok149 (gT_R e147 (gT_N e145 ok143 (gT_R e141 (gT_N e139 ok137 (gT_R e135 (gT_N e133 ok131 (gT_R e129 (gT_N e127 ok125 (gT_R e123 (gT_N e121 ok119 (gT_R e117 (gT_N e115 ok113 (gT_R e111 (gT_N e109 ok107 (gT_R e105 (gT_N e103 ok101 (gT_R e99 (gT_N e97 ok95 (gT_R e93 (gT_N e91 ok89 (gT_R e87 (gT_N e85 ok83 (gT_R e81 (gT_N e79 ok77 (gT_R e75 (gT_N e73 ok71 (gT_R e69 (gT_N e67 ok65 (gT_R e63 (gT_N e61 ok59 (gT_I e57 (gT_R e55 (gT_N e53 ok51 (gT_R e49 (gT_N e47 ok45 (gT_R e43 (gT_N e41 ok39 (gT_I e37 (gT_I e35 (gT_I e33 (gT_R e31 (gT_N e29 ok27 (gT_R e25 (gT_N e23 ok21 (gT_R e19 (gT_N e17 ok15 (gT_R e13 (gT_N e11 ok9 (gT_R e7 (gT_N e5 ok3 hT1 (by decide))) (by decide))) (by decide))) (by decide))) (by decide)))))) (by decide))) (by decide))) (by decide)))) (by decide))) (by decide))) (by decide))) (by decide))) (by decide))) (by decide))) (by decide))) (by decide))) (by decide))) (by decide))) (by decide))) (by decide))) (by decide))) (by decide))) (by decide))) (by decide))) (by decide))) (by decide))) (by decide))) (by decide))) (by decide))) (by decide))) (by decide))) (by decide)) (fun _ q => gE_wR q) ?_
  refine x_let (fun s200 e201 => ?_)
  refine x_aload_n (μ := mu_x11_init) (pc := 292) 0 dX11_init_292 rfl ?_
  refine x_sipush (μ := mu_x11_init) (pc := 293) dX11_init_293 (by decide) ?_
  refine x_if (fun hg202 => ?_)
  refine x_ok (fun ok203 => ?_)
  refine x_newai (μ := mu_x11_init) (pc := 296) dX11_init_296 hg202 ?_
  refine x_let (fun s204 e205 => ?_)
  refine x_fprF (μ := mu_x11_init) (pc := 298) fX11_66 q2702 rfl rfl (by first | exact Or.inl ⟨_, rfl⟩ | exact Or.inr ⟨_, rfl⟩) dX11_init_298 (gT_N e205 ok203 (gT_R e201 (gT_N e199 ok197 (gT_R e195 (gT_N e193 ok191 (gT_R e189 (gT_N e187 ok185 (gT_R e183 (gT_N e181 ok179 (gT_R e177 (gT_N e175 ok173 (gT_R e171 (gT_N e169 ok167 (gT_R e165 (gT_N e163 ok161 (gT_R e159 (gT_N e157 ok155 (gT_R e153 (gT_N e151 ok149 (gT_R e147 (gT_N e145 ok143 (gT_R e141 (gT_N e139 ok137 (gT_R e135 (gT_N e133 ok131 (gT_R e129 (gT_N e127 ok125 (gT_R e123 (gT_N e121 ok119 (gT_R e117 (gT_N e115 ok113 (gT_R e111 (gT_N e109 ok107 (gT_R e105 (gT_N e103 ok101 (gT_R e99 (gT_N e97 ok95 (gT_R e93 (gT_N e91 ok89 (gT_R e87 (gT_N e85 ok83 (gT_R e81 (gT_N e79 ok77 (gT_R e75 (gT_N e73 ok71 (gT_R e69 (gT_N e67 ok65 (gT_R e63 (gT_N e61 ok59 (gT_I e57 (gT_R e55 (gT_N e53 ok51 (gT_R e49 (gT_N e47 ok45 (gT_R e43 (gT_N e41 ok39 (gT_I e37 (gT_I e35 (gT_I e33 (gT_R e31 (gT_N e29 ok27 (gT_R e25 (gT_N e23 ok21 (gT_R e19 (gT_N e17 ok15 (gT_R e13 (gT_N e11 ok9 (gT_R e7 (gT_N e5 ok3 hT1 (by decide))) (by decide))) (by decide))) (by decide))) (by decide)))))) (by decide))) (by decide))) (by decide)))) (by decide))) (by decide))) (by decide))) (by decide))) (by decide))) (by decide))) (by decide))) (by decide))) (by decide))) (by decide))) (by decide))) (by decide))) (by decide))) (by decide))) (by decide))) (by decide))) (by decide))) (by decide))) (by decide))) (by decide))) (by decide))) (by decide))) (by decide))) (by decide))) (by decide)) (fun _ q => gE_wR q) ?_
  refine x_let (fun s206 e207 => ?_)
  refine x_aload_n (μ := mu_x11_init) (pc := 301) 0 dX11_init_301 rfl ?_
  refine x_sipush (μ := mu_x11_init) (pc := 302) dX11_init_302 (by decide) ?_
  refine x_if (fun hg208 => ?_)
  refine x_ok (fun ok209 => ?_)
  refine x_newal (μ := mu_x11_init) (pc := 305) dX11_init_305 hg208 ?_
  refine x_let (fun s210 e211 => ?_)
  refine x_fprF (μ := mu_x11_init) (pc := 307) fX11_67 q2703 rfl rfl (by first | exact Or.inl ⟨_, rfl⟩ | exact Or.inr ⟨_, rfl⟩) dX11_init_307 (gT_N e211 ok209 (gT_R e207 (gT_N e205 ok203 (gT_R e201 (gT_N e199 ok197 (gT_R e195 (gT_N e193 ok191 (gT_R e189 (gT_N e187 ok185 (gT_R e183 (gT_N e181 ok179 (gT_R e177 (gT_N e175 ok173 (gT_R e171 (gT_N e169 ok167 (gT_R e165 (gT_N e163 ok161 (gT_R e159 (gT_N e157 ok155 (gT_R e153 (gT_N e151 ok149 (gT_R e147 (gT_N e145 ok143 (gT_R e141 (gT_N e139 ok137 (gT_R e135 (gT_N e133 ok131 (gT_R e129 (gT_N e127 ok125 (gT_R e123 (gT_N e121 ok119 (gT_R e117 (gT_N e115 ok113 (gT_R e111 (gT_N e109 ok107 (gT_R e105 (gT_N e103 ok101 (gT_R e99 (gT_N e97 ok95 (gT_R e93 (gT_N e91 ok89 (gT_R e87 (gT_N e85 ok83 (gT_R e81 (gT_N e79 ok77 (gT_R e75 (gT_N e73 ok71 (gT_R e69 (gT_N e67 ok65 (gT_R e63 (gT_N e61 ok59 (gT_I e57 (gT_R e55 (gT_N e53 ok51 (gT_R e49 (gT_N e47 ok45 (gT_R e43 (gT_N e41 ok39 (gT_I e37 (gT_I e35 (gT_I e33 (gT_R e31 (gT_N e29 ok27 (gT_R e25 (gT_N e23 ok21 (gT_R e19 (gT_N e17 ok15 (gT_R e13 (gT_N e11 ok9 (gT_R e7 (gT_N e5 ok3 hT1 (by decide))) (by decide))) (by decide))) (by decide))) (by decide)))))) (by decide))) (by decide))) (by decide)))) (by decide))) (by decide))) (by decide))) (by decide))) (by decide))) (by decide))) (by decide))) (by decide))) (by decide))) (by decide))) (by decide))) (by decide))) (by decide))) (by decide))) (by decide))) (by decide))) (by decide))) (by decide))) (by decide))) (by decide))) (by decide))) (by decide))) (by decide))) (by decide))) (by decide))) (by decide)) (fun _ q => gE_wR q) ?_
  refine x_let (fun s212 e213 => ?_)
  refine x_aload_n (μ := mu_x11_init) (pc := 310) 0 dX11_init_310 rfl ?_
  refine x_sipush (μ := mu_x11_init) (pc := 311) dX11_init_311 (by decide) ?_
  refine x_if (fun hg214 => ?_)
  refine x_ok (fun ok215 => ?_)
  refine x_newai (μ := mu_x11_init) (pc := 314) dX11_init_314 hg214 ?_
  refine x_let (fun s216 e217 => ?_)
  refine x_fprF (μ := mu_x11_init) (pc := 316) fX11_68 q2704 rfl rfl (by first | exact Or.inl ⟨_, rfl⟩ | exact Or.inr ⟨_, rfl⟩) dX11_init_316 (gT_N e217 ok215 (gT_R e213 (gT_N e211 ok209 (gT_R e207 (gT_N e205 ok203 (gT_R e201 (gT_N e199 ok197 (gT_R e195 (gT_N e193 ok191 (gT_R e189 (gT_N e187 ok185 (gT_R e183 (gT_N e181 ok179 (gT_R e177 (gT_N e175 ok173 (gT_R e171 (gT_N e169 ok167 (gT_R e165 (gT_N e163 ok161 (gT_R e159 (gT_N e157 ok155 (gT_R e153 (gT_N e151 ok149 (gT_R e147 (gT_N e145 ok143 (gT_R e141 (gT_N e139 ok137 (gT_R e135 (gT_N e133 ok131 (gT_R e129 (gT_N e127 ok125 (gT_R e123 (gT_N e121 ok119 (gT_R e117 (gT_N e115 ok113 (gT_R e111 (gT_N e109 ok107 (gT_R e105 (gT_N e103 ok101 (gT_R e99 (gT_N e97 ok95 (gT_R e93 (gT_N e91 ok89 (gT_R e87 (gT_N e85 ok83 (gT_R e81 (gT_N e79 ok77 (gT_R e75 (gT_N e73 ok71 (gT_R e69 (gT_N e67 ok65 (gT_R e63 (gT_N e61 ok59 (gT_I e57 (gT_R e55 (gT_N e53 ok51 (gT_R e49 (gT_N e47 ok45 (gT_R e43 (gT_N e41 ok39 (gT_I e37 (gT_I e35 (gT_I e33 (gT_R e31 (gT_N e29 ok27 (gT_R e25 (gT_N e23 ok21 (gT_R e19 (gT_N e17 ok15 (gT_R e13 (gT_N e11 ok9 (gT_R e7 (gT_N e5 ok3 hT1 (by decide))) (by decide))) (by decide))) (by decide))) (by decide)))))) (by decide))) (by decide))) (by decide)))) (by decide))) (by decide))) (by decide))) (by decide))) (by decide))) (by decide))) (by decide))) (by decide))) (by decide))) (by decide))) (by decide))) (by decide))) (by decide))) (by decide))) (by decide))) (by decide))) (by decide))) (by decide))) (by decide))) (by decide))) (by decide))) (by decide))) (by decide))) (by decide))) (by decide))) (by decide))) (by decide)) (fun _ q => gE_wR q) ?_
  refine x_let (fun s218 e219 => ?_)
  refine x_aload_n (μ := mu_x11_init) (pc := 319) 0 dX11_init_319 rfl ?_
  refine x_sipush (μ := mu_x11_init) (pc := 320) dX11_init_320 (by decide) ?_
  refine x_if (fun hg220 => ?_)
  refine x_ok (fun ok221 => ?_)
  refine x_newab (μ := mu_x11_init) (pc := 323) dX11_init_323 hg220 ?_
  refine x_let (fun s222 e223 => ?_)
  refine x_fprF (μ := mu_x11_init) (pc := 325) fX11_69 q2705 rfl rfl (by first | exact Or.inl ⟨_, rfl⟩ | exact Or.inr ⟨_, rfl⟩) dX11_init_325 (gT_N e223 ok221 (gT_R e219 (gT_N e217 ok215 (gT_R e213 (gT_N e211 ok209 (gT_R e207 (gT_N e205 ok203 (gT_R e201 (gT_N e199 ok197 (gT_R e195 (gT_N e193 ok191 (gT_R e189 (gT_N e187 ok185 (gT_R e183 (gT_N e181 ok179 (gT_R e177 (gT_N e175 ok173 (gT_R e171 (gT_N e169 ok167 (gT_R e165 (gT_N e163 ok161 (gT_R e159 (gT_N e157 ok155 (gT_R e153 (gT_N e151 ok149 (gT_R e147 (gT_N e145 ok143 (gT_R e141 (gT_N e139 ok137 (gT_R e135 (gT_N e133 ok131 (gT_R e129 (gT_N e127 ok125 (gT_R e123 (gT_N e121 ok119 (gT_R e117 (gT_N e115 ok113 (gT_R e111 (gT_N e109 ok107 (gT_R e105 (gT_N e103 ok101 (gT_R e99 (gT_N e97 ok95 (gT_R e93 (gT_N e91 ok89 (gT_R e87 (gT_N e85 ok83 (gT_R e81 (gT_N e79 ok77 (gT_R e75 (gT_N e73 ok71 (gT_R e69 (gT_N e67 ok65 (gT_R e63 (gT_N e61 ok59 (gT_I e57 (gT_R e55 (gT_N e53 ok51 (gT_R e49 (gT_N e47 ok45 (gT_R e43 (gT_N e41 ok39 (gT_I e37 (gT_I e35 (gT_I e33 (gT_R e31 (gT_N e29 ok27 (gT_R e25 (gT_N e23 ok21 (gT_R e19 (gT_N e17 ok15 (gT_R e13 (gT_N e11 ok9 (gT_R e7 (gT_N e5 ok3 hT1 (by decide))) (by decide))) (by decide))) (by decide))) (by decide)))))) (by decide))) (by decide))) (by decide)))) (by decide))) (by decide))) (by decide))) (by decide))) (by decide))) (by decide))) (by decide))) (by decide))) (by decide))) (by decide))) (by decide))) (by decide))) (by decide))) (by decide))) (by decide))) (by decide))) (by decide))) (by decide))) (by decide))) (by decide))) (by decide))) (by decide))) (by decide))) (by decide))) (by decide))) (by decide))) (by decide))) (by decide)) (fun _ q => gE_wR q) ?_
  refine x_let (fun s224 e225 => ?_)
  refine x_aload_n (μ := mu_x11_init) (pc := 328) 0 dX11_init_328 rfl ?_
  refine x_bipush (μ := mu_x11_init) (pc := 329) dX11_init_329 (by decide) ?_
  refine x_if (fun hg226 => ?_)
  refine x_ok (fun ok227 => ?_)
  refine x_newab (μ := mu_x11_init) (pc := 331) dX11_init_331 hg226 ?_
  refine x_let (fun s228 e229 => ?_)
  refine x_fprF (μ := mu_x11_init) (pc := 333) fX11_70 q2706 rfl rfl (by first | exact Or.inl ⟨_, rfl⟩ | exact Or.inr ⟨_, rfl⟩) dX11_init_333 (gT_N e229 ok227 (gT_R e225 (gT_N e223 ok221 (gT_R e219 (gT_N e217 ok215 (gT_R e213 (gT_N e211 ok209 (gT_R e207 (gT_N e205 ok203 (gT_R e201 (gT_N e199 ok197 (gT_R e195 (gT_N e193 ok191 (gT_R e189 (gT_N e187 ok185 (gT_R e183 (gT_N e181 ok179 (gT_R e177 (gT_N e175 ok173 (gT_R e171 (gT_N e169 ok167 (gT_R e165 (gT_N e163 ok161 (gT_R e159 (gT_N e157 ok155 (gT_R e153 (gT_N e151 ok149 (gT_R e147 (gT_N e145 ok143 (gT_R e141 (gT_N e139 ok137 (gT_R e135 (gT_N e133 ok131 (gT_R e129 (gT_N e127 ok125 (gT_R e123 (gT_N e121 ok119 (gT_R e117 (gT_N e115 ok113 (gT_R e111 (gT_N e109 ok107 (gT_R e105 (gT_N e103 ok101 (gT_R e99 (gT_N e97 ok95 (gT_R e93 (gT_N e91 ok89 (gT_R e87 (gT_N e85 ok83 (gT_R e81 (gT_N e79 ok77 (gT_R e75 (gT_N e73 ok71 (gT_R e69 (gT_N e67 ok65 (gT_R e63 (gT_N e61 ok59 (gT_I e57 (gT_R e55 (gT_N e53 ok51 (gT_R e49 (gT_N e47 ok45 (gT_R e43 (gT_N e41 ok39 (gT_I e37 (gT_I e35 (gT_I e33 (gT_R e31 (gT_N e29 ok27 (gT_R e25 (gT_N e23 ok21 (gT_R e19 (gT_N e17 ok15 (gT_R e13 (gT_N e11 ok9 (gT_R e7 (gT_N e5 ok3 hT1 (by decide))) (by decide))) (by decide))) (by decide))) (by decide)))))) (by decide))) (by decide))) (by decide)))) (by decide))) (by decide))) (by decide))) (by decide))) (by decide))) (by decide))) (by decide))) (by decide))) (by decide))) (by decide))) (by decide))) (by decide))) (by decide))) (by decide))) (by decide))) (by decide))) (by decide))) (by decide))) (by decide))) (by decide))) (by decide))) (by decide))) (by decide))) (by decide))) (by decide))) (by decide))) (by decide))) (by decide))) (by decide)) (fun _ q => gE_wR q) ?_
  refine x_let (fun s230 e231 => ?_)
  refine x_aload_n (μ := mu_x11_init) (pc := 336) 0 dX11_init_336 rfl ?_
  refine x_sipush (μ := mu_x11_init) (pc := 337) dX11_init_337 (by decide) ?_
  refine x_if (fun hg232 => ?_)
  refine x_ok (fun ok233 => ?_)
  refine x_newal (μ := mu_x11_init) (pc := 340) dX11_init_340 hg232 ?_
  refine x_let (fun s234 e235 => ?_)
  refine x_fprF (μ := mu_x11_init) (pc := 342) fX11_82 q2718 rfl rfl (by first | exact Or.inl ⟨_, rfl⟩ | exact Or.inr ⟨_, rfl⟩) dX11_init_342 (gT_N e235 ok233 (gT_R e231 (gT_N e229 ok227 (gT_R e225 (gT_N e223 ok221 (gT_R e219 (gT_N e217 ok215 (gT_R e213 (gT_N e211 ok209 (gT_R e207 (gT_N e205 ok203 (gT_R e201 (gT_N e199 ok197 (gT_R e195 (gT_N e193 ok191 (gT_R e189 (gT_N e187 ok185 (gT_R e183 (gT_N e181 ok179 (gT_R e177 (gT_N e175 ok173 (gT_R e171 (gT_N e169 ok167 (gT_R e165 (gT_N e163 ok161 (gT_R e159 (gT_N e157 ok155 (gT_R e153 (gT_N e151 ok149 (gT_R e147 (gT_N e145 ok143 (gT_R e141 (gT_N e139 ok137 (gT_R e135 (gT_N e133 ok131 (gT_R e129 (gT_N e127 ok125 (gT_R e123 (gT_N e121 ok119 (gT_R e117 (gT_N e115 ok113 (gT_R e111 (gT_N e109 ok107 (gT_R e105 (gT_N e103 ok101 (gT_R e99 (gT_N e97 ok95 (gT_R e93 (gT_N e91 ok89 (gT_R e87 (gT_N e85 ok83 (gT_R e81 (gT_N e79 ok77 (gT_R e75 (gT_N e73 ok71 (gT_R e69 (gT_N e67 ok65 (gT_R e63 (gT_N e61 ok59 (gT_I e57 (gT_R e55 (gT_N e53 ok51 (gT_R e49 (gT_N e47 ok45 (gT_R e43 (gT_N e41 ok39 (gT_I e37 (gT_I e35 (gT_I e33 (gT_R e31 (gT_N e29 ok27 (gT_R e25 (gT_N e23 ok21 (gT_R e19 (gT_N e17 ok15 (gT_R e13 (gT_N e11 ok9 (gT_R e7 (gT_N e5 ok3 hT1 (by decide))) (by decide))) (by decide))) (by decide))) (by decide)))))) (by decide))) (by decide))) (by decide)))) (by decide))) (by decide))) (by decide))) (by decide))) (by decide))) (by decide))) (by decide))) (by decide))) (by decide))) (by decide))) (by decide))) (by decide))) (by decide))) (by decide))) (by decide))) (by decide))) (by decide))) (by decide))) (by decide))) (by decide))) (by decide))) (by decide))) (by decide))) (by decide))) (by decide))) (by decide))) (by decide))) (by decide))) (by decide))) (by decide)) (fun _ q => gE_wR q) ?_
  refine x_let (fun s236 e237 => ?_)
  refine x_aload_n (μ := mu_x11_init) (pc := 345) 0 dX11_init_345 rfl ?_
  refine x_sipush (μ := mu_x11_init) (pc := 346) dX11_init_346 (by decide) ?_
  refine x_if (fun hg238 => ?_)
  refine x_ok (fun ok239 => ?_)
  refine x_newal (μ := mu_x11_init) (pc := 349) dX11_init_349 hg238 ?_
  refine x_let (fun s240 e241 => ?_)
  refine x_fprF (μ := mu_x11_init) (pc := 351) fX11_83 q2719 rfl rfl (by first | exact Or.inl ⟨_, rfl⟩ | exact Or.inr ⟨_, rfl⟩) dX11_init_351 (gT_N e241 ok239 (gT_R e237 (gT_N e235 ok233 (gT_R e231 (gT_N e229 ok227 (gT_R e225 (gT_N e223 ok221 (gT_R e219 (gT_N e217 ok215 (gT_R e213 (gT_N e211 ok209 (gT_R e207 (gT_N e205 ok203 (gT_R e201 (gT_N e199 ok197 (gT_R e195 (gT_N e193 ok191 (gT_R e189 (gT_N e187 ok185 (gT_R e183 (gT_N e181 ok179 (gT_R e177 (gT_N e175 ok173 (gT_R e171 (gT_N e169 ok167 (gT_R e165 (gT_N e163 ok161 (gT_R e159 (gT_N e157 ok155 (gT_R e153 (gT_N e151 ok149 (gT_R e147 (gT_N e145 ok143 (gT_R e141 (gT_N e139 ok137 (gT_R e135 (gT_N e133 ok131 (gT_R e129 (gT_N e127 ok125 (gT_R e123 (gT_N e121 ok119 (gT_R e117 (gT_N e115 ok113 (gT_R e111 (gT_N e109 ok107 (gT_R e105 (gT_N e103 ok101 (gT_R e99 (gT_N e97 ok95 (gT_R e93 (gT_N e91 ok89 (gT_R e87 (gT_N e85 ok83 (gT_R e81 (gT_N e79 ok77 (gT_R e75 (gT_N e73 ok71 (gT_R e69 (gT_N e67 ok65 (gT_R e63 (gT_N e61 ok59 (gT_I e57 (gT_R e55 (gT_N e53 ok51 (gT_R e49 (gT_N e47 ok45 (gT_R e43 (gT_N e41 ok39 (gT_I e37 (gT_I e35 (gT_I e33 (gT_R e31 (gT_N e29 ok27 (gT_R e25 (gT_N e23 ok21 (gT_R e19 (gT_N e17 ok15 (gT_R e13 (gT_N e11 ok9 (gT_R e7 (gT_N e5 ok3 hT1 (by decide))) (by decide))) (by decide))) (by decide))) (by decide)))))) (by decide))) (by decide))) (by decide)))) (by decide))) (by decide))) (by decide))) (by decide))) (by decide))) (by decide))) (by decide))) (by decide))) (by decide))) (by decide))) (by decide))) (by decide))) (by decide))) (by decide))) (by decide))) (by decide))) (by decide))) (by decide))) (by decide))) (by decide))) (by decide))) (by decide))) (by decide))) (by decide))) (by decide))) (by decide))) (by decide))) (by decide))) (by decide))) (by decide))) (by decide)) (fun _ q => gE_wR q) ?_
  refine x_let (fun s242 e243 => ?_)
  refine x_aload_n (μ := mu_x11_init) (pc := 354) 0 dX11_init_354 rfl ?_
  refine x_sipush (μ := mu_x11_init) (pc := 355) dX11_init_355 (by decide) ?_
  refine x_if (fun hg244 => ?_)
  refine x_ok (fun ok245 => ?_)
  refine x_newaz (μ := mu_x11_init) (pc := 358) dX11_init_358 hg244 ?_
  refine x_let (fun s246 e247 => ?_)
  refine x_fprF (μ := mu_x11_init) (pc := 360) fX11_84 q2720 rfl rfl (by first | exact Or.inl ⟨_, rfl⟩ | exact Or.inr ⟨_, rfl⟩) dX11_init_360 (gT_N e247 ok245 (gT_R e243 (gT_N e241 ok239 (gT_R e237 (gT_N e235 ok233 (gT_R e231 (gT_N e229 ok227 (gT_R e225 (gT_N e223 ok221 (gT_R e219 (gT_N e217 ok215 (gT_R e213 (gT_N e211 ok209 (gT_R e207 (gT_N e205 ok203 (gT_R e201 (gT_N e199 ok197 (gT_R e195 (gT_N e193 ok191 (gT_R e189 (gT_N e187 ok185 (gT_R e183 (gT_N e181 ok179 (gT_R e177 (gT_N e175 ok173 (gT_R e171 (gT_N e169 ok167 (gT_R e165 (gT_N e163 ok161 (gT_R e159 (gT_N e157 ok155 (gT_R e153 (gT_N e151 ok149 (gT_R e147 (gT_N e145 ok143 (gT_R e141 (gT_N e139 ok137 (gT_R e135 (gT_N e133 ok131 (gT_R e129 (gT_N e127 ok125 (gT_R e123 (gT_N e121 ok119 (gT_R e117 (gT_N e115 ok113 (gT_R e111 (gT_N e109 ok107 (gT_R e105 (gT_N e103 ok101 (gT_R e99 (gT_N e97 ok95 (gT_R e93 (gT_N e91 ok89 (gT_R e87 (gT_N e85 ok83 (gT_R e81 (gT_N e79 ok77 (gT_R e75 (gT_N e73 ok71 (gT_R e69 (gT_N e67 ok65 (gT_R e63 (gT_N e61 ok59 (gT_I e57 (gT_R e55 (gT_N e53 ok51 (gT_R e49 (gT_N e47 ok45 (gT_R e43 (gT_N e41 ok39 (gT_I e37 (gT_I e35 (gT_I e33 (gT_R e31 (gT_N e29 ok27 (gT_R e25 (gT_N e23 ok21 (gT_R e19 (gT_N e17 ok15 (gT_R e13 (gT_N e11 ok9 (gT_R e7 (gT_N e5 ok3 hT1 (by decide))) (by decide))) (by decide))) (by decide))) (by decide)))))) (by decide))) (by decide))) (by decide)))) (by decide))) (by decide))) (by decide))) (by decide))) (by decide))) (by decide))) (by decide))) (by decide))) (by decide))) (by decide))) (by decide))) (by decide))) (by decide))) (by decide))) (by decide))) (by decide))) (by decide))) (by decide))) (by decide))) (by decide))) (by decide))) (by decide))) (by decide))) (by decide))) (by decide))) (by decide))) (by decide))) (by decide))) (by decide))) (by decide))) (by decide))) (by decide)) (fun _ q => gE_wR q) ?_
  refine x_let (fun s248 e249 => ?_)
  refine x_aload_n (μ := mu_x11_init) (pc := 363) 0 dX11_init_363 rfl ?_
  refine x_iconst (μ := mu_x11_init) (pc := 364) dX11_init_364 ?_
  refine x_if (fun hg250 => ?_)
  refine x_ok (fun ok251 => ?_)
  refine x_newal (μ := mu_x11_init) (pc := 365) dX11_init_365 hg250 ?_
  refine x_let (fun s252 e253 => ?_)
  refine x_fprF (μ := mu_x11_init) (pc := 367) fX11_85 q2721 rfl rfl (by first | exact Or.inl ⟨_, rfl⟩ | exact Or.inr ⟨_, rfl⟩) dX11_init_367 (gT_N e253 ok251 (gT_R e249 (gT_N e247 ok245 (gT_R e243 (gT_N e241 ok239 (gT_R e237 (gT_N e235 ok233 (gT_R e231 (gT_N e229 ok227 (gT_R e225 (gT_N e223 ok221 (gT_R e219 (gT_N e217 ok215 (gT_R e213 (gT_N e211 ok209 (gT_R e207 (gT_N e205 ok203 (gT_R e201 (gT_N e199 ok197 (gT_R e195 (gT_N e193 ok191 (gT_R e189 (gT_N e187 ok185 (gT_R e183 (gT_N e181 ok179 (gT_R e177 (gT_N e175 ok173 (gT_R e171 (gT_N e169 ok167 (gT_R e165 (gT_N e163 ok161 (gT_R e159 (gT_N e157 ok155 (gT_R e153 (gT_N e151 ok149 (gT_R e147 (gT_N e145 ok143 (gT_R e141 (gT_N e139 ok137 (gT_R e135 (gT_N e133 ok131 (gT_R e129 (gT_N e127 ok125 (gT_R e123 (gT_N e121 ok119 (gT_R e117 (gT_N e115 ok113 (gT_R e111 (gT_N e109 ok107 (gT_R e105 (gT_N e103 ok101 (gT_R e99 (gT_N e97 ok95 (gT_R e93 (gT_N e91 ok89 (gT_R e87 (gT_N e85 ok83 (gT_R e81 (gT_N e79 ok77 (gT_R e75 (gT_N e73 ok71 (gT_R e69 (gT_N e67 ok65 (gT_R e63 (gT_N e61 ok59 (gT_I e57 (gT_R e55 (gT_N e53 ok51 (gT_R e49 (gT_N e47 ok45 (gT_R e43 (gT_N e41 ok39 (gT_I e37 (gT_I e35 (gT_I e33 (gT_R e31 (gT_N e29 ok27 (gT_R e25 (gT_N e23 ok21 (gT_R e19 (gT_N e17 ok15 (gT_R e13 (gT_N e11 ok9 (gT_R e7 (gT_N e5 ok3 hT1 (by decide))) (by decide))) (by decide))) (by decide))) (by decide)))))) (by decide))) (by decide))) (by decide)))) (by decide))) (by decide))) (by decide))) (by decide))) (by decide))) (by decide))) (by decide))) (by decide))) (by decide))) (by decide))) (by decide))) (by decide))) (by decide))) (by decide))) (by decide))) (by decide))) (by decide))) (by decide))) (by decide))) (by decide))) (by decide))) (by decide))) (by decide))) (by decide))) (by decide))) (by decide))) (by decide))) (by decide))) (by decide))) (by decide))) (by decide))) (by decide))) (by decide)) (fun _ q => gE_wR q) ?_
  refine x_let (fun s254 e255 => ?_)
  refine x_aload_n (μ := mu_x11_init) (pc := 370) 0 dX11_init_370 rfl ?_
  refine x_sipush (μ := mu_x11_init) (pc := 371) dX11_init_371 (by decide) ?_
  refine x_if (fun hg256 => ?_)
  refine x_ok (fun ok257 => ?_)
  refine x_newab (μ := mu_x11_init) (pc := 374) dX11_init_374 hg256 ?_
  refine x_let (fun s258 e259 => ?_)
  refine x_fprF (μ := mu_x11_init) (pc := 376) fX11_86 q2722 rfl rfl (by first | exact Or.inl ⟨_, rfl⟩ | exact Or.inr ⟨_, rfl⟩) dX11_init_376 (gT_N e259 ok257 (gT_R e255 (gT_N e253 ok251 (gT_R e249 (gT_N e247 ok245 (gT_R e243 (gT_N e241 ok239 (gT_R e237 (gT_N e235 ok233 (gT_R e231 (gT_N e229 ok227 (gT_R e225 (gT_N e223 ok221 (gT_R e219 (gT_N e217 ok215 (gT_R e213 (gT_N e211 ok209 (gT_R e207 (gT_N e205 ok203 (gT_R e201 (gT_N e199 ok197 (gT_R e195 (gT_N e193 ok191 (gT_R e189 (gT_N e187 ok185 (gT_R e183 (gT_N e181 ok179 (gT_R e177 (gT_N e175 ok173 (gT_R e171 (gT_N e169 ok167 (gT_R e165 (gT_N e163 ok161 (gT_R e159 (gT_N e157 ok155 (gT_R e153 (gT_N e151 ok149 (gT_R e147 (gT_N e145 ok143 (gT_R e141 (gT_N e139 ok137 (gT_R e135 (gT_N e133 ok131 (gT_R e129 (gT_N e127 ok125 (gT_R e123 (gT_N e121 ok119 (gT_R e117 (gT_N e115 ok113 (gT_R e111 (gT_N e109 ok107 (gT_R e105 (gT_N e103 ok101 (gT_R e99 (gT_N e97 ok95 (gT_R e93 (gT_N e91 ok89 (gT_R e87 (gT_N e85 ok83 (gT_R e81 (gT_N e79 ok77 (gT_R e75 (gT_N e73 ok71 (gT_R e69 (gT_N e67 ok65 (gT_R e63 (gT_N e61 ok59 (gT_I e57 (gT_R e55 (gT_N e53 ok51 (gT_R e49 (gT_N e47 ok45 (gT_R e43 (gT_N e41 ok39 (gT_I e37 (gT_I e35 (gT_I e33 (gT_R e31 (gT_N e29 ok27 (gT_R e25 (gT_N e23 ok21 (gT_R e19 (gT_N e17 ok15 (gT_R e13 (gT_N e11 ok9 (gT_R e7 (gT_N e5 ok3 hT1 (by decide))) (by decide))) (by decide))) (by decide))) (by decide)))))) (by decide))) (by decide))) (by decide)))) (by decide))) (by decide))) (by decide))) (by decide))) (by decide))) (by decide))) (by decide))) (by decide))) (by decide))) (by decide))) (by decide))) (by decide))) (by decide))) (by decide))) (by decide))) (by decide))) (by decide))) (by decide))) (by decide))) (by decide))) (by decide))) (by decide))) (by decide))) (by decide))) (by decide))) (by decide))) (by decide))) (by decide))) (by decide))) (by decide))) (by decide))) (by decide))) (by decide))) (by decide)) (fun _ q => gE_wR q) ?_
  refine x_let (fun s260 e261 => ?_)
  refine x_aload_n (μ := mu_x11_init) (pc := 379) 0 dX11_init_379 rfl ?_
  refine x_bipush (μ := mu_x11_init) (pc := 380) dX11_init_380 (by decide) ?_
  refine x_if (fun hg262 => ?_)
  refine x_ok (fun ok263 => ?_)
  refine x_newai (μ := mu_x11_init) (pc := 382) dX11_init_382 hg262 ?_
  refine x_let (fun s264 e265 => ?_)
  refine x_fprF (μ := mu_x11_init) (pc := 384) fX11_88 q2724 rfl rfl (by first | exact Or.inl ⟨_, rfl⟩ | exact Or.inr ⟨_, rfl⟩) dX11_init_384 (gT_N e265 ok263 (gT_R e261 (gT_N e259 ok257 (gT_R e255 (gT_N e253 ok251 (gT_R e249 (gT_N e247 ok245 (gT_R e243 (gT_N e241 ok239 (gT_R e237 (gT_N e235 ok233 (gT_R e231 (gT_N e229 ok227 (gT_R e225 (gT_N e223 ok221 (gT_R e219 (gT_N e217 ok215 (gT_R e213 (gT_N e211 ok209 (gT_R e207 (gT_N e205 ok203 (gT_R e201 (gT_N e199 ok197 (gT_R e195 (gT_N e193 ok191 (gT_R e189 (gT_N e187 ok185 (gT_R e183 (gT_N e181 ok179 (gT_R e177 (gT_N e175 ok173 (gT_R e171 (gT_N e169 ok167 (gT_R e165 (gT_N e163 ok161 (gT_R e159 (gT_N e157 ok155 (gT_R e153 (gT_N e151 ok149 (gT_R e147 (gT_N e145 ok143 (gT_R e141 (gT_N e139 ok137 (gT_R e135 (gT_N e133 ok131 (gT_R e129 (gT_N e127 ok125 (gT_R e123 (gT_N e121 ok119 (gT_R e117 (gT_N e115 ok113 (gT_R e111 (gT_N e109 ok107 (gT_R e105 (gT_N e103 ok101 (gT_R e99 (gT_N e97 ok95 (gT_R e93 (gT_N e91 ok89 (gT_R e87 (gT_N e85 ok83 (gT_R e81 (gT_N e79 ok77 (gT_R e75 (gT_N e73 ok71 (gT_R e69 (gT_N e67 ok65 (gT_R e63 (gT_N e61 ok59 (gT_I e57 (gT_R e55 (gT_N e53 ok51 (gT_R e49 (gT_N e47 ok45 (gT_R e43 (gT_N e41 ok39 (gT_I e37 (gT_I e35 (gT_I e33 (gT_R e31 (gT_N e29 ok27 (gT_R e25 (gT_N e23 ok21 (gT_R e19 (gT_N e17 ok15 (gT_R e13 (gT_N e11 ok9 (gT_R e7 (gT_N e5 ok3 hT1 (by decide))) (by decide))) (by decide))) (by decide))) (by decide)))))) (by decide))) (by decide))) (by decide)))) (by decide))) (by decide))) (by decide))) (by decide))) (by decide))) (by decide))) (by decide))) (by decide))) (by decide))) (by decide))) (by decide))) (by decide))) (by decide))) (by decide))) (by decide))) (by decide))) (by decide))) (by decide))) (by decide))) (by decide))) (by decide))) (by decide))) (by decide))) (by decide))) (by decide))) (by decide))) (by decide))) (by decide))) (by decide))) (by decide))) (by decide))) (by decide))) (by decide))) (by decide))) (by decide)) (fun _ q => gE_wR q) ?_
  refine x_let (fun s266 e267 => ?_)
  refine x_aload_n (μ := mu_x11_init) (pc := 387) 0 dX11_init_387 rfl ?_
  refine x_bipush (μ := mu_x11_init) (pc := 388) dX11_init_388 (by decide) ?_
  refine x_if (fun hg268 => ?_)
  refine x_ok (fun ok269 => ?_)
  refine x_newaz (μ := mu_x11_init) (pc := 390) dX11_init_390 hg268 ?_
  refine x_let (fun s270 e271 => ?_)
  refine x_fprF (μ := mu_x11_init) (pc := 392) fX11_89 q2725 rfl rfl (by first | exact Or.inl ⟨_, rfl⟩ | exact Or.inr ⟨_, rfl⟩) dX11_init_392 (gT_N e271 ok269 (gT_R e267 (gT_N e265 ok263 (gT_R e261 (gT_N e259 ok257 (gT_R e255 (gT_N e253 ok251 (gT_R e249 (gT_N e247 ok245 (gT_R e243 (gT_N e241 ok239 (gT_R e237 (gT_N e235 ok233 (gT_R e231 (gT_N e229 ok227 (gT_R e225 (gT_N e223 ok221 (gT_R e219 (gT_N e217 ok215 (gT_R e213 (gT_N e211 ok209 (gT_R e207 (gT_N e205 ok203 (gT_R e201 (gT_N e199 ok197 (gT_R e195 (gT_N e193 ok191 (gT_R e189 (gT_N e187 ok185 (gT_R e183 (gT_N e181 ok179 (gT_R e177 (gT_N e175 ok173 (gT_R e171 (gT_N e169 ok167 (gT_R e165 (gT_N e163 ok161 (gT_R e159 (gT_N e157 ok155 (gT_R e153 (gT_N e151 ok149 (gT_R e147 (gT_N e145 ok143 (gT_R e141 (gT_N e139 ok137 (gT_R e135 (gT_N e133 ok131 (gT_R e129 (gT_N e127 ok125 (gT_R e123 (gT_N e121 ok119 (gT_R e117 (gT_N e115 ok113 (gT_R e111 (gT_N e109 ok107 (gT_R e105 (gT_N e103 ok101 (gT_R e99 (gT_N e97 ok95 (gT_R e93 (gT_N e91 ok89 (gT_R e87 (gT_N e85 ok83 (gT_R e81 (gT_N e79 ok77 (gT_R e75 (gT_N e73 ok71 (gT_R e69 (gT_N e67 ok65 (gT_R e63 (gT_N e61 ok59 (gT_I e57 (gT_R e55 (gT_N e53 ok51 (gT_R e49 (gT_N e47 ok45 (gT_R e43 (gT_N e41 ok39 (gT_I e37 (gT_I e35 (gT_I e33 (gT_R e31 (gT_N e29 ok27 (gT_R e25 (gT_N e23 ok21 (gT_R e19 (gT_N e17 ok15 (gT_R e13 (gT_N e11 ok9 (gT_R e7 (gT_N e5 ok3 hT1 (by decide))) (by decide))) (by decide))) (by decide))) (by decide)))))) (by decide))) (by decide))) (by decide)))) (by decide))) (by decide))) (by decide))) (by decide))) (by decide))) (by decide))) (by decide))) (by decide))) (by decide))) (by decide))) (by decide))) (by decide))) (by decide))) (by decide))) (by decide))) (by decide))) (by decide))) (by decide))) (by decide))) (by decide))) (by decide))) (by decide))) (by decide))) (by decide))) (by decide))) (by decide))) (by decide))) (by decide))) (by decide))) (by decide))) (by decide))) (by decide))) (by decide))) (by decide))) (by decide))) (by decide)) (fun _ q => gE_wR q) ?_
  refine x_let (fun s272 e273 => ?_)
  refine x_aload_n (μ := mu_x11_init) (pc := 395) 0 dX11_init_395 rfl ?_
  refine x_bipush (μ := mu_x11_init) (pc := 396) dX11_init_396 (by decide) ?_
  refine x_if (fun hg274 => ?_)
  refine x_ok (fun ok275 => ?_)
  refine x_newaz (μ := mu_x11_init) (pc := 398) dX11_init_398 hg274 ?_
  refine x_let (fun s276 e277 => ?_)
  refine x_fprF (μ := mu_x11_init) (pc := 400) fX11_90 q2726 rfl rfl (by first | exact Or.inl ⟨_, rfl⟩ | exact Or.inr ⟨_, rfl⟩) dX11_init_400 (gT_N e277 ok275 (gT_R e273 (gT_N e271 ok269 (gT_R e267 (gT_N e265 ok263 (gT_R e261 (gT_N e259 ok257 (gT_R e255 (gT_N e253 ok251 (gT_R e249 (gT_N e247 ok245 (gT_R e243 (gT_N e241 ok239 (gT_R e237 (gT_N e235 ok233 (gT_R e231 (gT_N e229 ok227 (gT_R e225 (gT_N e223 ok221 (gT_R e219 (gT_N e217 ok215 (gT_R e213 (gT_N e211 ok209 (gT_R e207 (gT_N e205 ok203 (gT_R e201 (gT_N e199 ok197 (gT_R e195 (gT_N e193 ok191 (gT_R e189 (gT_N e187 ok185 (gT_R e183 (gT_N e181 ok179 (gT_R e177 (gT_N e175 ok173 (gT_R e171 (gT_N e169 ok167 (gT_R e165 (gT_N e163 ok161 (gT_R e159 (gT_N e157 ok155 (gT_R e153 (gT_N e151 ok149 (gT_R e147 (gT_N e145 ok143 (gT_R e141 (gT_N e139 ok137 (gT_R e135 (gT_N e133 ok131 (gT_R e129 (gT_N e127 ok125 (gT_R e123 (gT_N e121 ok119 (gT_R e117 (gT_N e115 ok113 (gT_R e111 (gT_N e109 ok107 (gT_R e105 (gT_N e103 ok101 (gT_R e99 (gT_N e97 ok95 (gT_R e93 (gT_N e91 ok89 (gT_R e87 (gT_N e85 ok83 (gT_R e81 (gT_N e79 ok77 (gT_R e75 (gT_N e73 ok71 (gT_R e69 (gT_N e67 ok65 (gT_R e63 (gT_N e61 ok59 (gT_I e57 (gT_R e55 (gT_N e53 ok51 (gT_R e49 (gT_N e47 ok45 (gT_R e43 (gT_N e41 ok39 (gT_I e37 (gT_I e35 (gT_I e33 (gT_R e31 (gT_N e29 ok27 (gT_R e25 (gT_N e23 ok21 (gT_R e19 (gT_N e17 ok15 (gT_R e13 (gT_N e11 ok9 (gT_R e7 (gT_N e5 ok3 hT1 (by decide))) (by decide))) (by decide))) (by decide))) (by decide)))))) (by decide))) (by decide))) (by decide)))) (by decide))) (by decide))) (by decide))) (by decide))) (by decide))) (by decide))) (by decide))) (by decide))) (by decide))) (by decide))) (by decide))) (by decide))) (by decide))) (by decide))) (by decide))) (by decide))) (by decide))) (by decide))) (by decide))) (by decide))) (by decide))) (by decide))) (by decide))) (by decide))) (by decide))) (by decide))) (by decide))) (by decide))) (by decide))) (by decide))) (by decide))) (by decide))) (by decide))) (by decide))) (by decide))) (by decide))) (by decide)) (fun _ q => gE_wR q) ?_
  refine x_let (fun s278 e279 => ?_)
  refine x_aload_n (μ := mu_x11_init) (pc := 403) 0 dX11_init_403 rfl ?_
  refine x_sipush (μ := mu_x11_init) (pc := 404) dX11_init_404 (by decide) ?_
  refine x_if (fun hg280 => ?_)
  refine x_ok (fun ok281 => ?_)
  refine x_newai (μ := mu_x11_init) (pc := 407) dX11_init_407 hg280 ?_
  refine x_let (fun s282 e283 => ?_)
  refine x_fprF (μ := mu_x11_init) (pc := 409) fX11_91 q2727 rfl rfl (by first | exact Or.inl ⟨_, rfl⟩ | exact Or.inr ⟨_, rfl⟩) dX11_init_409 (gT_N e283 ok281 (gT_R e279 (gT_N e277 ok275 (gT_R e273 (gT_N e271 ok269 (gT_R e267 (gT_N e265 ok263 (gT_R e261 (gT_N e259 ok257 (gT_R e255 (gT_N e253 ok251 (gT_R e249 (gT_N e247 ok245 (gT_R e243 (gT_N e241 ok239 (gT_R e237 (gT_N e235 ok233 (gT_R e231 (gT_N e229 ok227 (gT_R e225 (gT_N e223 ok221 (gT_R e219 (gT_N e217 ok215 (gT_R e213 (gT_N e211 ok209 (gT_R e207 (gT_N e205 ok203 (gT_R e201 (gT_N e199 ok197 (gT_R e195 (gT_N e193 ok191 (gT_R e189 (gT_N e187 ok185 (gT_R e183 (gT_N e181 ok179 (gT_R e177 (gT_N e175 ok173 (gT_R e171 (gT_N e169 ok167 (gT_R e165 (gT_N e163 ok161 (gT_R e159 (gT_N e157 ok155 (gT_R e153 (gT_N e151 ok149 (gT_R e147 (gT_N e145 ok143 (gT_R e141 (gT_N e139 ok137 (gT_R e135 (gT_N e133 ok131 (gT_R e129 (gT_N e127 ok125 (gT_R e123 (gT_N e121 ok119 (gT_R e117 (gT_N e115 ok113 (gT_R e111 (gT_N e109 ok107 (gT_R e105 (gT_N e103 ok101 (gT_R e99 (gT_N e97 ok95 (gT_R e93 (gT_N e91 ok89 (gT_R e87 (gT_N e85 ok83 (gT_R e81 (gT_N e79 ok77 (gT_R e75 (gT_N e73 ok71 (gT_R e69 (gT_N e67 ok65 (gT_R e63 (gT_N e61 ok59 (gT_I e57 (gT_R e55 (gT_N e53 ok51 (gT_R e49 (gT_N e47 ok45 (gT_R e43 (gT_N e41 ok39 (gT_I e37 (gT_I e35 (gT_I e33 (gT_R e31 (gT_N e29 ok27 (gT_R e25 (gT_N e23 ok21 (gT_R e19 (gT_N e17 ok15 (gT_R e13 (gT_N e11 ok9 (gT_R e7 (gT_N e5 ok3 hT1 (by decide))) (by decide))) (by decide))) (by decide))) (by decide)))))) (by decide))) (by decide))) (by decide)))) (by decide))) (by decide))) (by decide))) (by decide))) (by decide))) (by decide))) (by decide))) (by decide))) (by decide))) (by decide))) (by decide))) (by decide))) (by decide))) (by decide))) (by decide))) (by decide))) (by decide))) (by decide))) (by decide))) (by decide))) (by decide))) (by decide))) (by decide))) (by decide))) (by decide))) (by decide))) (by decide))) (by decide))) (by decide))) (by decide))) (by decide))) (by decide))) (by decide))) (by decide))) (by decide))) (by decide))) (by decide))) (by decide)) (fun _ q => gE_wR q) ?_
  refine x_let (fun s284 e285 => ?_)
  refine x_aload_n (μ := mu_x11_init) (pc := 412) 0 dX11_init_412 rfl ?_
  refine x_sipush (μ := mu_x11_init) (pc := 413) dX11_init_413 (by decide) ?_
  refine x_if (fun hg286 => ?_)
  refine x_ok (fun ok287 => ?_)
  refine x_newai (μ := mu_x11_init) (pc := 416) dX11_init_416 hg286 ?_
  refine x_let (fun s288 e289 => ?_)
  refine x_fprF (μ := mu_x11_init) (pc := 418) fX11_92 q2728 rfl rfl (by first | exact Or.inl ⟨_, rfl⟩ | exact Or.inr ⟨_, rfl⟩) dX11_init_418 (gT_N e289 ok287 (gT_R e285 (gT_N e283 ok281 (gT_R e279 (gT_N e277 ok275 (gT_R e273 (gT_N e271 ok269 (gT_R e267 (gT_N e265 ok263 (gT_R e261 (gT_N e259 ok257 (gT_R e255 (gT_N e253 ok251 (gT_R e249 (gT_N e247 ok245 (gT_R e243 (gT_N e241 ok239 (gT_R e237 (gT_N e235 ok233 (gT_R e231 (gT_N e229 ok227 (gT_R e225 (gT_N e223 ok221 (gT_R e219 (gT_N e217 ok215 (gT_R e213 (gT_N e211 ok209 (gT_R e207 (gT_N e205 ok203 (gT_R e201 (gT_N e199 ok197 (gT_R e195 (gT_N e193 ok191 (gT_R e189 (gT_N e187 ok185 (gT_R e183 (gT_N e181 ok179 (gT_R e177 (gT_N e175 ok173 (gT_R e171 (gT_N e169 ok167 (gT_R e165 (gT_N e163 ok161 (gT_R e159 (gT_N e157 ok155 (gT_R e153 (gT_N e151 ok149 (gT_R e147 (gT_N e145 ok143 (gT_R e141 (gT_N e139 ok137 (gT_R e135 (gT_N e133 ok131 (gT_R e129 (gT_N e127 ok125 (gT_R e123 (gT_N e121 ok119 (gT_R e117 (gT_N e115 ok113 (gT_R e111 (gT_N e109 ok107 (gT_R e105 (gT_N e103 ok101 (gT_R e99 (gT_N e97 ok95 (gT_R e93 (gT_N e91 ok89 (gT_R e87 (gT_N e85 ok83 (gT_R e81 (gT_N e79 ok77 (gT_R e75 (gT_N e73 ok71 (gT_R e69 (gT_N e67 ok65 (gT_R e63 (gT_N e61 ok59 (gT_I e57 (gT_R e55 (gT_N e53 ok51 (gT_R e49 (gT_N e47 ok45 (gT_R e43 (gT_N e41 ok39 (gT_I e37 (gT_I e35 (gT_I e33 (gT_R e31 (gT_N e29 ok27 (gT_R e25 (gT_N e23 ok21 (gT_R e19 (gT_N e17 ok15 (gT_R e13 (gT_N e11 ok9 (gT_R e7 (gT_N e5 ok3 hT1 (by decide))) (by decide))) (by decide))) (by decide))) (by decide)))))) (by decide))) (by decide))) (by decide)))) (by decide))) (by decide))) (by decide))) (by decide))) (by decide))) (by decide))) (by decide))) (by decide))) (by decide))) (by decide))) (by decide))) (by decide))) (by decide))) (by decide))) (by decide))) (by decide))) (by decide))) (by decide))) (by decide))) (by decide))) (by decide))) (by decide))) (by decide))) (by decide))) (by decide))) (by decide))) (by decide))) (by decide))) (by decide))) (by decide))) (by decide))) (by decide))) (by decide))) (by decide))) (by decide))) (by decide))) (by decide))) (by decide))) (by decide)) (fun _ q => gE_wR q) ?_
  refine x_let (fun s290 e291 => ?_)
  refine x_aload_n (μ := mu_x11_init) (pc := 421) 0 dX11_init_421 rfl ?_
  refine x_sipush (μ := mu_x11_init) (pc := 422) dX11_init_422 (by decide) ?_
  refine x_if (fun hg292 => ?_)
  refine x_ok (fun ok293 => ?_)
  refine x_newai (μ := mu_x11_init) (pc := 425) dX11_init_425 hg292 ?_
  refine x_let (fun s294 e295 => ?_)
  refine x_fprF (μ := mu_x11_init) (pc := 427) fX11_93 q2729 rfl rfl (by first | exact Or.inl ⟨_, rfl⟩ | exact Or.inr ⟨_, rfl⟩) dX11_init_427 (gT_N e295 ok293 (gT_R e291 (gT_N e289 ok287 (gT_R e285 (gT_N e283 ok281 (gT_R e279 (gT_N e277 ok275 (gT_R e273 (gT_N e271 ok269 (gT_R e267 (gT_N e265 ok263 (gT_R e261 (gT_N e259 ok257 (gT_R e255 (gT_N e253 ok251 (gT_R e249 (gT_N e247 ok245 (gT_R e243 (gT_N e241 ok239 (gT_R e237 (gT_N e235 ok233 (gT_R e231 (gT_N e229 ok227 (gT_R e225 (gT_N e223 ok221 (gT_R e219 (gT_N e217 ok215 (gT_R e213 (gT_N e211 ok209 (gT_R e207 (gT_N e205 ok203 (gT_R e201 (gT_N e199 ok197 (gT_R e195 (gT_N e193 ok191 (gT_R e189 (gT_N e187 ok185 (gT_R e183 (gT_N e181 ok179 (gT_R e177 (gT_N e175 ok173 (gT_R e171 (gT_N e169 ok167 (gT_R e165 (gT_N e163 ok161 (gT_R e159 (gT_N e157 ok155 (gT_R e153 (gT_N e151 ok149 (gT_R e147 (gT_N e145 ok143 (gT_R e141 (gT_N e139 ok137 (gT_R e135 (gT_N e133 ok131 (gT_R e129 (gT_N e127 ok125 (gT_R e123 (gT_N e121 ok119 (gT_R e117 (gT_N e115 ok113 (gT_R e111 (gT_N e109 ok107 (gT_R e105 (gT_N e103 ok101 (gT_R e99 (gT_N e97 ok95 (gT_R e93 (gT_N e91 ok89 (gT_R e87 (gT_N e85 ok83 (gT_R e81 (gT_N e79 ok77 (gT_R e75 (gT_N e73 ok71 (gT_R e69 (gT_N e67 ok65 (gT_R e63 (gT_N e61 ok59 (gT_I e57 (gT_R e55 (gT_N e53 ok51 (gT_R e49 (gT_N e47 ok45 (gT_R e43 (gT_N e41 ok39 (gT_I e37 (gT_I e35 (gT_I e33 (gT_R e31 (gT_N e29 ok27 (gT_R e25 (gT_N e23 ok21 (gT_R e19 (gT_N e17 ok15 (gT_R e13 (gT_N e11 ok9 (gT_R e7 (gT_N e5 ok3 hT1 (by decide))) (by decide))) (by decide))) (by decide))) (by decide)))))) (by decide))) (by decide))) (by decide)))) (by decide))) (by decide))) (by decide))) (by decide))) (by decide))) (by decide))) (by decide))) (by decide))) (by decide))) (by decide))) (by decide))) (by decide))) (by decide))) (by decide))) (by decide))) (by decide))) (by decide))) (by decide))) (by decide))) (by decide))) (by decide))) (by decide))) (by decide))) (by decide))) (by decide))) (by decide))) (by decide))) (by decide))) (by decide))) (by decide))) (by decide))) (by decide))) (by decide))) (by decide))) (by decide))) (by decide))) (by decide))) (by decide))) (by decide))) (by decide)) (fun _ q => gE_wR q) ?_
  refine x_let (fun s296 e297 => ?_)
  refine x_aload_n (μ := mu_x11_init) (pc := 430) 0 dX11_init_430 rfl ?_
  refine x_sipush (μ := mu_x11_init) (pc := 431) dX11_init_431 (by decide) ?_
  refine x_if (fun hg298 => ?_)
  refine x_ok (fun ok299 => ?_)
  refine x_newai (μ := mu_x11_init) (pc := 434) dX11_init_434 hg298 ?_
  refine x_let (fun s300 e301 => ?_)
  refine x_fprF (μ := mu_x11_init) (pc := 436) fX11_94 q2730 rfl rfl (by first | exact Or.inl ⟨_, rfl⟩ | exact Or.inr ⟨_, rfl⟩) dX11_init_436 (gT_N e301 ok299 (gT_R e297 (gT_N e295 ok293 (gT_R e291 (gT_N e289 ok287 (gT_R e285 (gT_N e283 ok281 (gT_R e279 (gT_N e277 ok275 (gT_R e273 (gT_N e271 ok269 (gT_R e267 (gT_N e265 ok263 (gT_R e261 (gT_N e259 ok257 (gT_R e255 (gT_N e253 ok251 (gT_R e249 (gT_N e247 ok245 (gT_R e243 (gT_N e241 ok239 (gT_R e237 (gT_N e235 ok233 (gT_R e231 (gT_N e229 ok227 (gT_R e225 (gT_N e223 ok221 (gT_R e219 (gT_N e217 ok215 (gT_R e213 (gT_N e211 ok209 (gT_R e207 (gT_N e205 ok203 (gT_R e201 (gT_N e199 ok197 (gT_R e195 (gT_N e193 ok191 (gT_R e189 (gT_N e187 ok185 (gT_R e183 (gT_N e181 ok179 (gT_R e177 (gT_N e175 ok173 (gT_R e171 (gT_N e169 ok167 (gT_R e165 (gT_N e163 ok161 (gT_R e159 (gT_N e157 ok155 (gT_R e153 (gT_N e151 ok149 (gT_R e147 (gT_N e145 ok143 (gT_R e141 (gT_N e139 ok137 (gT_R e135 (gT_N e133 ok131 (gT_R e129 (gT_N e127 ok125 (gT_R e123 (gT_N e121 ok119 (gT_R e117 (gT_N e115 ok113 (gT_R e111 (gT_N e109 ok107 (gT_R e105 (gT_N e103 ok101 (gT_R e99 (gT_N e97 ok95 (gT_R e93 (gT_N e91 ok89 (gT_R e87 (gT_N e85 ok83 (gT_R e81 (gT_N e79 ok77 (gT_R e75 (gT_N e73 ok71 (gT_R e69 (gT_N e67 ok65 (gT_R e63 (gT_N e61 ok59 (gT_I e57 (gT_R e55 (gT_N e53 ok51 (gT_R e49 (gT_N e47 ok45 (gT_R e43 (gT_N e41 ok39 (gT_I e37 (gT_I e35 (gT_I e33 (gT_R e31 (gT_N e29 ok27 (gT_R e25 (gT_N e23 ok21 (gT_R e19 (gT_N e17 ok15 (gT_R e13 (gT_N e11 ok9 (gT_R e7 (gT_N e5 ok3 hT1 (by decide))) (by decide))) (by decide))) (by decide))) (by decide)))))) (by decide))) (by decide))) (by decide)))) (by decide))) (by decide))) (by decide))) (by decide))) (by decide))) (by decide))) (by decide))) (by decide))) (by decide))) (by decide))) (by decide))) (by decide))) (by decide))) (by decide))) (by decide))) (by decide))) (by decide))) (by decide))) (by decide))) (by decide))) (by decide))) (by decide))) (by decide))) (by decide))) (by decide))) (by decide))) (by decide))) (by decide))) (by decide))) (by decide))) (by decide))) (by decide))) (by decide))) (by decide))) (by decide))) (by decide))) (by decide))) (by decide))) (by decide))) (by decide))) (by decide)) (fun _ q => gE_wR q) ?_
  refine x_let (fun s302 e303 => ?_)
  refine x_aload_n (μ := mu_x11_init) (pc := 439) 0 dX11_init_439 rfl ?_
  refine x_sipush (μ := mu_x11_init) (pc := 440) dX11_init_440 (by decide) ?_
  refine x_if (fun hg304 => ?_)
  refine x_ok (fun ok305 => ?_)
  refine x_newai (μ := mu_x11_init) (pc := 443) dX11_init_443 hg304 ?_
  refine x_let (fun s306 e307 => ?_)
  refine x_fprF (μ := mu_x11_init) (pc := 445) fX11_95 q2731 rfl rfl (by first | exact Or.inl ⟨_, rfl⟩ | exact Or.inr ⟨_, rfl⟩) dX11_init_445 (gT_N e307 ok305 (gT_R e303 (gT_N e301 ok299 (gT_R e297 (gT_N e295 ok293 (gT_R e291 (gT_N e289 ok287 (gT_R e285 (gT_N e283 ok281 (gT_R e279 (gT_N e277 ok275 (gT_R e273 (gT_N e271 ok269 (gT_R e267 (gT_N e265 ok263 (gT_R e261 (gT_N e259 ok257 (gT_R e255 (gT_N e253 ok251 (gT_R e249 (gT_N e247 ok245 (gT_R e243 (gT_N e241 ok239 (gT_R e237 (gT_N e235 ok233 (gT_R e231 (gT_N e229 ok227 (gT_R e225 (gT_N e223 ok221 (gT_R e219 (gT_N e217 ok215 (gT_R e213 (gT_N e211 ok209 (gT_R e207 (gT_N e205 ok203 (gT_R e201 (gT_N e199 ok197 (gT_R e195 (gT_N e193 ok191 (gT_R e189 (gT_N e187 ok185 (gT_R e183 (gT_N e181 ok179 (gT_R e177 (gT_N e175 ok173 (gT_R e171 (gT_N e169 ok167 (gT_R e165 (gT_N e163 ok161 (gT_R e159 (gT_N e157 ok155 (gT_R e153 (gT_N e151 ok149 (gT_R e147 (gT_N e145 ok143 (gT_R e141 (gT_N e139 ok137 (gT_R e135 (gT_N e133 ok131 (gT_R e129 (gT_N e127 ok125 (gT_R e123 (gT_N e121 ok119 (gT_R e117 (gT_N e115 ok113 (gT_R e111 (gT_N e109 ok107 (gT_R e105 (gT_N e103 ok101 (gT_R e99 (gT_N e97 ok95 (gT_R e93 (gT_N e91 ok89 (gT_R e87 (gT_N e85 ok83 (gT_R e81 (gT_N e79 ok77 (gT_R e75 (gT_N e73 ok71 (gT_R e69 (gT_N e67 ok65 (gT_R e63 (gT_N e61 ok59 (gT_I e57 (gT_R e55 (gT_N e53 ok51 (gT_R e49 (gT_N e47 ok45 (gT_R e43 (gT_N e41 ok39 (gT_I e37 (gT_I e35 (gT_I e33 (gT_R e31 (gT_N e29 ok27 (gT_R e25 (gT_N e23 ok21 (gT_R e19 (gT_N e17 ok15 (gT_R e13 (gT_N e11 ok9 (gT_R e7 (gT_N e5 ok3 hT1 (by decide))) (by decide))) (by decide))) (by decide))) (by decide)))))) (by decide))) (by decide))) (by decide)))) (by decide))) (by decide))) (by decide))) (by decide))) (by decide))) (by decide))) (by decide))) (by decide))) (by decide))) (by decide))) (by decide))) (by decide))) (by decide))) (by decide))) (by decide))) (by decide))) (by decide))) (by decide))) (by decide))) (by decide))) (by decide))) (by decide))) (by decide))) (by decide))) (by decide))) (by decide))) (by decide))) (by decide))) (by decide))) (by decide))) (by decide))) (by decide))) (by decide))) (by decide))) (by decide))) (by decide))) (by decide))) (by decide))) (by decide))) (by decide))) (by decide))) (by decide)) (fun _ q => gE_wR q) ?_
  refine x_let (fun s308 e309 => ?_)
  refine x_aload_n (μ := mu_x11_init) (pc := 448) 0 dX11_init_448 rfl ?_
  refine x_sipush (μ := mu_x11_init) (pc := 449) dX11_init_449 (by decide) ?_
  refine x_if (fun hg310 => ?_)
  refine x_ok (fun ok311 => ?_)
  refine x_newaz (μ := mu_x11_init) (pc := 452) dX11_init_452 hg310 ?_
  refine x_let (fun s312 e313 => ?_)
  refine x_fprF (μ := mu_x11_init) (pc := 454) fX11_96 q2732 rfl rfl (by first | exact Or.inl ⟨_, rfl⟩ | exact Or.inr ⟨_, rfl⟩) dX11_init_454 (gT_N e313 ok311 (gT_R e309 (gT_N e307 ok305 (gT_R e303 (gT_N e301 ok299 (gT_R e297 (gT_N e295 ok293 (gT_R e291 (gT_N e289 ok287 (gT_R e285 (gT_N e283 ok281 (gT_R e279 (gT_N e277 ok275 (gT_R e273 (gT_N e271 ok269 (gT_R e267 (gT_N e265 ok263 (gT_R e261 (gT_N e259 ok257 (gT_R e255 (gT_N e253 ok251 (gT_R e249 (gT_N e247 ok245 (gT_R e243 (gT_N e241 ok239 (gT_R e237 (gT_N e235 ok233 (gT_R e231 (gT_N e229 ok227 (gT_R e225 (gT_N e223 ok221 (gT_R e219 (gT_N e217 ok215 (gT_R e213 (gT_N e211 ok209 (gT_R e207 (gT_N e205 ok203 (gT_R e201 (gT_N e199 ok197 (gT_R e195 (gT_N e193 ok191 (gT_R e189 (gT_N e187 ok185 (gT_R e183 (gT_N e181 ok179 (gT_R e177 (gT_N e175 ok173 (gT_R e171 (gT_N e169 ok167 (gT_R e165 (gT_N e163 ok161 (gT_R e159 (gT_N e157 ok155 (gT_R e153 (gT_N e151 ok149 (gT_R e147 (gT_N e145 ok143 (gT_R e141 (gT_N e139 ok137 (gT_R e135 (gT_N e133 ok131 (gT_R e129 (gT_N e127 ok125 (gT_R e123 (gT_N e121 ok119 (gT_R e117 (gT_N e115 ok113 (gT_R e111 (gT_N e109 ok107 (gT_R e105 (gT_N e103 ok101 (gT_R e99 (gT_N e97 ok95 (gT_R e93 (gT_N e91 ok89 (gT_R e87 (gT_N e85 ok83 (gT_R e81 (gT_N e79 ok77 (gT_R e75 (gT_N e73 ok71 (gT_R e69 (gT_N e67 ok65 (gT_R e63 (gT_N e61 ok59 (gT_I e57 (gT_R e55 (gT_N e53 ok51 (gT_R e49 (gT_N e47 ok45 (gT_R e43 (gT_N e41 ok39 (gT_I e37 (gT_I e35 (gT_I e33 (gT_R e31 (gT_N e29 ok27 (gT_R e25 (gT_N e23 ok21 (gT_R e19 (gT_N e17 ok15 (gT_R e13 (gT_N e11 ok9 (gT_R e7 (gT_N e5 ok3 hT1 (by decide))) (by decide))) (by decide))) (by decide))) (by decide)))))) (by decide))) (by decide))) (by decide)))) (by decide))) (by decide))) (by decide))) (by decide))) (by decide))) (by decide))) (by decide))) (by decide))) (by decide))) (by decide))) (by decide))) (by decide))) (by decide))) (by decide))) (by decide))) (by decide))) (by decide))) (by decide))) (by decide))) (by decide))) (by decide))) (by decide))) (by decide))) (by decide))) (by decide))) (by decide))) (by decide))) (by decide))) (by decide))) (by decide))) (by decide))) (by decide))) (by decide))) (by decide))) (by decide))) (by decide))) (by decide))) (by decide))) (by decide))) (by decide))) (by decide))) (by decide))) (by decide)) (fun _ q => gE_wR q) ?_
  refine x_let (fun s314 e315 => ?_)
  refine x_aload_n (μ := mu_x11_init) (pc := 457) 0 dX11_init_457 rfl ?_
  refine x_sipush (μ := mu_x11_init) (pc := 458) dX11_init_458 (by decide) ?_
  refine x_if (fun hg316 => ?_)
  refine x_ok (fun ok317 => ?_)
  refine x_newaz (μ := mu_x11_init) (pc := 461) dX11_init_461 hg316 ?_
  refine x_let (fun s318 e319 => ?_)
  refine x_fprF (μ := mu_x11_init) (pc := 463) fX11_97 q2733 rfl rfl (by first | exact Or.inl ⟨_, rfl⟩ | exact Or.inr ⟨_, rfl⟩) dX11_init_463 (gT_N e319 ok317 (gT_R e315 (gT_N e313 ok311 (gT_R e309 (gT_N e307 ok305 (gT_R e303 (gT_N e301 ok299 (gT_R e297 (gT_N e295 ok293 (gT_R e291 (gT_N e289 ok287 (gT_R e285 (gT_N e283 ok281 (gT_R e279 (gT_N e277 ok275 (gT_R e273 (gT_N e271 ok269 (gT_R e267 (gT_N e265 ok263 (gT_R e261 (gT_N e259 ok257 (gT_R e255 (gT_N e253 ok251 (gT_R e249 (gT_N e247 ok245 (gT_R e243 (gT_N e241 ok239 (gT_R e237 (gT_N e235 ok233 (gT_R e231 (gT_N e229 ok227 (gT_R e225 (gT_N e223 ok221 (gT_R e219 (gT_N e217 ok215 (gT_R e213 (gT_N e211 ok209 (gT_R e207 (gT_N e205 ok203 (gT_R e201 (gT_N e199 ok197 (gT_R e195 (gT_N e193 ok191 (gT_R e189 (gT_N e187 ok185 (gT_R e183 (gT_N e181 ok179 (gT_R e177 (gT_N e175 ok173 (gT_R e171 (gT_N e169 ok167 (gT_R e165 (gT_N e163 ok161 (gT_R e159 (gT_N e157 ok155 (gT_R e153 (gT_N e151 ok149 (gT_R e147 (gT_N e145 ok143 (gT_R e141 (gT_N e139 ok137 (gT_R e135 (gT_N e133 ok131 (gT_R e129 (gT_N e127 ok125 (gT_R e123 (gT_N e121 ok119 (gT_R e117 (gT_N e115 ok113 (gT_R e111 (gT_N e109 ok107 (gT_R e105 (gT_N e103 ok101 (gT_R e99 (gT_N e97 ok95 (gT_R e93 (gT_N e91 ok89 (gT_R e87 (gT_N e85 ok83 (gT_R e81 (gT_N e79 ok77 (gT_R e75 (gT_N e73 ok71 (gT_R e69 (gT_N e67 ok65 (gT_R e63 (gT_N e61 ok59 (gT_I e57 (gT_R e55 (gT_N e53 ok51 (gT_R e49 (gT_N e47 ok45 (gT_R e43 (gT_N e41 ok39 (gT_I e37 (gT_I e35 (gT_I e33 (gT_R e31 (gT_N e29 ok27 (gT_R e25 (gT_N e23 ok21 (gT_R e19 (gT_N e17 ok15 (gT_R e13 (gT_N e11 ok9 (gT_R e7 (gT_N e5 ok3 hT1 (by decide))) (by decide))) (by decide))) (by decide))) (by decide)))))) (by decide))) (by decide))) (by decide)))) (by decide))) (by decide))) (by decide))) (by decide))) (by decide))) (by decide))) (by decide))) (by decide))) (by decide))) (by decide))) (by decide))) (by decide))) (by decide))) (by decide))) (by decide))) (by decide))) (by decide))) (by decide))) (by decide))) (by decide))) (by decide))) (by decide))) (by decide))) (by decide))) (by decide))) (by decide))) (by decide))) (by decide))) (by decide))) (by decide))) (by decide))) (by decide))) (by decide))) (by decide))) (by decide))) (by decide))) (by decide))) (by decide))) (by decide))) (by decide))) (by decide))) (by decide))) (by decide))) (by decide)) (fun _ q => gE_wR q) ?_
  refine x_let (fun s320 e321 => ?_)
  refine x_aload_n (μ := mu_x11_init) (pc := 466) 0 dX11_init_466 rfl ?_
  refine x_bipush (μ := mu_x11_init) (pc := 467) dX11_init_467 (by decide) ?_
  refine x_if (fun hg322 => ?_)
  refine x_ok (fun ok323 => ?_)
  refine x_newai (μ := mu_x11_init) (pc := 469) dX11_init_469 hg322 ?_
  refine x_let (fun s324 e325 => ?_)
  refine x_fprF (μ := mu_x11_init) (pc := 471) fX11_99 q2735 rfl rfl (by first | exact Or.inl ⟨_, rfl⟩ | exact Or.inr ⟨_, rfl⟩) dX11_init_471 (gT_N e325 ok323 (gT_R e321 (gT_N e319 ok317 (gT_R e315 (gT_N e313 ok311 (gT_R e309 (gT_N e307 ok305 (gT_R e303 (gT_N e301 ok299 (gT_R e297 (gT_N e295 ok293 (gT_R e291 (gT_N e289 ok287 (gT_R e285 (gT_N e283 ok281 (gT_R e279 (gT_N e277 ok275 (gT_R e273 (gT_N e271 ok269 (gT_R e267 (gT_N e265 ok263 (gT_R e261 (gT_N e259 ok257 (gT_R e255 (gT_N e253 ok251 (gT_R e249 (gT_N e247 ok245 (gT_R e243 (gT_N e241 ok239 (gT_R e237 (gT_N e235 ok233 (gT_R e231 (gT_N e229 ok227 (gT_R e225 (gT_N e223 ok221 (gT_R e219 (gT_N e217 ok215 (gT_R e213 (gT_N e211 ok209 (gT_R e207 (gT_N e205 ok203 (gT_R e201 (gT_N e199 ok197 (gT_R e195 (gT_N e193 ok191 (gT_R e189 (gT_N e187 ok185 (gT_R e183 (gT_N e181 ok179 (gT_R e177 (gT_N e175 ok173 (gT_R e171 (gT_N e169 ok167 (gT_R e165 (gT_N e163 ok161 (gT_R e159 (gT_N e157 ok155 (gT_R e153 (gT_N e151 ok149 (gT_R e147 (gT_N e145 ok143 (gT_R e141 (gT_N e139 ok137 (gT_R e135 (gT_N e133 ok131 (gT_R e129 (gT_N e127 ok125 (gT_R e123 (gT_N e121 ok119 (gT_R e117 (gT_N e115 ok113 (gT_R e111 (gT_N e109 ok107 (gT_R e105 (gT_N e103 ok101 (gT_R e99 (gT_N e97 ok95 (gT_R e93 (gT_N e91 ok89 (gT_R e87 (gT_N e85 ok83 (gT_R e81 (gT_N e79 ok77 (gT_R e75 (gT_N e73 ok71 (gT_R e69 (gT_N e67 ok65 (gT_R e63 (gT_N e61 ok59 (gT_I e57 (gT_R e55 (gT_N e53 ok51 (gT_R e49 (gT_N e47 ok45 (gT_R e43 (gT_N e41 ok39 (gT_I e37 (gT_I e35 (gT_I e33 (gT_R e31 (gT_N e29 ok27 (gT_R e25 (gT_N e23 ok21 (gT_R e19 (gT_N e17 ok15 (gT_R e13 (gT_N e11 ok9 (gT_R e7 (gT_N e5 ok3 hT1 (by decide))) (by decide))) (by decide))) (by decide))) (by decide)))))) (by decide))) (by decide))) (by decide)))) (by decide))) (by decide))) (by decide))) (by decide))) (by decide))) (by decide))) (by decide))) (by decide))) (by decide))) (by decide))) (by decide))) (by decide))) (by decide))) (by decide))) (by decide))) (by decide))) (by decide))) (by decide))) (by decide))) (by decide))) (by decide))) (by decide))) (by decide))) (by decide))) (by decide))) (by decide))) (by decide))) (by decide))) (by decide))) (by decide))) (by decide))) (by decide))) (by decide))) (by decide))) (by decide))) (by decide))) (by decide))) (by decide))) (by decide))) (by decide))) (by decide))) (by decide))) (by decide))) (by decide))) (by decide)) (fun _ q => gE_wR q) ?_
  refine x_let (fun s326 e327 => ?_)
  refine x_aload_n (μ := mu_x11_init) (pc := 474) 0 dX11_init_474 rfl ?_
  refine x_sipush (μ := mu_x11_init) (pc := 475) dX11_init_475 (by decide) ?_
  refine x_if (fun hg328 => ?_)
  refine x_ok (fun ok329 => ?_)
  refine x_newai (μ := mu_x11_init) (pc := 478) dX11_init_478 hg328 ?_
  refine x_let (fun s330 e331 => ?_)
  refine x_fprF (μ := mu_x11_init) (pc := 480) fX11_101 q2737 rfl rfl (by first | exact Or.inl ⟨_, rfl⟩ | exact Or.inr ⟨_, rfl⟩) dX11_init_480 (gT_N e331 ok329 (gT_R e327 (gT_N e325 ok323 (gT_R e321 (gT_N e319 ok317 (gT_R e315 (gT_N e313 ok311 (gT_R e309 (gT_N e307 ok305 (gT_R e303 (gT_N e301 ok299 (gT_R e297 (gT_N e295 ok293 (gT_R e291 (gT_N e289 ok287 (gT_R e285 (gT_N e283 ok281 (gT_R e279 (gT_N e277 ok275 (gT_R e273 (gT_N e271 ok269 (gT_R e267 (gT_N e265 ok263 (gT_R e261 (gT_N e259 ok257 (gT_R e255 (gT_N e253 ok251 (gT_R e249 (gT_N e247 ok245 (gT_R e243 (gT_N e241 ok239 (gT_R e237 (gT_N e235 ok233 (gT_R e231 (gT_N e229 ok227 (gT_R e225 (gT_N e223 ok221 (gT_R e219 (gT_N e217 ok215 (gT_R e213 (gT_N e211 ok209 (gT_R e207 (gT_N e205 ok203 (gT_R e201 (gT_N e199 ok197 (gT_R e195 (gT_N e193 ok191 (gT_R e189 (gT_N e187 ok185 (gT_R e183 (gT_N e181 ok179 (gT_R e177 (gT_N e175 ok173 (gT_R e171 (gT_N e169 ok167 (gT_R e165 (gT_N e163 ok161 (gT_R e159 (gT_N e157 ok155 (gT_R e153 (gT_N e151 ok149 (gT_R e147 (gT_N e145 ok143 (gT_R e141 (gT_N e139 ok137 (gT_R e135 (gT_N e133 ok131 (gT_R e129 (gT_N e127 ok125 (gT_R e123 (gT_N e121 ok119 (gT_R e117 (gT_N e115 ok113 (gT_R e111 (gT_N e109 ok107 (gT_R e105 (gT_N e103 ok101 (gT_R e99 (gT_N e97 ok95 (gT_R e93 (gT_N e91 ok89 (gT_R e87 (gT_N e85 ok83 (gT_R e81 (gT_N e79 ok77 (gT_R e75 (gT_N e73 ok71 (gT_R e69 (gT_N e67 ok65 (gT_R e63 (gT_N e61 ok59 (gT_I e57 (gT_R e55 (gT_N e53 ok51 (gT_R e49 (gT_N e47 ok45 (gT_R e43 (gT_N e41 ok39 (gT_I e37 (gT_I e35 (gT_I e33 (gT_R e31 (gT_N e29 ok27 (gT_R e25 (gT_N e23 ok21 (gT_R e19 (gT_N e17 ok15 (gT_R e13 (gT_N e11 ok9 (gT_R e7 (gT_N e5 ok3 hT1 (by decide))) (by decide))) (by decide))) (by decide))) (by decide)))))) (by decide))) (by decide))) (by decide)))) (by decide))) (by decide))) (by decide))) (by decide))) (by decide))) (by decide))) (by decide))) (by decide))) (by decide))) (by decide))) (by decide))) (by decide))) (by decide))) (by decide))) (by decide))) (by decide))) (by decide))) (by decide))) (by decide))) (by decide))) (by decide))) (by decide))) (by decide))) (by decide))) (by decide))) (by decide))) (by decide))) (by decide))) (by decide))) (by decide))) (by decide))) (by decide))) (by decide))) (by decide))) (by decide))) (by decide))) (by decide))) (by decide))) (by decide))) (by decide))) (by decide))) (by decide))) (by decide))) (by decide))) (by decide))) (by decide)) (fun _ q => gE_wR q) ?_
  refine x_let (fun s332 e333 => ?_)
  refine x_aload_n (μ := mu_x11_init) (pc := 483) 0 dX11_init_483 rfl ?_
  refine x_sipush (μ := mu_x11_init) (pc := 484) dX11_init_484 (by decide) ?_
  refine x_if (fun hg334 => ?_)
  refine x_ok (fun ok335 => ?_)
  refine x_newai (μ := mu_x11_init) (pc := 487) dX11_init_487 hg334 ?_
  refine x_let (fun s336 e337 => ?_)
  refine x_fprF (μ := mu_x11_init) (pc := 489) fX11_102 q2738 rfl rfl (by first | exact Or.inl ⟨_, rfl⟩ | exact Or.inr ⟨_, rfl⟩) dX11_init_489 (gT_N e337 ok335 (gT_R e333 (gT_N e331 ok329 (gT_R e327 (gT_N e325 ok323 (gT_R e321 (gT_N e319 ok317 (gT_R e315 (gT_N e313 ok311 (gT_R e309 (gT_N e307 ok305 (gT_R e303 (gT_N e301 ok299 (gT_R e297 (gT_N e295 ok293 (gT_R e291 (gT_N e289 ok287 (gT_R e285 (gT_N e283 ok281 (gT_R e279 (gT_N e277 ok275 (gT_R e273 (gT_N e271 ok269 (gT_R e267 (gT_N e265 ok263 (gT_R e261 (gT_N e259 ok257 (gT_R e255 (gT_N e253 ok251 (gT_R e249 (gT_N e247 ok245 (gT_R e243 (gT_N e241 ok239 (gT_R e237 (gT_N e235 ok233 (gT_R e231 (gT_N e229 ok227 (gT_R e225 (gT_N e223 ok221 (gT_R e219 (gT_N e217 ok215 (gT_R e213 (gT_N e211 ok209 (gT_R e207 (gT_N e205 ok203 (gT_R e201 (gT_N e199 ok197 (gT_R e195 (gT_N e193 ok191 (gT_R e189 (gT_N e187 ok185 (gT_R e183 (gT_N e181 ok179 (gT_R e177 (gT_N e175 ok173 (gT_R e171 (gT_N e169 ok167 (gT_R e165 (gT_N e163 ok161 (gT_R e159 (gT_N e157 ok155 (gT_R e153 (gT_N e151 ok149 (gT_R e147 (gT_N e145 ok143 (gT_R e141 (gT_N e139 ok137 (gT_R e135 (gT_N e133 ok131 (gT_R e129 (gT_N e127 ok125 (gT_R e123 (gT_N e121 ok119 (gT_R e117 (gT_N e115 ok113 (gT_R e111 (gT_N e109 ok107 (gT_R e105 (gT_N e103 ok101 (gT_R e99 (gT_N e97 ok95 (gT_R e93 (gT_N e91 ok89 (gT_R e87 (gT_N e85 ok83 (gT_R e81 (gT_N e79 ok77 (gT_R e75 (gT_N e73 ok71 (gT_R e69 (gT_N e67 ok65 (gT_R e63 (gT_N e61 ok59 (gT_I e57 (gT_R e55 (gT_N e53 ok51 (gT_R e49 (gT_N e47 ok45 (gT_R e43 (gT_N e41 ok39 (gT_I e37 (gT_I e35 (gT_I e33 (gT_R e31 (gT_N e29 ok27 (gT_R e25 (gT_N e23 ok21 (gT_R e19 (gT_N e17 ok15 (gT_R e13 (gT_N e11 ok9 (gT_R e7 (gT_N e5 ok3 hT1 (by decide))) (by decide))) (by decide))) (by decide))) (by decide)))))) (by decide))) (by decide))) (by decide)))) (by decide))) (by decide))) (by decide))) (by decide))) (by decide))) (by decide))) (by decide))) (by decide))) (by decide))) (by decide))) (by decide))) (by decide))) (by decide))) (by decide))) (by decide))) (by decide))) (by decide))) (by decide))) (by decide))) (by decide))) (by decide))) (by decide))) (by decide))) (by decide))) (by decide))) (by decide))) (by decide))) (by decide))) (by decide))) (by decide))) (by decide))) (by decide))) (by decide))) (by decide))) (by decide))) (by decide))) (by decide))) (by decide))) (by decide))) (by decide))) (by decide))) (by decide))) (by decide))) (by decide))) (by decide))) (by decide))) (by decide)) (fun _ q => gE_wR q) ?_
  refine x_let (fun s338 e339 => ?_)
  refine x_aload_n (μ := mu_x11_init) (pc := 492) 0 dX11_init_492 rfl ?_
  refine x_sipush (μ := mu_x11_init) (pc := 493) dX11_init_493 (by decide) ?_
  refine x_if (fun hg340 => ?_)
  refine x_ok (fun ok341 => ?_)
  refine x_newai (μ := mu_x11_init) (pc := 496) dX11_init_496 hg340 ?_
  refine x_let (fun s342 e343 => ?_)
  refine x_fprF (μ := mu_x11_init) (pc := 498) fX11_103 q2739 rfl rfl (by first | exact Or.inl ⟨_, rfl⟩ | exact Or.inr ⟨_, rfl⟩) dX11_init_498 (gT_N e343 ok341 (gT_R e339 (gT_N e337 ok335 (gT_R e333 (gT_N e331 ok329 (gT_R e327 (gT_N e325 ok323 (gT_R e321 (gT_N e319 ok317 (gT_R e315 (gT_N e313 ok311 (gT_R e309 (gT_N e307 ok305 (gT_R e303 (gT_N e301 ok299 (gT_R e297 (gT_N e295 ok293 (gT_R e291 (gT_N e289 ok287 (gT_R e285 (gT_N e283 ok281 (gT_R e279 (gT_N e277 ok275 (gT_R e273 (gT_N e271 ok269 (gT_R e267 (gT_N e265 ok263 (gT_R e261 (gT_N e259 ok257 (gT_R e255 (gT_N e253 ok251 (gT_R e249 (gT_N e247 ok245 (gT_R e243 (gT_N e241 ok239 (gT_R e237 (gT_N e235 ok233 (gT_R e231 (gT_N e229 ok227 (gT_R e225 (gT_N e223 ok221 (gT_R e219 (gT_N e217 ok215 (gT_R e213 (gT_N e211 ok209 (gT_R e207 (gT_N e205 ok203 (gT_R e201 (gT_N e199 ok197 (gT_R e195 (gT_N e193 ok191 (gT_R e189 (gT_N e187 ok185 (gT_R e183 (gT_N e181 ok179 (gT_R e177 (gT_N e175 ok173 (gT_R e171 (gT_N e169 ok167 (gT_R e165 (gT_N e163 ok161 (gT_R e159 (gT_N e157 ok155 (gT_R e153 (gT_N e151 ok149 (gT_R e147 (gT_N e145 ok143 (gT_R e141 (gT_N e139 ok137 (gT_R e135 (gT_N e133 ok131 (gT_R e129 (gT_N e127 ok125 (gT_R e123 (gT_N e121 ok119 (gT_R e117 (gT_N e115 ok113 (gT_R e111 (gT_N e109 ok107 (gT_R e105 (gT_N e103 ok101 (gT_R e99 (gT_N e97 ok95 (gT_R e93 (gT_N e91 ok89 (gT_R e87 (gT_N e85 ok83 (gT_R e81 (gT_N e79 ok77 (gT_R e75 (gT_N e73 ok71 (gT_R e69 (gT_N e67 ok65 (gT_R e63 (gT_N e61 ok59 (gT_I e57 (gT_R e55 (gT_N e53 ok51 (gT_R e49 (gT_N e47 ok45 (gT_R e43 (gT_N e41 ok39 (gT_I e37 (gT_I e35 (gT_I e33 (gT_R e31 (gT_N e29 ok27 (gT_R e25 (gT_N e23 ok21 (gT_R e19 (gT_N e17 ok15 (gT_R e13 (gT_N e11 ok9 (gT_R e7 (gT_N e5 ok3 hT1 (by decide))) (by decide))) (by decide))) (by decide))) (by decide)))))) (by decide))) (by decide))) (by decide)))) (by decide))) (by decide))) (by decide))) (by decide))) (by decide))) (by decide))) (by decide))) (by decide))) (by decide))) (by decide))) (by decide))) (by decide))) (by decide))) (by decide))) (by decide))) (by decide))) (by decide))) (by decide))) (by decide))) (by decide))) (by decide))) (by decide))) (by decide))) (by decide))) (by decide))) (by decide))) (by decide))) (by decide))) (by decide))) (by decide))) (by decide))) (by decide))) (by decide))) (by decide))) (by decide))) (by decide))) (by decide))) (by decide))) (by decide))) (by decide))) (by decide))) (by decide))) (by decide))) (by decide))) (by decide))) (by decide))) (by decide))) (by decide)) (fun _ q => gE_wR q) ?_
  refine x_let (fun s344 e345 => ?_)
  refine x_iconst (μ := mu_x11_init) (pc := 501) dX11_init_501 ?_
  refine x_istore_n (μ := mu_x11_init) (pc := 502) (lv' := [(1, vI 1), (0, vR v0)]) dX11_init_502 rfl (by decide) rfl ?_
  refine x_loc (lv' := [(0, vR v0), (1, vI 1)]) [1, 0] rfl ?_
  refine okl_x11_init_l503 hl hdp (fun s350 => ?_) N 1 s344 (by decide)
  refine x_aload_n (μ := mu_x11_init) (pc := 522) 0 dX11_init_522 rfl ?_
  refine x_if (fun hT351 => ?_)
  refine x_fgr (μ := mu_x11_init) (pc := 523) fX11_9 (by first | exact Or.inl ⟨_, rfl⟩ | exact Or.inr ⟨_, rfl⟩) q2645 dX11_init_523 hT351 ?_
  refine x_iconst (μ := mu_x11_init) (pc := 526) dX11_init_526 ?_
  refine x_iconst (μ := mu_x11_init) (pc := 527) dX11_init_527 ?_
  refine x_if (fun hT352 => ?_)
  refine x_iast (μ := mu_x11_init) (pc := 528) dX11_init_528 hT352 rfl (fun _ _ q => gE_wI q) ?_
  refine x_let (fun s353 e354 => ?_)
  refine x_aload_n (μ := mu_x11_init) (pc := 529) 0 dX11_init_529 rfl ?_
  refine x_fgr (μ := mu_x11_init) (pc := 530) fX11_10 (by first | exact Or.inl ⟨_, rfl⟩ | exact Or.inr ⟨_, rfl⟩) q2646 dX11_init_530 (gT_I e354 hT351) ?_
  refine x_iconst (μ := mu_x11_init) (pc := 533) dX11_init_533 ?_
  refine x_iconst (μ := mu_x11_init) (pc := 534) dX11_init_534 ?_
  refine x_if (fun hT355 => ?_)
  refine x_iast (μ := mu_x11_init) (pc := 535) dX11_init_535 hT355 rfl (fun _ _ q => gE_wI q) ?_
  refine x_let (fun s356 e357 => ?_)
  refine x_aload_n (μ := mu_x11_init) (pc := 536) 0 dX11_init_536 rfl ?_
  refine x_fgr (μ := mu_x11_init) (pc := 537) fX11_1 (by first | exact Or.inl ⟨_, rfl⟩ | exact Or.inr ⟨_, rfl⟩) q2637 dX11_init_537 (gT_I e357 (gT_I e354 hT351)) ?_
  refine x_iconst (μ := mu_x11_init) (pc := 540) dX11_init_540 ?_
  refine x_bipush (μ := mu_x11_init) (pc := 541) dX11_init_541 (by decide) ?_
  refine x_if (fun hT358 => ?_)
  refine x_iast (μ := mu_x11_init) (pc := 543) dX11_init_543 hT358 rfl (fun _ _ q => gE_wI q) ?_
  refine x_let (fun s359 e360 => ?_)
  refine x_aload_n (μ := mu_x11_init) (pc := 544) 0 dX11_init_544 rfl ?_
  refine x_fgr (μ := mu_x11_init) (pc := 545) fX11_2 (by first | exact Or.inl ⟨_, rfl⟩ | exact Or.inr ⟨_, rfl⟩) q2638 dX11_init_545 (gT_I e360 (gT_I e357 (gT_I e354 hT351))) ?_
  refine x_iconst (μ := mu_x11_init) (pc := 548) dX11_init_548 ?_
  refine x_bipush (μ := mu_x11_init) (pc := 549) dX11_init_549 (by decide) ?_
  refine x_if (fun hT361 => ?_)
  refine x_iast (μ := mu_x11_init) (pc := 551) dX11_init_551 hT361 rfl (fun _ _ q => gE_wI q) ?_
  refine x_let (fun s362 e363 => ?_)
  refine x_iconst (μ := mu_x11_init) (pc := 552) dX11_init_552 ?_
  refine x_istore_n (μ := mu_x11_init) (pc := 553) (lv' := [(1, vI 0), (0, vR v0)]) dX11_init_553 rfl (by decide) rfl ?_
  refine x_loc (lv' := [(0, vR v0), (1, vI 0)]) [1, 0] rfl ?_
  refine okl_x11_init_l554 hl hdp (fun s368 => ?_) N 0 s362 (by decide)
  refine x_iconst (μ := mu_x11_init) (pc := 573) dX11_init_573 ?_
  refine x_istore_n (μ := mu_x11_init) (pc := 574) (lv' := [(1, vI 0), (0, vR v0)]) dX11_init_574 rfl (by decide) rfl ?_
  refine x_loc (lv' := [(0, vR v0), (1, vI 0)]) [1, 0] rfl ?_
  refine okl_x11_init_l575 hl hdp (fun s373 => ?_) N 0 s368 (by decide)
  refine x_aload_n (μ := mu_x11_init) (pc := 594) 0 dX11_init_594 rfl ?_
  refine x_iconst (μ := mu_x11_init) (pc := 595) dX11_init_595 ?_
  refine x_bipush (μ := mu_x11_init) (pc := 596) dX11_init_596 (by decide) ?_
  refine x_if (fun hm374 => ?_)
  refine x_callV_mv (μ := mu_x11_init) (pc := 598) (ok_tw_copySheet (ω := ω) (l := l) (d := d - 1) (by omega) (TMb_ok hm374) (by decide) (by decide)) gRel_E gRel_Tw (fun _ q => gTw_E q) q2632 q2634 qs77 q232 q2635 dX11_init_598 rfl (TMb_ok hm374).1 hy_tw_copySheet (by omega) (Nat.le_of_ble_eq_true rfl) rfl (Nat.le_of_ble_eq_true rfl) (fun x375 k376 => ?_)
  exact x_vret (μ := mu_x11_init) (pc := 601) (a1 := x375) dX11_init_601 rfl rfl (gRel_E.1 _) trivial
def tw_undo (N : Nat) (h : Nat) (σ : gMem) : Option (Int × gMem) := gLet (wI σ h 0 0) (fun s1 => if mI s1 h 16 ≠ 0 then (tw_copySheet N h 40 (w32 (81 + (mI s1 h 17))) s1).bind (fun x6 => gLet (wI x6 h 17 (w32 ((mI x6 h 17) + 1))) (fun s10 => gLet (wI s10 h 16 (w32 ((mI s10 h 16) - 1))) (fun s14 => (tw_stepAt h (mI s14 h 16) s14).bind (fun x18 => (tw_copySheet N h x18 40 s14).bind (fun x20 => some (mI x20 h 16, x20)))))) else (tw_throwing h 1 s1).bind (fun x24 => some (x24.1, x24.2)))
set_option maxRecDepth 100000 in
theorem ok_tw_undo {ω : gW} {l : Launch} {d : Nat} {N : Nat} {h : Nat} {σ : gMem} (hdp : 1 ≤ d) (hM : TM σ h) : gK (fun p : Int × gMem => (.inl (some (vI p.1)), p.2)) gTw ω l d mu_tw_undo [vR h] σ (tw_undo N h σ) := by
  refine gK.of hp_X11 (Nat.le_of_ble_eq_true rfl) ?_
  unfold tw_undo
  refine x_aload_n (μ := mu_tw_undo) (pc := 0) 0 dX11_undo_0 rfl ?_
  refine x_iconst (μ := mu_tw_undo) (pc := 1) dX11_undo_1 ?_
  refine x_fpi (μ := mu_tw_undo) (pc := 2) fX11_0 q2636 dX11_undo_2 hM.1 (fun _ q => gTw_wI q) ?_
  refine x_let (fun s1 e2 => ?_)
  have hM3 := TM.eI e2 hM
  refine x_aload_n (μ := mu_tw_undo) (pc := 5) 0 dX11_undo_5 rfl ?_
  refine x_fgi (μ := mu_tw_undo) (pc := 6) fX11_16 q2652 dX11_undo_6 hM3.1 (fun hr4 => ?_)
  refine x_if_ne (μ := mu_tw_undo) (pc := 9) (tgt := 18) dX11_undo_9 rfl hr4 ?_ ?_
  · refine x_aload_n (μ := mu_tw_undo) (pc := 18) 0 dX11_undo_18 rfl ?_
    refine x_bipush (μ := mu_tw_undo) (pc := 19) dX11_undo_19 (by decide) ?_
    refine x_bipush (μ := mu_tw_undo) (pc := 21) dX11_undo_21 (by decide) ?_
    refine x_aload_n (μ := mu_tw_undo) (pc := 23) 0 dX11_undo_23 rfl ?_
    refine x_fgi (μ := mu_tw_undo) (pc := 24) fX11_17 q2653 dX11_undo_24 hM3.1 (fun hr5 => ?_)
    refine x_iadd (μ := mu_tw_undo) (pc := 27) dX11_undo_27 ?_
    refine x_w1 ?_
    refine x_callV_mv (μ := mu_tw_undo) (pc := 28) (ok_tw_copySheet (ω := ω) (l := l) (d := d - 1) (by omega) hM3 (by decide) (w32_rng _)) gRel_Tw gRel_Tw (fun _ q => q) q2632 q2634 qs77 q232 q2635 dX11_undo_28 rfl hM3.1 hy_tw_copySheet (by omega) (Nat.le_of_ble_eq_true rfl) rfl (Nat.le_of_ble_eq_true rfl) (fun x6 k7 => ?_)
    have hM8 : TM x6 h := hM3.tw k7
    refine x_aload_n (μ := mu_tw_undo) (pc := 31) 0 dX11_undo_31 rfl ?_
    refine x_dup (μ := mu_tw_undo) (pc := 32) dX11_undo_32 rfl ?_
    refine x_fgi (μ := mu_tw_undo) (pc := 33) fX11_17 q2653 dX11_undo_33 hM8.1 (fun hr9 => ?_)
    refine x_iconst (μ := mu_tw_undo) (pc := 36) dX11_undo_36 ?_
    refine x_iadd (μ := mu_tw_undo) (pc := 37) dX11_undo_37 ?_
    refine x_w1 ?_
    refine x_fpi (μ := mu_tw_undo) (pc := 38) fX11_17 q2653 dX11_undo_38 hM8.1 (fun _ q => gTw_wI q) ?_
    refine x_let (fun s10 e11 => ?_)
    have hM12 := TM.eI e11 hM8
    refine x_aload_n (μ := mu_tw_undo) (pc := 41) 0 dX11_undo_41 rfl ?_
    refine x_dup (μ := mu_tw_undo) (pc := 42) dX11_undo_42 rfl ?_
    refine x_fgi (μ := mu_tw_undo) (pc := 43) fX11_16 q2652 dX11_undo_43 hM12.1 (fun hr13 => ?_)
    refine x_iconst (μ := mu_tw_undo) (pc := 46) dX11_undo_46 ?_
    refine x_isub (μ := mu_tw_undo) (pc := 47) dX11_undo_47 ?_
    refine x_w1 ?_
    refine x_fpi (μ := mu_tw_undo) (pc := 48) fX11_16 q2652 dX11_undo_48 hM12.1 (fun _ q => gTw_wI q) ?_
    refine x_let (fun s14 e15 => ?_)
    have hM16 := TM.eI e15 hM12
    refine x_aload_n (μ := mu_tw_undo) (pc := 51) 0 dX11_undo_51 rfl ?_
    refine x_aload_n (μ := mu_tw_undo) (pc := 52) 0 dX11_undo_52 rfl ?_
    refine x_aload_n (μ := mu_tw_undo) (pc := 53) 0 dX11_undo_53 rfl ?_
    refine x_fgi (μ := mu_tw_undo) (pc := 54) fX11_16 q2652 dX11_undo_54 hM16.1 (fun hr17 => ?_)
    refine x_callV_pi (μ := mu_tw_undo) (pc := 57) (ok_tw_stepAt (ω := ω) (l := l) (d := d - 1) (by omega) hM16 hr17) gRel_Tw gRel_Tw (fun _ q => q) q2964 q2966 qs79 q232 q2967 dX11_undo_57 rfl hM16.1 hy_tw_stepAt (by omega) (Nat.le_of_ble_eq_true rfl) rfl (Nat.le_of_ble_eq_true rfl) (fun x18 hr19 => ?_)
    refine x_bipush (μ := mu_tw_undo) (pc := 60) dX11_undo_60 (by decide) ?_
    refine x_callV_mv (μ := mu_tw_undo) (pc := 62) (ok_tw_copySheet (ω := ω) (l := l) (d := d - 1) (by omega) hM16 hr19 (by decide)) gRel_Tw gRel_Tw (fun _ q => q) q2632 q2634 qs77 q232 q2635 dX11_undo_62 rfl hM16.1 hy_tw_copySheet (by omega) (Nat.le_of_ble_eq_true rfl) rfl (Nat.le_of_ble_eq_true rfl) (fun x20 k21 => ?_)
    have hM22 : TM x20 h := hM16.tw k21
    refine x_aload_n (μ := mu_tw_undo) (pc := 65) 0 dX11_undo_65 rfl ?_
    refine x_fgi (μ := mu_tw_undo) (pc := 66) fX11_16 q2652 dX11_undo_66 hM22.1 (fun hr23 => ?_)
    exact x_iret (μ := mu_tw_undo) (pc := 69) dX11_undo_69 rfl rfl (gRel_Tw.1 _) (show g32 (mI x20 h 16) from hr23)
  · refine x_aload_n (μ := mu_tw_undo) (pc := 12) 0 dX11_undo_12 rfl ?_
    refine x_iconst (μ := mu_tw_undo) (pc := 13) dX11_undo_13 ?_
    refine x_callV_mi (μ := mu_tw_undo) (pc := 14) (ok_tw_throwing (ω := ω) (l := l) (d := d - 1) (by omega) hM3 (by decide)) gRel_Tw gRel_Tw (fun _ q => q) q2960 q2962 qs78 q232 q2963 dX11_undo_14 rfl hM3.1 hy_tw_throwing (by omega) (Nat.le_of_ble_eq_true rfl) rfl (Nat.le_of_ble_eq_true rfl) (fun x24 k26 hr25 => ?_)
    have hM27 : TM (x24.2) h := hM3.tw k26
    exact x_iret (μ := mu_tw_undo) (pc := 17) dX11_undo_17 rfl rfl (gRel_Tw.1 _) (show g32 (x24.1) from hr25)
def tw_end (h : Nat) (v1 : Int) (σ : gMem) : Option (Int × gMem) := gLet (wI σ h 0 0) (fun s1 => (tw_in v1 0 (mI s1 h 40) s1).bind (fun x5 => if x5 = 0 then if x5 = 0 ∨ x5 = 1 then some (x5, s1) else none else gLet (wI s1 h 40 v1) (fun s7 => if x5 = 0 ∨ x5 = 1 then some (x5, s7) else none)))
set_option maxRecDepth 100000 in
theorem ok_tw_end {ω : gW} {l : Launch} {d : Nat} {h : Nat} {σ : gMem} {v1 : Int} (hdp : 1 ≤ d) (hM : TM σ h) (hv1 : g32 v1) : gK (fun p : Int × gMem => (.inl (some (vI p.1)), p.2)) gTw ω l d mu_tw_end [vR h, vI v1] σ (tw_end h v1 σ) := by
  refine gK.of hp_X11 (Nat.le_of_ble_eq_true rfl) ?_
  unfold tw_end
  refine x_aload_n (μ := mu_tw_end) (pc := 0) 0 dX11_end_0 rfl ?_
  refine x_iconst (μ := mu_tw_end) (pc := 1) dX11_end_1 ?_
  refine x_fpi (μ := mu_tw_end) (pc := 2) fX11_0 q2636 dX11_end_2 hM.1 (fun _ q => gTw_wI q) ?_
  refine x_let (fun s1 e2 => ?_)
  have hM3 := TM.eI e2 hM
  refine x_iload_n (μ := mu_tw_end) (pc := 5) 1 dX11_end_5 rfl ?_
  refine x_iconst (μ := mu_tw_end) (pc := 6) dX11_end_6 ?_
  refine x_aload_n (μ := mu_tw_end) (pc := 7) 0 dX11_end_7 rfl ?_
  refine x_fgi (μ := mu_tw_end) (pc := 8) fX11_40 q2676 dX11_end_8 hM3.1 (fun hr4 => ?_)
  refine x_callS_pi (μ := mu_tw_end) (pc := 11) (ok_tw_in (ω := ω) (l := l) (d := d - 1) (by omega) hv1 (by decide) hr4) gRel_Tw gRel_Tw (fun _ q => q) q2980 q2981 q232 q2982 dX11_end_11 hy_tw_in (by omega) (Nat.le_of_ble_eq_true rfl) rfl (Nat.le_of_ble_eq_true rfl) (fun x5 hr6 => ?_)
  refine x_istore_n (μ := mu_tw_end) (pc := 14) (lv' := [(2, vI x5), (0, vR h), (1, vI v1)]) dX11_end_14 rfl (by decide) rfl ?_
  refine x_iload_n (μ := mu_tw_end) (pc := 15) 0 dX11_end_15 rfl ?_
  refine x_if_eq (μ := mu_tw_end) (pc := 16) (tgt := 24) dX11_end_16 rfl hr6 ?_ ?_
  · refine x_iload_n (μ := mu_tw_end) (pc := 24) 0 dX11_end_24 rfl ?_
    exact x_if (μ := mu_tw_end) (pc := 25) (fun hz => x_zret dX11_end_25 rfl hz rfl (gRel_Tw.1 _) (show g32 x5 from hr6))
  · refine x_aload_n (μ := mu_tw_end) (pc := 19) 1 dX11_end_19 rfl ?_
    refine x_iload_n (μ := mu_tw_end) (pc := 20) 2 dX11_end_20 rfl ?_
    refine x_fpi (μ := mu_tw_end) (pc := 21) fX11_40 q2676 dX11_end_21 hM3.1 (fun _ q => gTw_wI q) ?_
    refine x_let (fun s7 e8 => ?_)
    have hM9 := TM.eI e8 hM3
    refine x_iload_n (μ := mu_tw_end) (pc := 24) 0 dX11_end_24 rfl ?_
    exact x_if (μ := mu_tw_end) (pc := 25) (fun hz => x_zret dX11_end_25 rfl hz rfl (gRel_Tw.1 _) (show g32 x5 from hr6))
def tw_textToken_l13_j86 (N : Nat) (h : Nat) (v1 : Int) (Kh : Int → gMem → Option gMem) (K : Int → gMem → Option gMem) (s : gMem) : Option gMem := Kh (w32 (v1 + 1)) s
set_option maxRecDepth 100000 in
theorem okj_tw_textToken_l13_j86 {ω : gW} {l : Launch} {d : Nat} {N : Nat} {h : Nat} {σ0 : gMem} {s : gMem} {v1 : Int} {Kh : Int → gMem → Option gMem} {K : Int → gMem → Option gMem} (hdp : 2 ≤ d) (hM : TM s h) (hv1 : g32 v1) (hKh : ∀ (v1 : Int) (s : gMem) , g32 v1 → TM s h → GG (fun p : gMem => (.inl none, p)) gTw ω l d mu_tw_textToken σ0 13 [(0, vR h), (1, vI v1)] [] s (Kh v1 s)) (hK : ∀ (v1 : Int) (s : gMem) , g32 v1 → TM s h → GG (fun p : gMem => (.inl none, p)) gTw ω l d mu_tw_textToken σ0 92 [(0, vR h), (1, vI v1)] [] s (K v1 s)) : GG (fun p : gMem => (.inl none, p)) gTw ω l d mu_tw_textToken σ0 86 [(0, vR h), (1, vI v1)] [] s (tw_textToken_l13_j86 N h v1 Kh K s) := by
  unfold tw_textToken_l13_j86
  refine x_iincw (μ := mu_tw_textToken) (pc := 86) (lv' := [(1, vI (w32 (v1 + 1))), (0, vR h)]) 1 dX11_textToken_86 rfl (by decide) rfl ?_
  refine x_goto (μ := mu_tw_textToken) (pc := 89) (tgt := 13) dX11_textToken_89 rfl ?_
  refine x_loc (lv' := [(0, vR h), (1, vI (w32 (v1 + 1)))]) [1, 0] rfl ?_
  exact hKh (w32 (v1 + 1)) s (w32_rng _) hM
def tw_textToken_l13 (N : Nat) (h : Nat) (K : Int → gMem → Option gMem) : Nat → Int → gMem → Option gMem
  | 0, _, _ => none
  | n + 1, v1, s => if 0 ≤ mI s h 51 then K v1 s else (tw_byteAt h v1 s).bind (fun x6 => if x6 = 34 then K v1 s else (tw_byteAt h v1 s).bind (fun x8 => if x8 ≠ (-1) then if w32 (v1 - (mI s h 46)) ≤ 24 then (tw_isSign x8 s).bind (fun x11 => if x11 ≠ 0 then tw_textToken_l13_j86 N h v1  (tw_textToken_l13 N h K n) K s else gLet (wI s h 51 v1) (fun s13 => tw_textToken_l13_j86 N h v1  (tw_textToken_l13 N h K n) K s13)) else gLet (wI s h 51 (mI s h 46)) (fun s17 => tw_textToken_l13_j86 N h v1  (tw_textToken_l13 N h K n) K s17) else gLet (wI s h 51 (mI s h 45)) (fun s21 => tw_textToken_l13_j86 N h v1  (tw_textToken_l13 N h K n) K s21)))
set_option maxRecDepth 100000 in
theorem okl_tw_textToken_l13 {ω : gW} {l : Launch} {d : Nat} {N : Nat} {h : Nat} {σ0 : gMem} {K : Int → gMem → Option gMem} (hdp : 2 ≤ d) (hK : ∀ (v1 : Int) (s : gMem) , g32 v1 → TM s h → GG (fun p : gMem => (.inl none, p)) gTw ω l d mu_tw_textToken σ0 92 [(0, vR h), (1, vI v1)] [] s (K v1 s)) : ∀ (n : Nat) (v1 : Int) (s : gMem) , g32 v1 → TM s h → GG (fun p : gMem => (.inl none, p)) gTw ω l d mu_tw_textToken σ0 13 [(0, vR h), (1, vI v1)] [] s (tw_textToken_l13 N h K n v1 s) := by
  intro n
  induction n with
  | zero => intros; exact x_none
  | succ n ih =>
    intro v1 s hv1 hM
    unfold tw_textToken_l13
    refine x_aload_n (μ := mu_tw_textToken) (pc := 13) 0 dX11_textToken_13 rfl ?_
    refine x_fgi (μ := mu_tw_textToken) (pc := 14) fX11_51 q2687 dX11_textToken_14 hM.1 (fun hr5 => ?_)
    refine x_if_ge (μ := mu_tw_textToken) (pc := 17) (tgt := 92) dX11_textToken_17 rfl hr5 ?_ ?_
    · exact hK v1 s hv1 hM
    · refine x_aload_n (μ := mu_tw_textToken) (pc := 20) 0 dX11_textToken_20 rfl ?_
      refine x_iload_n (μ := mu_tw_textToken) (pc := 21) 1 dX11_textToken_21 rfl ?_
      refine x_callV_pi (μ := mu_tw_textToken) (pc := 22) (ok_tw_byteAt (ω := ω) (l := l) (d := d - 1) (by omega) hM hv1) gRel_Tw gRel_Tw (fun _ q => q) q2999 q3001 qs83 q232 q3002 dX11_textToken_22 rfl hM.1 hy_tw_byteAt (by omega) (Nat.le_of_ble_eq_true rfl) rfl (Nat.le_of_ble_eq_true rfl) (fun x6 hr7 => ?_)
      refine x_bipush (μ := mu_tw_textToken) (pc := 25) dX11_textToken_25 (by decide) ?_
      refine x_icmp_eq (μ := mu_tw_textToken) (pc := 27) (tgt := 92) dX11_textToken_27 rfl hr7 (by decide) ?_ ?_
      · exact hK v1 s hv1 hM
      · refine x_aload_n (μ := mu_tw_textToken) (pc := 30) 0 dX11_textToken_30 rfl ?_
        refine x_iload_n (μ := mu_tw_textToken) (pc := 31) 1 dX11_textToken_31 rfl ?_
        refine x_callV_pi (μ := mu_tw_textToken) (pc := 32) (ok_tw_byteAt (ω := ω) (l := l) (d := d - 1) (by omega) hM hv1) gRel_Tw gRel_Tw (fun _ q => q) q2999 q3001 qs83 q232 q3002 dX11_textToken_32 rfl hM.1 hy_tw_byteAt (by omega) (Nat.le_of_ble_eq_true rfl) rfl (Nat.le_of_ble_eq_true rfl) (fun x8 hr9 => ?_)
        refine x_istore_n (μ := mu_tw_textToken) (pc := 35) (lv' := [(2, vI x8), (0, vR h), (1, vI v1)]) dX11_textToken_35 rfl (by decide) rfl ?_
        refine x_iload_n (μ := mu_tw_textToken) (pc := 36) 0 dX11_textToken_36 rfl ?_
        refine x_iconst (μ := mu_tw_textToken) (pc := 37) dX11_textToken_37 ?_
        refine x_icmp_ne (μ := mu_tw_textToken) (pc := 38) (tgt := 52) dX11_textToken_38 rfl hr9 (by decide) ?_ ?_
        · refine x_iload_n (μ := mu_tw_textToken) (pc := 52) 2 dX11_textToken_52 rfl ?_
          refine x_aload_n (μ := mu_tw_textToken) (pc := 53) 1 dX11_textToken_53 rfl ?_
          refine x_fgi (μ := mu_tw_textToken) (pc := 54) fX11_46 q2682 dX11_textToken_54 hM.1 (fun hr10 => ?_)
          refine x_isub (μ := mu_tw_textToken) (pc := 57) dX11_textToken_57 ?_
          refine x_bipush (μ := mu_tw_textToken) (pc := 58) dX11_textToken_58 (by decide) ?_
          refine x_w2 ?_
          refine x_icmp_le (μ := mu_tw_textToken) (pc := 60) (tgt := 74) dX11_textToken_60 rfl (w32_rng _) (by decide) ?_ ?_
          · refine x_iload_n (μ := mu_tw_textToken) (pc := 74) 0 dX11_textToken_74 rfl ?_
            refine x_callS_pi (μ := mu_tw_textToken) (pc := 75) (ok_tw_isSign (ω := ω) (l := l) (d := d - 1) (by omega) hr9) gRel_Tw gRel_Tw (fun _ q => q) q3018 q3019 q232 q3020 dX11_textToken_75 hy_tw_isSign (by omega) (Nat.le_of_ble_eq_true rfl) rfl (Nat.le_of_ble_eq_true rfl) (fun x11 hr12 => ?_)
            refine x_if_ne (μ := mu_tw_textToken) (pc := 78) (tgt := 86) dX11_textToken_78 rfl hr12 ?_ ?_
            · refine x_loc (lv' := [(0, vR h), (1, vI v1)]) [1, 2] rfl ?_
              exact okj_tw_textToken_l13_j86 hdp hM hv1 ih hK
            · refine x_aload_n (μ := mu_tw_textToken) (pc := 81) 1 dX11_textToken_81 rfl ?_
              refine x_iload_n (μ := mu_tw_textToken) (pc := 82) 2 dX11_textToken_82 rfl ?_
              refine x_fpi (μ := mu_tw_textToken) (pc := 83) fX11_51 q2687 dX11_textToken_83 hM.1 (fun _ q => gTw_wI q) ?_
              refine x_let (fun s13 e14 => ?_)
              have hM15 := TM.eI e14 hM
              refine x_loc (lv' := [(0, vR h), (1, vI v1)]) [1, 2] rfl ?_
              exact okj_tw_textToken_l13_j86 hdp hM15 hv1 ih hK
          · refine x_aload_n (μ := mu_tw_textToken) (pc := 63) 1 dX11_textToken_63 rfl ?_
            refine x_aload_n (μ := mu_tw_textToken) (pc := 64) 1 dX11_textToken_64 rfl ?_
            refine x_fgi (μ := mu_tw_textToken) (pc := 65) fX11_46 q2682 dX11_textToken_65 hM.1 (fun hr16 => ?_)
            refine x_fpi (μ := mu_tw_textToken) (pc := 68) fX11_51 q2687 dX11_textToken_68 hM.1 (fun _ q => gTw_wI q) ?_
            refine x_let (fun s17 e18 => ?_)
            have hM19 := TM.eI e18 hM
            refine x_goto (μ := mu_tw_textToken) (pc := 71) (tgt := 86) dX11_textToken_71 rfl ?_
            refine x_loc (lv' := [(0, vR h), (1, vI v1)]) [1, 2] rfl ?_
            exact okj_tw_textToken_l13_j86 hdp hM19 hv1 ih hK
        · refine x_aload_n (μ := mu_tw_textToken) (pc := 41) 1 dX11_textToken_41 rfl ?_
          refine x_aload_n (μ := mu_tw_textToken) (pc := 42) 1 dX11_textToken_42 rfl ?_
          refine x_fgi (μ := mu_tw_textToken) (pc := 43) fX11_45 q2681 dX11_textToken_43 hM.1 (fun hr20 => ?_)
          refine x_fpi (μ := mu_tw_textToken) (pc := 46) fX11_51 q2687 dX11_textToken_46 hM.1 (fun _ q => gTw_wI q) ?_
          refine x_let (fun s21 e22 => ?_)
          have hM23 := TM.eI e22 hM
          refine x_goto (μ := mu_tw_textToken) (pc := 49) (tgt := 86) dX11_textToken_49 rfl ?_
          refine x_loc (lv' := [(0, vR h), (1, vI v1)]) [1, 2] rfl ?_
          exact okj_tw_textToken_l13_j86 hdp hM23 hv1 ih hK
def tw_textToken (N : Nat) (h : Nat) (σ : gMem) : Option gMem := (tw_is h 2 (w32 ((mI σ h 46) + 1)) σ).bind (fun x2 => tw_textToken_l13 N h (fun y24 s25 => gLet (wI s25 h 49 (w32 (y24 + 1))) (fun s27 => some s27)) N (w32 ((mI σ h 46) + 1)) x2)
set_option maxRecDepth 100000 in
theorem ok_tw_textToken {ω : gW} {l : Launch} {d : Nat} {N : Nat} {h : Nat} {σ : gMem} (hdp : 2 ≤ d) (hM : TM σ h) : gK (fun p : gMem => (.inl none, p)) gTw ω l d mu_tw_textToken [vR h] σ (tw_textToken N h σ) := by
  refine gK.of hp_X11 (Nat.le_of_ble_eq_true rfl) ?_
  unfold tw_textToken
  refine x_aload_n (μ := mu_tw_textToken) (pc := 0) 0 dX11_textToken_0 rfl ?_
  refine x_fgi (μ := mu_tw_textToken) (pc := 1) fX11_46 q2682 dX11_textToken_1 hM.1 (fun hr1 => ?_)
  refine x_iconst (μ := mu_tw_textToken) (pc := 4) dX11_textToken_4 ?_
  refine x_iadd (μ := mu_tw_textToken) (pc := 5) dX11_textToken_5 ?_
  refine x_w1 ?_
  refine x_istore_n (μ := mu_tw_textToken) (pc := 6) (lv' := [(1, vI (w32 ((mI σ h 46) + 1))), (0, vR h)]) dX11_textToken_6 rfl (by decide) rfl ?_
  refine x_aload_n (μ := mu_tw_textToken) (pc := 7) 1 dX11_textToken_7 rfl ?_
  refine x_iconst (μ := mu_tw_textToken) (pc := 8) dX11_textToken_8 ?_
  refine x_iload_n (μ := mu_tw_textToken) (pc := 9) 0 dX11_textToken_9 rfl ?_
  refine x_callV_mv (μ := mu_tw_textToken) (pc := 10) (ok_tw_is (ω := ω) (l := l) (d := d - 1) (by omega) hM (by decide) (w32_rng _)) gRel_Tw gRel_Tw (fun _ q => q) q3003 q3005 qs84 q232 q3006 dX11_textToken_10 rfl hM.1 hy_tw_is (by omega) (Nat.le_of_ble_eq_true rfl) rfl (Nat.le_of_ble_eq_true rfl) (fun x2 k3 => ?_)
  have hM4 : TM x2 h := hM.tw k3
  refine x_loc (lv' := [(0, vR h), (1, vI (w32 ((mI σ h 46) + 1)))]) [1, 0] rfl ?_
  refine okl_tw_textToken_l13 hdp (fun y24 s25 hy24 hM26 => ?_) N (w32 ((mI σ h 46) + 1)) x2 (w32_rng _) hM4
  refine x_aload_n (μ := mu_tw_textToken) (pc := 92) 0 dX11_textToken_92 rfl ?_
  refine x_iload_n (μ := mu_tw_textToken) (pc := 93) 1 dX11_textToken_93 rfl ?_
  refine x_iconst (μ := mu_tw_textToken) (pc := 94) dX11_textToken_94 ?_
  refine x_iadd (μ := mu_tw_textToken) (pc := 95) dX11_textToken_95 ?_
  refine x_w1 ?_
  refine x_fpi (μ := mu_tw_textToken) (pc := 96) fX11_49 q2685 dX11_textToken_96 hM26.1 (fun _ q => gTw_wI q) ?_
  refine x_let (fun s27 e28 => ?_)
  have hM29 := TM.eI e28 hM26
  exact x_vret (μ := mu_tw_textToken) (pc := 99) (a1 := s27) dX11_textToken_99 rfl rfl (gRel_Tw.1 _) trivial
def tw_wordToken_l49 (N : Nat) (h : Nat) (K : Int → gMem → Option gMem) : Nat → Int → gMem → Option gMem
  | 0, _, _ => none
  | n + 1, v2, s => (tw_byteAt h v2 s).bind (fun x7 => (tw_isLetter x7 s).bind (fun x9 => if x9 = 0 then K v2 s else tw_wordToken_l49 N h K n (w32 (v2 + 1)) s))
set_option maxRecDepth 100000 in
theorem okl_tw_wordToken_l49 {ω : gW} {l : Launch} {d : Nat} {N : Nat} {h : Nat} {σ0 : gMem} {K : Int → gMem → Option gMem} (hdp : 3 ≤ d) (hK : ∀ (v2 : Int) (s : gMem) , g32 v2 → TM s h → GG (fun p : gMem => (.inl none, p)) gTw ω l d mu_tw_wordToken σ0 66 [(0, vR h), (2, vI v2)] [] s (K v2 s)) : ∀ (n : Nat) (v2 : Int) (s : gMem) , g32 v2 → TM s h → GG (fun p : gMem => (.inl none, p)) gTw ω l d mu_tw_wordToken σ0 49 [(0, vR h), (2, vI v2)] [] s (tw_wordToken_l49 N h K n v2 s) := by
  intro n
  induction n with
  | zero => intros; exact x_none
  | succ n ih =>
    intro v2 s hv2 hM
    unfold tw_wordToken_l49
    refine x_aload_n (μ := mu_tw_wordToken) (pc := 49) 0 dX11_wordToken_49 rfl ?_
    refine x_iload_n (μ := mu_tw_wordToken) (pc := 50) 1 dX11_wordToken_50 rfl ?_
    refine x_callV_pi (μ := mu_tw_wordToken) (pc := 51) (ok_tw_byteAt (ω := ω) (l := l) (d := d - 1) (by omega) hM hv2) gRel_Tw gRel_Tw (fun _ q => q) q2999 q3001 qs83 q232 q3002 dX11_wordToken_51 rfl hM.1 hy_tw_byteAt (by omega) (Nat.le_of_ble_eq_true rfl) rfl (Nat.le_of_ble_eq_true rfl) (fun x7 hr8 => ?_)
    refine x_callS_pi (μ := mu_tw_wordToken) (pc := 54) (ok_tw_isLetter (ω := ω) (l := l) (d := d - 1) (by omega) hr8) gRel_Tw gRel_Tw (fun _ q => q) q3021 q3022 q232 q3023 dX11_wordToken_54 hy_tw_isLetter (by omega) (Nat.le_of_ble_eq_true rfl) rfl (Nat.le_of_ble_eq_true rfl) (fun x9 hr10 => ?_)
    refine x_if_eq (μ := mu_tw_wordToken) (pc := 57) (tgt := 66) dX11_wordToken_57 rfl hr10 ?_ ?_
    · exact hK v2 s hv2 hM
    · refine x_iincw (μ := mu_tw_wordToken) (pc := 60) (lv' := [(2, vI (w32 (v2 + 1))), (0, vR h)]) 1 dX11_wordToken_60 rfl (by decide) rfl ?_
      refine x_goto (μ := mu_tw_wordToken) (pc := 63) (tgt := 49) dX11_wordToken_63 rfl ?_
      refine x_loc (lv' := [(0, vR h), (2, vI (w32 (v2 + 1)))]) [1, 0] rfl ?_
      exact ih (w32 (v2 + 1)) s (w32_rng _) hM
def tw_wordToken (N : Nat) (h : Nat) (v1 : Int) (σ : gMem) : Option gMem := (tw_corner N h (mI σ h 46) σ).bind (fun x2 => if x2.1 = 0 then if v1 ≠ 36 then tw_wordToken_l49 N h (fun y11 s12 => (tw_is h 4 y11 s12).bind (fun x14 => some x14)) N (mI (x2.2) h 46) (x2.2) else (tw_is h 10 (w32 ((mI (x2.2) h 46) + 1)) (x2.2)).bind (fun x18 => some x18) else (tw_is h 3 (mI (x2.2) h 55) (x2.2)).bind (fun x22 => some x22))
set_option maxRecDepth 100000 in
theorem ok_tw_wordToken {ω : gW} {l : Launch} {d : Nat} {N : Nat} {h : Nat} {σ : gMem} {v1 : Int} (hdp : 3 ≤ d) (hM : TM σ h) (hv1 : g32 v1) : gK (fun p : gMem => (.inl none, p)) gTw ω l d mu_tw_wordToken [vR h, vI v1] σ (tw_wordToken N h v1 σ) := by
  refine gK.of hp_X11 (Nat.le_of_ble_eq_true rfl) ?_
  unfold tw_wordToken
  refine x_aload_n (μ := mu_tw_wordToken) (pc := 0) 0 dX11_wordToken_0 rfl ?_
  refine x_aload_n (μ := mu_tw_wordToken) (pc := 1) 0 dX11_wordToken_1 rfl ?_
  refine x_fgi (μ := mu_tw_wordToken) (pc := 2) fX11_46 q2682 dX11_wordToken_2 hM.1 (fun hr1 => ?_)
  refine x_callV_mi (μ := mu_tw_wordToken) (pc := 5) (ok_tw_corner (ω := ω) (l := l) (d := d - 1) (by omega) hM hr1) gRel_Tw gRel_Tw (fun _ q => q) q3028 q3030 qs88 q232 q3031 dX11_wordToken_5 rfl hM.1 hy_tw_corner (by omega) (Nat.le_of_ble_eq_true rfl) rfl (Nat.le_of_ble_eq_true rfl) (fun x2 k4 hr3 => ?_)
  have hM5 : TM (x2.2) h := hM.tw k4
  refine x_if_eq (μ := mu_tw_wordToken) (pc := 8) (tgt := 23) dX11_wordToken_8 rfl hr3 ?_ ?_
  · refine x_iload_n (μ := mu_tw_wordToken) (pc := 23) 1 dX11_wordToken_23 rfl ?_
    refine x_bipush (μ := mu_tw_wordToken) (pc := 24) dX11_wordToken_24 (by decide) ?_
    refine x_icmp_ne (μ := mu_tw_wordToken) (pc := 26) (tgt := 44) dX11_wordToken_26 rfl hv1 (by decide) ?_ ?_
    · refine x_aload_n (μ := mu_tw_wordToken) (pc := 44) 0 dX11_wordToken_44 rfl ?_
      refine x_fgi (μ := mu_tw_wordToken) (pc := 45) fX11_46 q2682 dX11_wordToken_45 hM5.1 (fun hr6 => ?_)
      refine x_istore_n (μ := mu_tw_wordToken) (pc := 48) (lv' := [(2, vI (mI (x2.2) h 46)), (0, vR h), (1, vI v1)]) dX11_wordToken_48 rfl (by decide) rfl ?_
      refine x_loc (lv' := [(0, vR h), (2, vI (mI (x2.2) h 46))]) [1, 0] rfl ?_
      refine okl_tw_wordToken_l49 hdp (fun y11 s12 hy11 hM13 => ?_) N (mI (x2.2) h 46) (x2.2) hr6 hM5
      refine x_aload_n (μ := mu_tw_wordToken) (pc := 66) 0 dX11_wordToken_66 rfl ?_
      refine x_iconst (μ := mu_tw_wordToken) (pc := 67) dX11_wordToken_67 ?_
      refine x_iload_n (μ := mu_tw_wordToken) (pc := 68) 1 dX11_wordToken_68 rfl ?_
      refine x_callV_mv (μ := mu_tw_wordToken) (pc := 69) (ok_tw_is (ω := ω) (l := l) (d := d - 1) (by omega) hM13 (by decide) hy11) gRel_Tw gRel_Tw (fun _ q => q) q3003 q3005 qs84 q232 q3006 dX11_wordToken_69 rfl hM13.1 hy_tw_is (by omega) (Nat.le_of_ble_eq_true rfl) rfl (Nat.le_of_ble_eq_true rfl) (fun x14 k15 => ?_)
      have hM16 : TM x14 h := hM13.tw k15
      exact x_vret (μ := mu_tw_wordToken) (pc := 72) (a1 := x14) dX11_wordToken_72 rfl rfl (gRel_Tw.1 _) trivial
    · refine x_aload_n (μ := mu_tw_wordToken) (pc := 29) 0 dX11_wordToken_29 rfl ?_
      refine x_bipush (μ := mu_tw_wordToken) (pc := 30) dX11_wordToken_30 (by decide) ?_
      refine x_aload_n (μ := mu_tw_wordToken) (pc := 32) 0 dX11_wordToken_32 rfl ?_
      refine x_fgi (μ := mu_tw_wordToken) (pc := 33) fX11_46 q2682 dX11_wordToken_33 hM5.1 (fun hr17 => ?_)
      refine x_iconst (μ := mu_tw_wordToken) (pc := 36) dX11_wordToken_36 ?_
      refine x_iadd (μ := mu_tw_wordToken) (pc := 37) dX11_wordToken_37 ?_
      refine x_w1 ?_
      refine x_callV_mv (μ := mu_tw_wordToken) (pc := 38) (ok_tw_is (ω := ω) (l := l) (d := d - 1) (by omega) hM5 (by decide) (w32_rng _)) gRel_Tw gRel_Tw (fun _ q => q) q3003 q3005 qs84 q232 q3006 dX11_wordToken_38 rfl hM5.1 hy_tw_is (by omega) (Nat.le_of_ble_eq_true rfl) rfl (Nat.le_of_ble_eq_true rfl) (fun x18 k19 => ?_)
      have hM20 : TM x18 h := hM5.tw k19
      refine x_goto (μ := mu_tw_wordToken) (pc := 41) (tgt := 72) dX11_wordToken_41 rfl ?_
      exact x_vret (μ := mu_tw_wordToken) (pc := 72) (a1 := x18) dX11_wordToken_72 rfl rfl (gRel_Tw.1 _) trivial
  · refine x_aload_n (μ := mu_tw_wordToken) (pc := 11) 0 dX11_wordToken_11 rfl ?_
    refine x_iconst (μ := mu_tw_wordToken) (pc := 12) dX11_wordToken_12 ?_
    refine x_aload_n (μ := mu_tw_wordToken) (pc := 13) 0 dX11_wordToken_13 rfl ?_
    refine x_fgi (μ := mu_tw_wordToken) (pc := 14) fX11_55 q2691 dX11_wordToken_14 hM5.1 (fun hr21 => ?_)
    refine x_callV_mv (μ := mu_tw_wordToken) (pc := 17) (ok_tw_is (ω := ω) (l := l) (d := d - 1) (by omega) hM5 (by decide) hr21) gRel_Tw gRel_Tw (fun _ q => q) q3003 q3005 qs84 q232 q3006 dX11_wordToken_17 rfl hM5.1 hy_tw_is (by omega) (Nat.le_of_ble_eq_true rfl) rfl (Nat.le_of_ble_eq_true rfl) (fun x22 k23 => ?_)
    have hM24 : TM x22 h := hM5.tw k23
    refine x_goto (μ := mu_tw_wordToken) (pc := 20) (tgt := 72) dX11_wordToken_20 rfl ?_
    exact x_vret (μ := mu_tw_wordToken) (pc := 72) (a1 := x22) dX11_wordToken_72 rfl rfl (gRel_Tw.1 _) trivial
def tw_signToken_j116 (h : Nat) (v2 : Int) (t0 : Int) (s : gMem) : Option gMem := if v2 ≠ 61 then (tw_sign h t0 (w32 ((mI s h 46) + 1)) s).bind (fun x45 => some x45) else (tw_sign h t0 (w32 ((mI s h 46) + 2)) s).bind (fun x49 => some x49)
set_option maxRecDepth 100000 in
theorem okj_tw_signToken_j116 {ω : gW} {l : Launch} {d : Nat} {h : Nat} {σ0 : gMem} {s : gMem} {v2 : Int} {t0 : Int} (hdp : 1 ≤ d) (hM : TM s h) (hv2 : g32 v2) (ht0 : g32 t0) : GG (fun p : gMem => (.inl none, p)) gTw ω l d mu_tw_signToken σ0 116 [(0, vR h), (2, vI v2)] [vI t0, vR h] s (tw_signToken_j116 h v2 t0 s) := by
  unfold tw_signToken_j116
  refine x_iload_n (μ := mu_tw_signToken) (pc := 116) 1 dX11_signToken_116 rfl ?_
  refine x_bipush (μ := mu_tw_signToken) (pc := 117) dX11_signToken_117 (by decide) ?_
  refine x_icmp_ne (μ := mu_tw_signToken) (pc := 119) (tgt := 131) dX11_signToken_119 rfl hv2 (by decide) ?_ ?_
  · refine x_aload_n (μ := mu_tw_signToken) (pc := 131) 0 dX11_signToken_131 rfl ?_
    refine x_fgi (μ := mu_tw_signToken) (pc := 132) fX11_46 q2682 dX11_signToken_132 hM.1 (fun hr44 => ?_)
    refine x_iconst (μ := mu_tw_signToken) (pc := 135) dX11_signToken_135 ?_
    refine x_iadd (μ := mu_tw_signToken) (pc := 136) dX11_signToken_136 ?_
    refine x_w1 ?_
    refine x_callV_mv (μ := mu_tw_signToken) (pc := 137) (ok_tw_sign (ω := ω) (l := l) (d := d - 1) (by omega) hM ht0 (w32_rng _)) gRel_Tw gRel_Tw (fun _ q => q) q3043 q3045 qs91 q232 q3046 dX11_signToken_137 rfl hM.1 hy_tw_sign (by omega) (Nat.le_of_ble_eq_true rfl) rfl (Nat.le_of_ble_eq_true rfl) (fun x45 k46 => ?_)
    have hM47 : TM x45 h := hM.tw k46
    refine x_goto (μ := mu_tw_signToken) (pc := 140) (tgt := 314) dX11_signToken_140 rfl ?_
    exact x_vret (μ := mu_tw_signToken) (pc := 314) (a1 := x45) dX11_signToken_314 rfl rfl (gRel_Tw.1 _) trivial
  · refine x_aload_n (μ := mu_tw_signToken) (pc := 122) 0 dX11_signToken_122 rfl ?_
    refine x_fgi (μ := mu_tw_signToken) (pc := 123) fX11_46 q2682 dX11_signToken_123 hM.1 (fun hr48 => ?_)
    refine x_iconst (μ := mu_tw_signToken) (pc := 126) dX11_signToken_126 ?_
    refine x_iadd (μ := mu_tw_signToken) (pc := 127) dX11_signToken_127 ?_
    refine x_goto (μ := mu_tw_signToken) (pc := 128) (tgt := 137) dX11_signToken_128 rfl ?_
    refine x_w1 ?_
    refine x_callV_mv (μ := mu_tw_signToken) (pc := 137) (ok_tw_sign (ω := ω) (l := l) (d := d - 1) (by omega) hM ht0 (w32_rng _)) gRel_Tw gRel_Tw (fun _ q => q) q3043 q3045 qs91 q232 q3046 dX11_signToken_137 rfl hM.1 hy_tw_sign (by omega) (Nat.le_of_ble_eq_true rfl) rfl (Nat.le_of_ble_eq_true rfl) (fun x49 k50 => ?_)
    have hM51 : TM x49 h := hM.tw k50
    refine x_goto (μ := mu_tw_signToken) (pc := 140) (tgt := 314) dX11_signToken_140 rfl ?_
    exact x_vret (μ := mu_tw_signToken) (pc := 314) (a1 := x49) dX11_signToken_314 rfl rfl (gRel_Tw.1 _) trivial
def tw_signToken_j75 (h : Nat) (t0 : Int) (s : gMem) : Option gMem := (tw_sign h t0 (w32 ((mI s h 46) + 2)) s).bind (fun x53 => some x53)
set_option maxRecDepth 100000 in
theorem okj_tw_signToken_j75 {ω : gW} {l : Launch} {d : Nat} {h : Nat} {σ0 : gMem} {s : gMem} {t0 : Int} (hdp : 1 ≤ d) (hM : TM s h) (ht0 : g32 t0) : GG (fun p : gMem => (.inl none, p)) gTw ω l d mu_tw_signToken σ0 75 [(0, vR h)] [vI t0, vR h] s (tw_signToken_j75 h t0 s) := by
  unfold tw_signToken_j75
  refine x_aload_n (μ := mu_tw_signToken) (pc := 75) 0 dX11_signToken_75 rfl ?_
  refine x_fgi (μ := mu_tw_signToken) (pc := 76) fX11_46 q2682 dX11_signToken_76 hM.1 (fun hr52 => ?_)
  refine x_iconst (μ := mu_tw_signToken) (pc := 79) dX11_signToken_79 ?_
  refine x_iadd (μ := mu_tw_signToken) (pc := 80) dX11_signToken_80 ?_
  refine x_goto (μ := mu_tw_signToken) (pc := 81) (tgt := 90) dX11_signToken_81 rfl ?_
  refine x_w1 ?_
  refine x_callV_mv (μ := mu_tw_signToken) (pc := 90) (ok_tw_sign (ω := ω) (l := l) (d := d - 1) (by omega) hM ht0 (w32_rng _)) gRel_Tw gRel_Tw (fun _ q => q) q3043 q3045 qs91 q232 q3046 dX11_signToken_90 rfl hM.1 hy_tw_sign (by omega) (Nat.le_of_ble_eq_true rfl) rfl (Nat.le_of_ble_eq_true rfl) (fun x53 k54 => ?_)
  have hM55 : TM x53 h := hM.tw k54
  refine x_goto (μ := mu_tw_signToken) (pc := 93) (tgt := 314) dX11_signToken_93 rfl ?_
  exact x_vret (μ := mu_tw_signToken) (pc := 314) (a1 := x53) dX11_signToken_314 rfl rfl (gRel_Tw.1 _) trivial
def tw_signToken_j63 (h : Nat) (v2 : Int) (t0 : Int) (s : gMem) : Option gMem := if v2 = 62 then tw_signToken_j75 h t0 s else if v2 ≠ 61 then (tw_sign h t0 (w32 ((mI s h 46) + 1)) s).bind (fun x57 => some x57) else tw_signToken_j75 h t0 s
set_option maxRecDepth 100000 in
theorem okj_tw_signToken_j63 {ω : gW} {l : Launch} {d : Nat} {h : Nat} {σ0 : gMem} {s : gMem} {v2 : Int} {t0 : Int} (hdp : 1 ≤ d) (hM : TM s h) (hv2 : g32 v2) (ht0 : g32 t0) : GG (fun p : gMem => (.inl none, p)) gTw ω l d mu_tw_signToken σ0 63 [(0, vR h), (2, vI v2)] [vI t0, vR h] s (tw_signToken_j63 h v2 t0 s) := by
  unfold tw_signToken_j63
  refine x_iload_n (μ := mu_tw_signToken) (pc := 63) 1 dX11_signToken_63 rfl ?_
  refine x_bipush (μ := mu_tw_signToken) (pc := 64) dX11_signToken_64 (by decide) ?_
  refine x_icmp_eq (μ := mu_tw_signToken) (pc := 66) (tgt := 75) dX11_signToken_66 rfl hv2 (by decide) ?_ ?_
  · refine x_loc (lv' := [(0, vR h)]) [0] rfl ?_
    exact okj_tw_signToken_j75 hdp hM ht0
  · refine x_iload_n (μ := mu_tw_signToken) (pc := 69) 1 dX11_signToken_69 rfl ?_
    refine x_bipush (μ := mu_tw_signToken) (pc := 70) dX11_signToken_70 (by decide) ?_
    refine x_icmp_ne (μ := mu_tw_signToken) (pc := 72) (tgt := 84) dX11_signToken_72 rfl hv2 (by decide) ?_ ?_
    · refine x_aload_n (μ := mu_tw_signToken) (pc := 84) 0 dX11_signToken_84 rfl ?_
      refine x_fgi (μ := mu_tw_signToken) (pc := 85) fX11_46 q2682 dX11_signToken_85 hM.1 (fun hr56 => ?_)
      refine x_iconst (μ := mu_tw_signToken) (pc := 88) dX11_signToken_88 ?_
      refine x_iadd (μ := mu_tw_signToken) (pc := 89) dX11_signToken_89 ?_
      refine x_w1 ?_
      refine x_callV_mv (μ := mu_tw_signToken) (pc := 90) (ok_tw_sign (ω := ω) (l := l) (d := d - 1) (by omega) hM ht0 (w32_rng _)) gRel_Tw gRel_Tw (fun _ q => q) q3043 q3045 qs91 q232 q3046 dX11_signToken_90 rfl hM.1 hy_tw_sign (by omega) (Nat.le_of_ble_eq_true rfl) rfl (Nat.le_of_ble_eq_true rfl) (fun x57 k58 => ?_)
      have hM59 : TM x57 h := hM.tw k58
      refine x_goto (μ := mu_tw_signToken) (pc := 93) (tgt := 314) dX11_signToken_93 rfl ?_
      exact x_vret (μ := mu_tw_signToken) (pc := 314) (a1 := x57) dX11_signToken_314 rfl rfl (gRel_Tw.1 _) trivial
    · refine x_loc (lv' := [(0, vR h)]) [0] rfl ?_
      exact okj_tw_signToken_j75 hdp hM ht0
def tw_signToken (h : Nat) (v1 : Int) (σ : gMem) : Option gMem := (tw_byteAt h (w32 ((mI σ h 46) + 1)) σ).bind (fun x2 => if v1 ≠ 61 then if v1 ≠ 60 then if v1 ≠ 62 then if v1 ≠ 38 then if v1 ≠ 43 then if v1 ≠ 45 then if v1 ≠ 42 then if v1 ≠ 47 then if v1 ≠ 37 then if v1 ≠ 40 then if v1 ≠ 41 then if v1 ≠ 44 then (tw_is h 10 (w32 ((mI σ h 46) + 1)) σ).bind (fun x5 => some x5) else (tw_is h 8 (w32 ((mI σ h 46) + 1)) σ).bind (fun x9 => some x9) else (tw_is h 7 (w32 ((mI σ h 46) + 1)) σ).bind (fun x13 => some x13) else (tw_is h 6 (w32 ((mI σ h 46) + 1)) σ).bind (fun x17 => some x17) else (tw_sign h 21 (w32 ((mI σ h 46) + 1)) σ).bind (fun x21 => some x21) else (tw_sign h 20 (w32 ((mI σ h 46) + 1)) σ).bind (fun x25 => some x25) else (tw_sign h 19 (w32 ((mI σ h 46) + 1)) σ).bind (fun x29 => some x29) else (tw_sign h 18 (w32 ((mI σ h 46) + 1)) σ).bind (fun x33 => some x33) else (tw_sign h 17 (w32 ((mI σ h 46) + 1)) σ).bind (fun x37 => some x37) else (tw_sign h 16 (w32 ((mI σ h 46) + 1)) σ).bind (fun x41 => some x41) else if x2 ≠ 61 then tw_signToken_j116 h x2 14 σ else tw_signToken_j116 h x2 15 σ else if x2 ≠ 62 then if x2 ≠ 61 then tw_signToken_j63 h x2 12 σ else tw_signToken_j63 h x2 13 σ else tw_signToken_j63 h x2 11 σ else (tw_sign h 10 (w32 ((mI σ h 46) + 1)) σ).bind (fun x61 => some x61))
set_option maxRecDepth 100000 in
theorem ok_tw_signToken {ω : gW} {l : Launch} {d : Nat} {h : Nat} {σ : gMem} {v1 : Int} (hdp : 1 ≤ d) (hM : TM σ h) (hv1 : g32 v1) : gK (fun p : gMem => (.inl none, p)) gTw ω l d mu_tw_signToken [vR h, vI v1] σ (tw_signToken h v1 σ) := by
  refine gK.of hp_X11 (Nat.le_of_ble_eq_true rfl) ?_
  unfold tw_signToken
  refine x_aload_n (μ := mu_tw_signToken) (pc := 0) 0 dX11_signToken_0 rfl ?_
  refine x_aload_n (μ := mu_tw_signToken) (pc := 1) 0 dX11_signToken_1 rfl ?_
  refine x_fgi (μ := mu_tw_signToken) (pc := 2) fX11_46 q2682 dX11_signToken_2 hM.1 (fun hr1 => ?_)
  refine x_iconst (μ := mu_tw_signToken) (pc := 5) dX11_signToken_5 ?_
  refine x_iadd (μ := mu_tw_signToken) (pc := 6) dX11_signToken_6 ?_
  refine x_w1 ?_
  refine x_callV_pi (μ := mu_tw_signToken) (pc := 7) (ok_tw_byteAt (ω := ω) (l := l) (d := d - 1) (by omega) hM (w32_rng _)) gRel_Tw gRel_Tw (fun _ q => q) q2999 q3001 qs83 q232 q3002 dX11_signToken_7 rfl hM.1 hy_tw_byteAt (by omega) (Nat.le_of_ble_eq_true rfl) rfl (Nat.le_of_ble_eq_true rfl) (fun x2 hr3 => ?_)
  refine x_istore_n (μ := mu_tw_signToken) (pc := 10) (lv' := [(2, vI x2), (0, vR h), (1, vI v1)]) dX11_signToken_10 rfl (by decide) rfl ?_
  refine x_iload_n (μ := mu_tw_signToken) (pc := 11) 2 dX11_signToken_11 rfl ?_
  refine x_bipush (μ := mu_tw_signToken) (pc := 12) dX11_signToken_12 (by decide) ?_
  refine x_icmp_ne (μ := mu_tw_signToken) (pc := 14) (tgt := 32) dX11_signToken_14 rfl hv1 (by decide) ?_ ?_
  · refine x_iload_n (μ := mu_tw_signToken) (pc := 32) 2 dX11_signToken_32 rfl ?_
    refine x_bipush (μ := mu_tw_signToken) (pc := 33) dX11_signToken_33 (by decide) ?_
    refine x_icmp_ne (μ := mu_tw_signToken) (pc := 35) (tgt := 96) dX11_signToken_35 rfl hv1 (by decide) ?_ ?_
    · refine x_iload_n (μ := mu_tw_signToken) (pc := 96) 2 dX11_signToken_96 rfl ?_
      refine x_bipush (μ := mu_tw_signToken) (pc := 97) dX11_signToken_97 (by decide) ?_
      refine x_icmp_ne (μ := mu_tw_signToken) (pc := 99) (tgt := 143) dX11_signToken_99 rfl hv1 (by decide) ?_ ?_
      · refine x_iload_n (μ := mu_tw_signToken) (pc := 143) 2 dX11_signToken_143 rfl ?_
        refine x_bipush (μ := mu_tw_signToken) (pc := 144) dX11_signToken_144 (by decide) ?_
        refine x_icmp_ne (μ := mu_tw_signToken) (pc := 146) (tgt := 164) dX11_signToken_146 rfl hv1 (by decide) ?_ ?_
        · refine x_iload_n (μ := mu_tw_signToken) (pc := 164) 2 dX11_signToken_164 rfl ?_
          refine x_bipush (μ := mu_tw_signToken) (pc := 165) dX11_signToken_165 (by decide) ?_
          refine x_icmp_ne (μ := mu_tw_signToken) (pc := 167) (tgt := 185) dX11_signToken_167 rfl hv1 (by decide) ?_ ?_
          · refine x_iload_n (μ := mu_tw_signToken) (pc := 185) 2 dX11_signToken_185 rfl ?_
            refine x_bipush (μ := mu_tw_signToken) (pc := 186) dX11_signToken_186 (by decide) ?_
            refine x_icmp_ne (μ := mu_tw_signToken) (pc := 188) (tgt := 206) dX11_signToken_188 rfl hv1 (by decide) ?_ ?_
            · refine x_iload_n (μ := mu_tw_signToken) (pc := 206) 2 dX11_signToken_206 rfl ?_
              refine x_bipush (μ := mu_tw_signToken) (pc := 207) dX11_signToken_207 (by decide) ?_
              refine x_icmp_ne (μ := mu_tw_signToken) (pc := 209) (tgt := 227) dX11_signToken_209 rfl hv1 (by decide) ?_ ?_
              · refine x_iload_n (μ := mu_tw_signToken) (pc := 227) 2 dX11_signToken_227 rfl ?_
                refine x_bipush (μ := mu_tw_signToken) (pc := 228) dX11_signToken_228 (by decide) ?_
                refine x_icmp_ne (μ := mu_tw_signToken) (pc := 230) (tgt := 248) dX11_signToken_230 rfl hv1 (by decide) ?_ ?_
                · refine x_iload_n (μ := mu_tw_signToken) (pc := 248) 2 dX11_signToken_248 rfl ?_
                  refine x_bipush (μ := mu_tw_signToken) (pc := 249) dX11_signToken_249 (by decide) ?_
                  refine x_icmp_ne (μ := mu_tw_signToken) (pc := 251) (tgt := 269) dX11_signToken_251 rfl hv1 (by decide) ?_ ?_
                  · refine x_aload_n (μ := mu_tw_signToken) (pc := 269) 1 dX11_signToken_269 rfl ?_
                    refine x_iload_n (μ := mu_tw_signToken) (pc := 270) 2 dX11_signToken_270 rfl ?_
                    refine x_bipush (μ := mu_tw_signToken) (pc := 271) dX11_signToken_271 (by decide) ?_
                    refine x_icmp_ne (μ := mu_tw_signToken) (pc := 273) (tgt := 281) dX11_signToken_273 rfl hv1 (by decide) ?_ ?_
                    · refine x_iload_n (μ := mu_tw_signToken) (pc := 281) 2 dX11_signToken_281 rfl ?_
                      refine x_bipush (μ := mu_tw_signToken) (pc := 282) dX11_signToken_282 (by decide) ?_
                      refine x_icmp_ne (μ := mu_tw_signToken) (pc := 284) (tgt := 292) dX11_signToken_284 rfl hv1 (by decide) ?_ ?_
                      · refine x_iload_n (μ := mu_tw_signToken) (pc := 292) 2 dX11_signToken_292 rfl ?_
                        refine x_bipush (μ := mu_tw_signToken) (pc := 293) dX11_signToken_293 (by decide) ?_
                        refine x_icmp_ne (μ := mu_tw_signToken) (pc := 295) (tgt := 303) dX11_signToken_295 rfl hv1 (by decide) ?_ ?_
                        · refine x_bipush (μ := mu_tw_signToken) (pc := 303) dX11_signToken_303 (by decide) ?_
                          refine x_aload_n (μ := mu_tw_signToken) (pc := 305) 1 dX11_signToken_305 rfl ?_
                          refine x_fgi (μ := mu_tw_signToken) (pc := 306) fX11_46 q2682 dX11_signToken_306 hM.1 (fun hr4 => ?_)
                          refine x_iconst (μ := mu_tw_signToken) (pc := 309) dX11_signToken_309 ?_
                          refine x_iadd (μ := mu_tw_signToken) (pc := 310) dX11_signToken_310 ?_
                          refine x_w1 ?_
                          refine x_callV_mv (μ := mu_tw_signToken) (pc := 311) (ok_tw_is (ω := ω) (l := l) (d := d - 1) (by omega) hM (by decide) (w32_rng _)) gRel_Tw gRel_Tw (fun _ q => q) q3003 q3005 qs84 q232 q3006 dX11_signToken_311 rfl hM.1 hy_tw_is (by omega) (Nat.le_of_ble_eq_true rfl) rfl (Nat.le_of_ble_eq_true rfl) (fun x5 k6 => ?_)
                          have hM7 : TM x5 h := hM.tw k6
                          exact x_vret (μ := mu_tw_signToken) (pc := 314) (a1 := x5) dX11_signToken_314 rfl rfl (gRel_Tw.1 _) trivial
                        · refine x_bipush (μ := mu_tw_signToken) (pc := 298) dX11_signToken_298 (by decide) ?_
                          refine x_goto (μ := mu_tw_signToken) (pc := 300) (tgt := 305) dX11_signToken_300 rfl ?_
                          refine x_aload_n (μ := mu_tw_signToken) (pc := 305) 1 dX11_signToken_305 rfl ?_
                          refine x_fgi (μ := mu_tw_signToken) (pc := 306) fX11_46 q2682 dX11_signToken_306 hM.1 (fun hr8 => ?_)
                          refine x_iconst (μ := mu_tw_signToken) (pc := 309) dX11_signToken_309 ?_
                          refine x_iadd (μ := mu_tw_signToken) (pc := 310) dX11_signToken_310 ?_
                          refine x_w1 ?_
                          refine x_callV_mv (μ := mu_tw_signToken) (pc := 311) (ok_tw_is (ω := ω) (l := l) (d := d - 1) (by omega) hM (by decide) (w32_rng _)) gRel_Tw gRel_Tw (fun _ q => q) q3003 q3005 qs84 q232 q3006 dX11_signToken_311 rfl hM.1 hy_tw_is (by omega) (Nat.le_of_ble_eq_true rfl) rfl (Nat.le_of_ble_eq_true rfl) (fun x9 k10 => ?_)
                          have hM11 : TM x9 h := hM.tw k10
                          exact x_vret (μ := mu_tw_signToken) (pc := 314) (a1 := x9) dX11_signToken_314 rfl rfl (gRel_Tw.1 _) trivial
                      · refine x_bipush (μ := mu_tw_signToken) (pc := 287) dX11_signToken_287 (by decide) ?_
                        refine x_goto (μ := mu_tw_signToken) (pc := 289) (tgt := 305) dX11_signToken_289 rfl ?_
                        refine x_aload_n (μ := mu_tw_signToken) (pc := 305) 1 dX11_signToken_305 rfl ?_
                        refine x_fgi (μ := mu_tw_signToken) (pc := 306) fX11_46 q2682 dX11_signToken_306 hM.1 (fun hr12 => ?_)
                        refine x_iconst (μ := mu_tw_signToken) (pc := 309) dX11_signToken_309 ?_
                        refine x_iadd (μ := mu_tw_signToken) (pc := 310) dX11_signToken_310 ?_
                        refine x_w1 ?_
                        refine x_callV_mv (μ := mu_tw_signToken) (pc := 311) (ok_tw_is (ω := ω) (l := l) (d := d - 1) (by omega) hM (by decide) (w32_rng _)) gRel_Tw gRel_Tw (fun _ q => q) q3003 q3005 qs84 q232 q3006 dX11_signToken_311 rfl hM.1 hy_tw_is (by omega) (Nat.le_of_ble_eq_true rfl) rfl (Nat.le_of_ble_eq_true rfl) (fun x13 k14 => ?_)
                        have hM15 : TM x13 h := hM.tw k14
                        exact x_vret (μ := mu_tw_signToken) (pc := 314) (a1 := x13) dX11_signToken_314 rfl rfl (gRel_Tw.1 _) trivial
                    · refine x_bipush (μ := mu_tw_signToken) (pc := 276) dX11_signToken_276 (by decide) ?_
                      refine x_goto (μ := mu_tw_signToken) (pc := 278) (tgt := 305) dX11_signToken_278 rfl ?_
                      refine x_aload_n (μ := mu_tw_signToken) (pc := 305) 1 dX11_signToken_305 rfl ?_
                      refine x_fgi (μ := mu_tw_signToken) (pc := 306) fX11_46 q2682 dX11_signToken_306 hM.1 (fun hr16 => ?_)
                      refine x_iconst (μ := mu_tw_signToken) (pc := 309) dX11_signToken_309 ?_
                      refine x_iadd (μ := mu_tw_signToken) (pc := 310) dX11_signToken_310 ?_
                      refine x_w1 ?_
                      refine x_callV_mv (μ := mu_tw_signToken) (pc := 311) (ok_tw_is (ω := ω) (l := l) (d := d - 1) (by omega) hM (by decide) (w32_rng _)) gRel_Tw gRel_Tw (fun _ q => q) q3003 q3005 qs84 q232 q3006 dX11_signToken_311 rfl hM.1 hy_tw_is (by omega) (Nat.le_of_ble_eq_true rfl) rfl (Nat.le_of_ble_eq_true rfl) (fun x17 k18 => ?_)
                      have hM19 : TM x17 h := hM.tw k18
                      exact x_vret (μ := mu_tw_signToken) (pc := 314) (a1 := x17) dX11_signToken_314 rfl rfl (gRel_Tw.1 _) trivial
                  · refine x_aload_n (μ := mu_tw_signToken) (pc := 254) 1 dX11_signToken_254 rfl ?_
                    refine x_bipush (μ := mu_tw_signToken) (pc := 255) dX11_signToken_255 (by decide) ?_
                    refine x_aload_n (μ := mu_tw_signToken) (pc := 257) 1 dX11_signToken_257 rfl ?_
                    refine x_fgi (μ := mu_tw_signToken) (pc := 258) fX11_46 q2682 dX11_signToken_258 hM.1 (fun hr20 => ?_)
                    refine x_iconst (μ := mu_tw_signToken) (pc := 261) dX11_signToken_261 ?_
                    refine x_iadd (μ := mu_tw_signToken) (pc := 262) dX11_signToken_262 ?_
                    refine x_w1 ?_
                    refine x_callV_mv (μ := mu_tw_signToken) (pc := 263) (ok_tw_sign (ω := ω) (l := l) (d := d - 1) (by omega) hM (by decide) (w32_rng _)) gRel_Tw gRel_Tw (fun _ q => q) q3043 q3045 qs91 q232 q3046 dX11_signToken_263 rfl hM.1 hy_tw_sign (by omega) (Nat.le_of_ble_eq_true rfl) rfl (Nat.le_of_ble_eq_true rfl) (fun x21 k22 => ?_)
                    have hM23 : TM x21 h := hM.tw k22
                    refine x_goto (μ := mu_tw_signToken) (pc := 266) (tgt := 314) dX11_signToken_266 rfl ?_
                    exact x_vret (μ := mu_tw_signToken) (pc := 314) (a1 := x21) dX11_signToken_314 rfl rfl (gRel_Tw.1 _) trivial
                · refine x_aload_n (μ := mu_tw_signToken) (pc := 233) 1 dX11_signToken_233 rfl ?_
                  refine x_bipush (μ := mu_tw_signToken) (pc := 234) dX11_signToken_234 (by decide) ?_
                  refine x_aload_n (μ := mu_tw_signToken) (pc := 236) 1 dX11_signToken_236 rfl ?_
                  refine x_fgi (μ := mu_tw_signToken) (pc := 237) fX11_46 q2682 dX11_signToken_237 hM.1 (fun hr24 => ?_)
                  refine x_iconst (μ := mu_tw_signToken) (pc := 240) dX11_signToken_240 ?_
                  refine x_iadd (μ := mu_tw_signToken) (pc := 241) dX11_signToken_241 ?_
                  refine x_w1 ?_
                  refine x_callV_mv (μ := mu_tw_signToken) (pc := 242) (ok_tw_sign (ω := ω) (l := l) (d := d - 1) (by omega) hM (by decide) (w32_rng _)) gRel_Tw gRel_Tw (fun _ q => q) q3043 q3045 qs91 q232 q3046 dX11_signToken_242 rfl hM.1 hy_tw_sign (by omega) (Nat.le_of_ble_eq_true rfl) rfl (Nat.le_of_ble_eq_true rfl) (fun x25 k26 => ?_)
                  have hM27 : TM x25 h := hM.tw k26
                  refine x_goto (μ := mu_tw_signToken) (pc := 245) (tgt := 314) dX11_signToken_245 rfl ?_
                  exact x_vret (μ := mu_tw_signToken) (pc := 314) (a1 := x25) dX11_signToken_314 rfl rfl (gRel_Tw.1 _) trivial
              · refine x_aload_n (μ := mu_tw_signToken) (pc := 212) 1 dX11_signToken_212 rfl ?_
                refine x_bipush (μ := mu_tw_signToken) (pc := 213) dX11_signToken_213 (by decide) ?_
                refine x_aload_n (μ := mu_tw_signToken) (pc := 215) 1 dX11_signToken_215 rfl ?_
                refine x_fgi (μ := mu_tw_signToken) (pc := 216) fX11_46 q2682 dX11_signToken_216 hM.1 (fun hr28 => ?_)
                refine x_iconst (μ := mu_tw_signToken) (pc := 219) dX11_signToken_219 ?_
                refine x_iadd (μ := mu_tw_signToken) (pc := 220) dX11_signToken_220 ?_
                refine x_w1 ?_
                refine x_callV_mv (μ := mu_tw_signToken) (pc := 221) (ok_tw_sign (ω := ω) (l := l) (d := d - 1) (by omega) hM (by decide) (w32_rng _)) gRel_Tw gRel_Tw (fun _ q => q) q3043 q3045 qs91 q232 q3046 dX11_signToken_221 rfl hM.1 hy_tw_sign (by omega) (Nat.le_of_ble_eq_true rfl) rfl (Nat.le_of_ble_eq_true rfl) (fun x29 k30 => ?_)
                have hM31 : TM x29 h := hM.tw k30
                refine x_goto (μ := mu_tw_signToken) (pc := 224) (tgt := 314) dX11_signToken_224 rfl ?_
                exact x_vret (μ := mu_tw_signToken) (pc := 314) (a1 := x29) dX11_signToken_314 rfl rfl (gRel_Tw.1 _) trivial
            · refine x_aload_n (μ := mu_tw_signToken) (pc := 191) 1 dX11_signToken_191 rfl ?_
              refine x_bipush (μ := mu_tw_signToken) (pc := 192) dX11_signToken_192 (by decide) ?_
              refine x_aload_n (μ := mu_tw_signToken) (pc := 194) 1 dX11_signToken_194 rfl ?_
              refine x_fgi (μ := mu_tw_signToken) (pc := 195) fX11_46 q2682 dX11_signToken_195 hM.1 (fun hr32 => ?_)
              refine x_iconst (μ := mu_tw_signToken) (pc := 198) dX11_signToken_198 ?_
              refine x_iadd (μ := mu_tw_signToken) (pc := 199) dX11_signToken_199 ?_
              refine x_w1 ?_
              refine x_callV_mv (μ := mu_tw_signToken) (pc := 200) (ok_tw_sign (ω := ω) (l := l) (d := d - 1) (by omega) hM (by decide) (w32_rng _)) gRel_Tw gRel_Tw (fun _ q => q) q3043 q3045 qs91 q232 q3046 dX11_signToken_200 rfl hM.1 hy_tw_sign (by omega) (Nat.le_of_ble_eq_true rfl) rfl (Nat.le_of_ble_eq_true rfl) (fun x33 k34 => ?_)
              have hM35 : TM x33 h := hM.tw k34
              refine x_goto (μ := mu_tw_signToken) (pc := 203) (tgt := 314) dX11_signToken_203 rfl ?_
              exact x_vret (μ := mu_tw_signToken) (pc := 314) (a1 := x33) dX11_signToken_314 rfl rfl (gRel_Tw.1 _) trivial
          · refine x_aload_n (μ := mu_tw_signToken) (pc := 170) 1 dX11_signToken_170 rfl ?_
            refine x_bipush (μ := mu_tw_signToken) (pc := 171) dX11_signToken_171 (by decide) ?_
            refine x_aload_n (μ := mu_tw_signToken) (pc := 173) 1 dX11_signToken_173 rfl ?_
            refine x_fgi (μ := mu_tw_signToken) (pc := 174) fX11_46 q2682 dX11_signToken_174 hM.1 (fun hr36 => ?_)
            refine x_iconst (μ := mu_tw_signToken) (pc := 177) dX11_signToken_177 ?_
            refine x_iadd (μ := mu_tw_signToken) (pc := 178) dX11_signToken_178 ?_
            refine x_w1 ?_
            refine x_callV_mv (μ := mu_tw_signToken) (pc := 179) (ok_tw_sign (ω := ω) (l := l) (d := d - 1) (by omega) hM (by decide) (w32_rng _)) gRel_Tw gRel_Tw (fun _ q => q) q3043 q3045 qs91 q232 q3046 dX11_signToken_179 rfl hM.1 hy_tw_sign (by omega) (Nat.le_of_ble_eq_true rfl) rfl (Nat.le_of_ble_eq_true rfl) (fun x37 k38 => ?_)
            have hM39 : TM x37 h := hM.tw k38
            refine x_goto (μ := mu_tw_signToken) (pc := 182) (tgt := 314) dX11_signToken_182 rfl ?_
            exact x_vret (μ := mu_tw_signToken) (pc := 314) (a1 := x37) dX11_signToken_314 rfl rfl (gRel_Tw.1 _) trivial
        · refine x_aload_n (μ := mu_tw_signToken) (pc := 149) 1 dX11_signToken_149 rfl ?_
          refine x_bipush (μ := mu_tw_signToken) (pc := 150) dX11_signToken_150 (by decide) ?_
          refine x_aload_n (μ := mu_tw_signToken) (pc := 152) 1 dX11_signToken_152 rfl ?_
          refine x_fgi (μ := mu_tw_signToken) (pc := 153) fX11_46 q2682 dX11_signToken_153 hM.1 (fun hr40 => ?_)
          refine x_iconst (μ := mu_tw_signToken) (pc := 156) dX11_signToken_156 ?_
          refine x_iadd (μ := mu_tw_signToken) (pc := 157) dX11_signToken_157 ?_
          refine x_w1 ?_
          refine x_callV_mv (μ := mu_tw_signToken) (pc := 158) (ok_tw_sign (ω := ω) (l := l) (d := d - 1) (by omega) hM (by decide) (w32_rng _)) gRel_Tw gRel_Tw (fun _ q => q) q3043 q3045 qs91 q232 q3046 dX11_signToken_158 rfl hM.1 hy_tw_sign (by omega) (Nat.le_of_ble_eq_true rfl) rfl (Nat.le_of_ble_eq_true rfl) (fun x41 k42 => ?_)
          have hM43 : TM x41 h := hM.tw k42
          refine x_goto (μ := mu_tw_signToken) (pc := 161) (tgt := 314) dX11_signToken_161 rfl ?_
          exact x_vret (μ := mu_tw_signToken) (pc := 314) (a1 := x41) dX11_signToken_314 rfl rfl (gRel_Tw.1 _) trivial
      · refine x_aload_n (μ := mu_tw_signToken) (pc := 102) 1 dX11_signToken_102 rfl ?_
        refine x_iload_n (μ := mu_tw_signToken) (pc := 103) 0 dX11_signToken_103 rfl ?_
        refine x_bipush (μ := mu_tw_signToken) (pc := 104) dX11_signToken_104 (by decide) ?_
        refine x_icmp_ne (μ := mu_tw_signToken) (pc := 106) (tgt := 114) dX11_signToken_106 rfl hr3 (by decide) ?_ ?_
        · refine x_bipush (μ := mu_tw_signToken) (pc := 114) dX11_signToken_114 (by decide) ?_
          refine x_loc (lv' := [(0, vR h), (2, vI x2)]) [1, 0] rfl ?_
          exact okj_tw_signToken_j116 hdp hM hr3 (by decide)
        · refine x_bipush (μ := mu_tw_signToken) (pc := 109) dX11_signToken_109 (by decide) ?_
          refine x_goto (μ := mu_tw_signToken) (pc := 111) (tgt := 116) dX11_signToken_111 rfl ?_
          refine x_loc (lv' := [(0, vR h), (2, vI x2)]) [1, 0] rfl ?_
          exact okj_tw_signToken_j116 hdp hM hr3 (by decide)
    · refine x_aload_n (μ := mu_tw_signToken) (pc := 38) 1 dX11_signToken_38 rfl ?_
      refine x_iload_n (μ := mu_tw_signToken) (pc := 39) 0 dX11_signToken_39 rfl ?_
      refine x_bipush (μ := mu_tw_signToken) (pc := 40) dX11_signToken_40 (by decide) ?_
      refine x_icmp_ne (μ := mu_tw_signToken) (pc := 42) (tgt := 50) dX11_signToken_42 rfl hr3 (by decide) ?_ ?_
      · refine x_iload_n (μ := mu_tw_signToken) (pc := 50) 0 dX11_signToken_50 rfl ?_
        refine x_bipush (μ := mu_tw_signToken) (pc := 51) dX11_signToken_51 (by decide) ?_
        refine x_icmp_ne (μ := mu_tw_signToken) (pc := 53) (tgt := 61) dX11_signToken_53 rfl hr3 (by decide) ?_ ?_
        · refine x_bipush (μ := mu_tw_signToken) (pc := 61) dX11_signToken_61 (by decide) ?_
          refine x_loc (lv' := [(0, vR h), (2, vI x2)]) [1, 0] rfl ?_
          exact okj_tw_signToken_j63 hdp hM hr3 (by decide)
        · refine x_bipush (μ := mu_tw_signToken) (pc := 56) dX11_signToken_56 (by decide) ?_
          refine x_goto (μ := mu_tw_signToken) (pc := 58) (tgt := 63) dX11_signToken_58 rfl ?_
          refine x_loc (lv' := [(0, vR h), (2, vI x2)]) [1, 0] rfl ?_
          exact okj_tw_signToken_j63 hdp hM hr3 (by decide)
      · refine x_bipush (μ := mu_tw_signToken) (pc := 45) dX11_signToken_45 (by decide) ?_
        refine x_goto (μ := mu_tw_signToken) (pc := 47) (tgt := 63) dX11_signToken_47 rfl ?_
        refine x_loc (lv' := [(0, vR h), (2, vI x2)]) [1, 0] rfl ?_
        exact okj_tw_signToken_j63 hdp hM hr3 (by decide)
  · refine x_aload_n (μ := mu_tw_signToken) (pc := 17) 1 dX11_signToken_17 rfl ?_
    refine x_bipush (μ := mu_tw_signToken) (pc := 18) dX11_signToken_18 (by decide) ?_
    refine x_aload_n (μ := mu_tw_signToken) (pc := 20) 1 dX11_signToken_20 rfl ?_
    refine x_fgi (μ := mu_tw_signToken) (pc := 21) fX11_46 q2682 dX11_signToken_21 hM.1 (fun hr60 => ?_)
    refine x_iconst (μ := mu_tw_signToken) (pc := 24) dX11_signToken_24 ?_
    refine x_iadd (μ := mu_tw_signToken) (pc := 25) dX11_signToken_25 ?_
    refine x_w1 ?_
    refine x_callV_mv (μ := mu_tw_signToken) (pc := 26) (ok_tw_sign (ω := ω) (l := l) (d := d - 1) (by omega) hM (by decide) (w32_rng _)) gRel_Tw gRel_Tw (fun _ q => q) q3043 q3045 qs91 q232 q3046 dX11_signToken_26 rfl hM.1 hy_tw_sign (by omega) (Nat.le_of_ble_eq_true rfl) rfl (Nat.le_of_ble_eq_true rfl) (fun x61 k62 => ?_)
    have hM63 : TM x61 h := hM.tw k62
    refine x_goto (μ := mu_tw_signToken) (pc := 29) (tgt := 314) dX11_signToken_29 rfl ?_
    exact x_vret (μ := mu_tw_signToken) (pc := 314) (a1 := x61) dX11_signToken_314 rfl rfl (gRel_Tw.1 _) trivial
def tw_meanOne_j10 (h : Nat) (v1 : Int) (v2 : Int) (v3 : Int) (v4 : Int) (v5 : Int) (t0 : Int) (s : gMem) : Option gMem := (tw_lineAt h t0 0 (w32 (v3 - 1)) s).bind (fun x1 => if 0 ≤ v1 ∧ v1 < ((60420 : Nat) : Int) then gLet (wI s (h + 20) v1.toNat x1) (fun s3 => (tw_lineAt h t0 1 (w32 (v4 - 1)) s3).bind (fun x6 => if 0 ≤ v1 ∧ v1 < ((60420 : Nat) : Int) then gLet (wI s3 (h + 21) v1.toNat x6) (fun s8 => if 0 ≤ v1 ∧ v1 < ((60420 : Nat) : Int) then gLet (wI s8 (h + 24) v1.toNat v5) (fun s11 => if 0 ≤ v1 ∧ v1 < ((60420 : Nat) : Int) then gLet (wI s11 (h + 25) v1.toNat v2) (fun s14 => some s14) else none) else none) else none)) else none)
set_option maxRecDepth 100000 in
theorem okj_tw_meanOne_j10 {ω : gW} {l : Launch} {d : Nat} {h : Nat} {σ0 : gMem} {s : gMem} {v1 : Int} {v2 : Int} {v3 : Int} {v4 : Int} {v5 : Int} {t0 : Int} (hdp : 1 ≤ d) (hM : TM s h) (hv1 : g32 v1) (hv2 : g32 v2) (hv3 : g32 v3) (hv4 : g32 v4) (hv5 : g32 v5) (ht0 : g32 t0) : GG (fun p : gMem => (.inl none, p)) gTw ω l d mu_tw_meanOne σ0 10 [(0, vR h), (1, vI v1), (2, vI v2), (3, vI v3), (4, vI v4), (5, vI v5)] [vI t0] s (tw_meanOne_j10 h v1 v2 v3 v4 v5 t0 s) := by
  unfold tw_meanOne_j10
  refine x_istore (μ := mu_tw_meanOne) (pc := 10) (lv' := [(6, vI t0), (0, vR h), (1, vI v1), (2, vI v2), (3, vI v3), (4, vI v4), (5, vI v5)]) dX11_meanOne_10 (by decide) rfl ?_
  refine x_aload_n (μ := mu_tw_meanOne) (pc := 12) 1 dX11_meanOne_12 rfl ?_
  refine x_fgrE (μ := mu_tw_meanOne) (pc := 13) fX11_32 (Or.inr ⟨_, rfl⟩) q2668 (hM.a32).1 dX11_meanOne_13 hM.1 ?_
  refine x_iload_n (μ := mu_tw_meanOne) (pc := 16) 2 dX11_meanOne_16 rfl ?_
  refine x_aload_n (μ := mu_tw_meanOne) (pc := 17) 1 dX11_meanOne_17 rfl ?_
  refine x_iload (μ := mu_tw_meanOne) (pc := 18) 0 dX11_meanOne_18 rfl ?_
  refine x_iconst (μ := mu_tw_meanOne) (pc := 20) dX11_meanOne_20 ?_
  refine x_iload_n (μ := mu_tw_meanOne) (pc := 21) 4 dX11_meanOne_21 rfl ?_
  refine x_iconst (μ := mu_tw_meanOne) (pc := 22) dX11_meanOne_22 ?_
  refine x_isub (μ := mu_tw_meanOne) (pc := 23) dX11_meanOne_23 ?_
  refine x_w1 ?_
  refine x_callV_pi (μ := mu_tw_meanOne) (pc := 24) (ok_tw_lineAt (ω := ω) (l := l) (d := d - 1) (by omega) hM ht0 (by decide) (w32_rng _)) gRel_Tw gRel_Tw (fun _ q => q) q3148 q3150 qs111 q232 q3151 dX11_meanOne_24 rfl hM.1 hy_tw_lineAt (by omega) (Nat.le_of_ble_eq_true rfl) rfl (Nat.le_of_ble_eq_true rfl) (fun x1 hr2 => ?_)
  refine x_iast (μ := mu_tw_meanOne) (pc := 27) dX11_meanOne_27 (hM.a32).2.1 (hM.a32).2.2 (fun _ _ q => gTw_wI q) ?_
  refine x_let (fun s3 e4 => ?_)
  have hM5 := TM.eI e4 hM
  refine x_aload_n (μ := mu_tw_meanOne) (pc := 28) 1 dX11_meanOne_28 rfl ?_
  refine x_fgrE (μ := mu_tw_meanOne) (pc := 29) fX11_33 (Or.inr ⟨_, rfl⟩) q2669 (hM5.a33).1 dX11_meanOne_29 hM5.1 ?_
  refine x_iload_n (μ := mu_tw_meanOne) (pc := 32) 2 dX11_meanOne_32 rfl ?_
  refine x_aload_n (μ := mu_tw_meanOne) (pc := 33) 1 dX11_meanOne_33 rfl ?_
  refine x_iload (μ := mu_tw_meanOne) (pc := 34) 0 dX11_meanOne_34 rfl ?_
  refine x_iconst (μ := mu_tw_meanOne) (pc := 36) dX11_meanOne_36 ?_
  refine x_iload (μ := mu_tw_meanOne) (pc := 37) 5 dX11_meanOne_37 rfl ?_
  refine x_iconst (μ := mu_tw_meanOne) (pc := 39) dX11_meanOne_39 ?_
  refine x_isub (μ := mu_tw_meanOne) (pc := 40) dX11_meanOne_40 ?_
  refine x_w1 ?_
  refine x_callV_pi (μ := mu_tw_meanOne) (pc := 41) (ok_tw_lineAt (ω := ω) (l := l) (d := d - 1) (by omega) hM5 ht0 (by decide) (w32_rng _)) gRel_Tw gRel_Tw (fun _ q => q) q3148 q3150 qs111 q232 q3151 dX11_meanOne_41 rfl hM5.1 hy_tw_lineAt (by omega) (Nat.le_of_ble_eq_true rfl) rfl (Nat.le_of_ble_eq_true rfl) (fun x6 hr7 => ?_)
  refine x_iast (μ := mu_tw_meanOne) (pc := 44) dX11_meanOne_44 (hM5.a33).2.1 (hM5.a33).2.2 (fun _ _ q => gTw_wI q) ?_
  refine x_let (fun s8 e9 => ?_)
  have hM10 := TM.eI e9 hM5
  refine x_aload_n (μ := mu_tw_meanOne) (pc := 45) 1 dX11_meanOne_45 rfl ?_
  refine x_fgrE (μ := mu_tw_meanOne) (pc := 46) fX11_36 (Or.inr ⟨_, rfl⟩) q2672 (hM10.a36).1 dX11_meanOne_46 hM10.1 ?_
  refine x_iload_n (μ := mu_tw_meanOne) (pc := 49) 2 dX11_meanOne_49 rfl ?_
  refine x_iload (μ := mu_tw_meanOne) (pc := 50) 6 dX11_meanOne_50 rfl ?_
  refine x_iast (μ := mu_tw_meanOne) (pc := 52) dX11_meanOne_52 (hM10.a36).2.1 (hM10.a36).2.2 (fun _ _ q => gTw_wI q) ?_
  refine x_let (fun s11 e12 => ?_)
  have hM13 := TM.eI e12 hM10
  refine x_aload_n (μ := mu_tw_meanOne) (pc := 53) 1 dX11_meanOne_53 rfl ?_
  refine x_fgrE (μ := mu_tw_meanOne) (pc := 54) fX11_37 (Or.inr ⟨_, rfl⟩) q2673 (hM13.a37).1 dX11_meanOne_54 hM13.1 ?_
  refine x_iload_n (μ := mu_tw_meanOne) (pc := 57) 2 dX11_meanOne_57 rfl ?_
  refine x_iload_n (μ := mu_tw_meanOne) (pc := 58) 3 dX11_meanOne_58 rfl ?_
  refine x_iast (μ := mu_tw_meanOne) (pc := 59) dX11_meanOne_59 (hM13.a37).2.1 (hM13.a37).2.2 (fun _ _ q => gTw_wI q) ?_
  refine x_let (fun s14 e15 => ?_)
  have hM16 := TM.eI e15 hM13
  exact x_vret (μ := mu_tw_meanOne) (pc := 60) (a1 := s14) dX11_meanOne_60 rfl rfl (gRel_Tw.1 _) trivial
def tw_meanOne (h : Nat) (v1 : Int) (v2 : Int) (v3 : Int) (v4 : Int) (v5 : Int) (σ : gMem) : Option gMem := if 0 ≤ v2 then tw_meanOne_j10 h v1 v2 v3 v4 v5 v2 σ else tw_meanOne_j10 h v1 v2 v3 v4 v5 40 σ
set_option maxRecDepth 100000 in
theorem ok_tw_meanOne {ω : gW} {l : Launch} {d : Nat} {h : Nat} {σ : gMem} {v1 : Int} {v2 : Int} {v3 : Int} {v4 : Int} {v5 : Int} (hdp : 1 ≤ d) (hM : TM σ h) (hv1 : g32 v1) (hv2 : g32 v2) (hv3 : g32 v3) (hv4 : g32 v4) (hv5 : g32 v5) : gK (fun p : gMem => (.inl none, p)) gTw ω l d mu_tw_meanOne [vR h, vI v1, vI v2, vI v3, vI v4, vI v5] σ (tw_meanOne h v1 v2 v3 v4 v5 σ) := by
  refine gK.of hp_X11 (Nat.le_of_ble_eq_true rfl) ?_
  unfold tw_meanOne
  refine x_iload_n (μ := mu_tw_meanOne) (pc := 0) 2 dX11_meanOne_0 rfl ?_
  refine x_if_ge (μ := mu_tw_meanOne) (pc := 1) (tgt := 9) dX11_meanOne_1 rfl hv2 ?_ ?_
  · refine x_iload_n (μ := mu_tw_meanOne) (pc := 9) 2 dX11_meanOne_9 rfl ?_
    exact okj_tw_meanOne_j10 hdp hM hv1 hv2 hv3 hv4 hv5 hv2
  · refine x_bipush (μ := mu_tw_meanOne) (pc := 4) dX11_meanOne_4 (by decide) ?_
    refine x_goto (μ := mu_tw_meanOne) (pc := 6) (tgt := 10) dX11_meanOne_6 rfl ?_
    exact okj_tw_meanOne_j10 hdp hM hv1 hv2 hv3 hv4 hv5 (by decide)
def tw_isArg_j50 (h : Nat) (v4 : Int) (s : gMem) : Option (Int × gMem) := if v4 = 5 then some (1, s) else if v4 ≠ 4 then some (0, s) else some (1, s)
set_option maxRecDepth 100000 in
theorem okj_tw_isArg_j50 {ω : gW} {l : Launch} {d : Nat} {h : Nat} {σ0 : gMem} {s : gMem} {v4 : Int} (hdp : 2 ≤ d) (hM : TM s h) (hv4 : g32 v4) : GG (fun p : Int × gMem => (.inl (some (vI p.1)), p.2)) gTw ω l d mu_tw_isArg σ0 50 [(4, vI v4)] [] s (tw_isArg_j50 h v4 s) := by
  unfold tw_isArg_j50
  refine x_iload (μ := mu_tw_isArg) (pc := 50) 0 dX11_isArg_50 rfl ?_
  refine x_iconst (μ := mu_tw_isArg) (pc := 52) dX11_isArg_52 ?_
  refine x_icmp_eq (μ := mu_tw_isArg) (pc := 53) (tgt := 62) dX11_isArg_53 rfl hv4 (by decide) ?_ ?_
  · refine x_iconst (μ := mu_tw_isArg) (pc := 62) dX11_isArg_62 ?_
    refine x_goto (μ := mu_tw_isArg) (pc := 63) (tgt := 67) dX11_isArg_63 rfl ?_
    exact x_zret (μ := mu_tw_isArg) (pc := 67) dX11_isArg_67 rfl (by decide) rfl (gRel_Tw.1 _) (show g32 1 from (by decide))
  · refine x_iload (μ := mu_tw_isArg) (pc := 56) 0 dX11_isArg_56 rfl ?_
    refine x_iconst (μ := mu_tw_isArg) (pc := 58) dX11_isArg_58 ?_
    refine x_icmp_ne (μ := mu_tw_isArg) (pc := 59) (tgt := 66) dX11_isArg_59 rfl hv4 (by decide) ?_ ?_
    · refine x_iconst (μ := mu_tw_isArg) (pc := 66) dX11_isArg_66 ?_
      exact x_zret (μ := mu_tw_isArg) (pc := 67) dX11_isArg_67 rfl (by decide) rfl (gRel_Tw.1 _) (show g32 0 from (by decide))
    · refine x_iconst (μ := mu_tw_isArg) (pc := 62) dX11_isArg_62 ?_
      refine x_goto (μ := mu_tw_isArg) (pc := 63) (tgt := 67) dX11_isArg_63 rfl ?_
      exact x_zret (μ := mu_tw_isArg) (pc := 67) dX11_isArg_67 rfl (by decide) rfl (gRel_Tw.1 _) (show g32 1 from (by decide))
def tw_isArg_j29 (h : Nat) (v3 : Int) (v4 : Int) (s : gMem) : Option (Int × gMem) := if v4 ≠ 5 then tw_isArg_j50 h v4  s else if 0 ≤ v3 ∧ v3 < ((60420 : Nat) : Int) then if 0 ≤ v3 ∧ v3 < ((60420 : Nat) : Int) then gLet (wI s (h + 24) v3.toNat (bOr (mI s (h + 24) v3.toNat) 16)) (fun s5 => tw_isArg_j50 h v4  s5) else none else none
set_option maxRecDepth 100000 in
theorem okj_tw_isArg_j29 {ω : gW} {l : Launch} {d : Nat} {h : Nat} {σ0 : gMem} {s : gMem} {v3 : Int} {v4 : Int} (hdp : 2 ≤ d) (hM : TM s h) (hv3 : g32 v3) (hv4 : g32 v4) : GG (fun p : Int × gMem => (.inl (some (vI p.1)), p.2)) gTw ω l d mu_tw_isArg σ0 29 [(0, vR h), (3, vI v3), (4, vI v4)] [] s (tw_isArg_j29 h v3 v4 s) := by
  unfold tw_isArg_j29
  refine x_iload (μ := mu_tw_isArg) (pc := 29) 2 dX11_isArg_29 rfl ?_
  refine x_iconst (μ := mu_tw_isArg) (pc := 31) dX11_isArg_31 ?_
  refine x_icmp_ne (μ := mu_tw_isArg) (pc := 32) (tgt := 50) dX11_isArg_32 rfl hv4 (by decide) ?_ ?_
  · refine x_loc (lv' := [(4, vI v4)]) [2] rfl ?_
    exact okj_tw_isArg_j50 hdp hM hv4
  · refine x_aload_n (μ := mu_tw_isArg) (pc := 35) 0 dX11_isArg_35 rfl ?_
    refine x_fgrE (μ := mu_tw_isArg) (pc := 36) fX11_36 (Or.inr ⟨_, rfl⟩) q2672 (hM.a36).1 dX11_isArg_36 hM.1 ?_
    refine x_iload_n (μ := mu_tw_isArg) (pc := 39) 1 dX11_isArg_39 rfl ?_
    refine x_aload_n (μ := mu_tw_isArg) (pc := 40) 0 dX11_isArg_40 rfl ?_
    refine x_fgrE (μ := mu_tw_isArg) (pc := 41) fX11_36 (Or.inr ⟨_, rfl⟩) q2672 (hM.a36).1 dX11_isArg_41 hM.1 ?_
    refine x_iload_n (μ := mu_tw_isArg) (pc := 44) 1 dX11_isArg_44 rfl ?_
    refine x_iald (μ := mu_tw_isArg) (pc := 45) dX11_isArg_45 (hM.a36).2.1 (hM.a36).2.2 (fun hr4 => ?_)
    refine x_bipush (μ := mu_tw_isArg) (pc := 46) dX11_isArg_46 (by decide) ?_
    refine x_ior (μ := mu_tw_isArg) (pc := 48) dX11_isArg_48 ?_
    refine x_iast (μ := mu_tw_isArg) (pc := 49) dX11_isArg_49 (hM.a36).2.1 (hM.a36).2.2 (fun _ _ q => gTw_wI q) ?_
    refine x_let (fun s5 e6 => ?_)
    have hM7 := TM.eI e6 hM
    refine x_loc (lv' := [(4, vI v4)]) [2] rfl ?_
    exact okj_tw_isArg_j50 hdp hM7 hv4
def tw_isArg_j100 (h : Nat) (v4 : Int) (t0 : Int) (s : gMem) : Option (Int × gMem) := if t0 = 0 then if v4 = 6 then some (0, s) else some (1, s) else if v4 = 6 then some (1, s) else if v4 ≠ 4 then some (0, s) else some (1, s)
set_option maxRecDepth 100000 in
theorem okj_tw_isArg_j100 {ω : gW} {l : Launch} {d : Nat} {h : Nat} {σ0 : gMem} {s : gMem} {v4 : Int} {t0 : Int} (hdp : 2 ≤ d) (hM : TM s h) (hv4 : g32 v4) (ht0 : g32 t0) : GG (fun p : Int × gMem => (.inl (some (vI p.1)), p.2)) gTw ω l d mu_tw_isArg σ0 100 [(4, vI v4)] [vI t0] s (tw_isArg_j100 h v4 t0 s) := by
  unfold tw_isArg_j100
  refine x_istore (μ := mu_tw_isArg) (pc := 100) (lv' := [(5, vI t0), (4, vI v4)]) dX11_isArg_100 (by decide) rfl ?_
  refine x_iload (μ := mu_tw_isArg) (pc := 102) 0 dX11_isArg_102 rfl ?_
  refine x_if_eq (μ := mu_tw_isArg) (pc := 104) (tgt := 128) dX11_isArg_104 rfl ht0 ?_ ?_
  · refine x_iload (μ := mu_tw_isArg) (pc := 128) 1 dX11_isArg_128 rfl ?_
    refine x_bipush (μ := mu_tw_isArg) (pc := 130) dX11_isArg_130 (by decide) ?_
    refine x_icmp_eq (μ := mu_tw_isArg) (pc := 132) (tgt := 139) dX11_isArg_132 rfl hv4 (by decide) ?_ ?_
    · refine x_iconst (μ := mu_tw_isArg) (pc := 139) dX11_isArg_139 ?_
      exact x_zret (μ := mu_tw_isArg) (pc := 140) dX11_isArg_140 rfl (by decide) rfl (gRel_Tw.1 _) (show g32 0 from (by decide))
    · refine x_iconst (μ := mu_tw_isArg) (pc := 135) dX11_isArg_135 ?_
      refine x_goto (μ := mu_tw_isArg) (pc := 136) (tgt := 140) dX11_isArg_136 rfl ?_
      exact x_zret (μ := mu_tw_isArg) (pc := 140) dX11_isArg_140 rfl (by decide) rfl (gRel_Tw.1 _) (show g32 1 from (by decide))
  · refine x_iload (μ := mu_tw_isArg) (pc := 107) 1 dX11_isArg_107 rfl ?_
    refine x_bipush (μ := mu_tw_isArg) (pc := 109) dX11_isArg_109 (by decide) ?_
    refine x_icmp_eq (μ := mu_tw_isArg) (pc := 111) (tgt := 120) dX11_isArg_111 rfl hv4 (by decide) ?_ ?_
    · refine x_iconst (μ := mu_tw_isArg) (pc := 120) dX11_isArg_120 ?_
      refine x_goto (μ := mu_tw_isArg) (pc := 121) (tgt := 140) dX11_isArg_121 rfl ?_
      exact x_zret (μ := mu_tw_isArg) (pc := 140) dX11_isArg_140 rfl (by decide) rfl (gRel_Tw.1 _) (show g32 1 from (by decide))
    · refine x_iload (μ := mu_tw_isArg) (pc := 114) 1 dX11_isArg_114 rfl ?_
      refine x_iconst (μ := mu_tw_isArg) (pc := 116) dX11_isArg_116 ?_
      refine x_icmp_ne (μ := mu_tw_isArg) (pc := 117) (tgt := 124) dX11_isArg_117 rfl hv4 (by decide) ?_ ?_
      · refine x_iconst (μ := mu_tw_isArg) (pc := 124) dX11_isArg_124 ?_
        refine x_goto (μ := mu_tw_isArg) (pc := 125) (tgt := 140) dX11_isArg_125 rfl ?_
        exact x_zret (μ := mu_tw_isArg) (pc := 140) dX11_isArg_140 rfl (by decide) rfl (gRel_Tw.1 _) (show g32 0 from (by decide))
      · refine x_iconst (μ := mu_tw_isArg) (pc := 120) dX11_isArg_120 ?_
        refine x_goto (μ := mu_tw_isArg) (pc := 121) (tgt := 140) dX11_isArg_121 rfl ?_
        exact x_zret (μ := mu_tw_isArg) (pc := 140) dX11_isArg_140 rfl (by decide) rfl (gRel_Tw.1 _) (show g32 1 from (by decide))
def tw_isArg_j95 (h : Nat) (v4 : Int) (s : gMem) : Option (Int × gMem) := tw_isArg_j100 h v4 1 s
set_option maxRecDepth 100000 in
theorem okj_tw_isArg_j95 {ω : gW} {l : Launch} {d : Nat} {h : Nat} {σ0 : gMem} {s : gMem} {v4 : Int} (hdp : 2 ≤ d) (hM : TM s h) (hv4 : g32 v4) : GG (fun p : Int × gMem => (.inl (some (vI p.1)), p.2)) gTw ω l d mu_tw_isArg σ0 95 [(4, vI v4)] [] s (tw_isArg_j95 h v4 s) := by
  unfold tw_isArg_j95
  refine x_iconst (μ := mu_tw_isArg) (pc := 95) dX11_isArg_95 ?_
  refine x_goto (μ := mu_tw_isArg) (pc := 96) (tgt := 100) dX11_isArg_96 rfl ?_
  exact okj_tw_isArg_j100 hdp hM hv4 (by decide)
def tw_isArg_j99 (h : Nat) (v4 : Int) (s : gMem) : Option (Int × gMem) := tw_isArg_j100 h v4 0 s
set_option maxRecDepth 100000 in
theorem okj_tw_isArg_j99 {ω : gW} {l : Launch} {d : Nat} {h : Nat} {σ0 : gMem} {s : gMem} {v4 : Int} (hdp : 2 ≤ d) (hM : TM s h) (hv4 : g32 v4) : GG (fun p : Int × gMem => (.inl (some (vI p.1)), p.2)) gTw ω l d mu_tw_isArg σ0 99 [(4, vI v4)] [] s (tw_isArg_j99 h v4 s) := by
  unfold tw_isArg_j99
  refine x_iconst (μ := mu_tw_isArg) (pc := 99) dX11_isArg_99 ?_
  exact okj_tw_isArg_j100 hdp hM hv4 (by decide)
def tw_isArg_j84 (h : Nat) (v1 : Int) (v2 : Int) (v4 : Int) (s : gMem) : Option (Int × gMem) := if v1 ≠ 46 then tw_isArg_j99 h v4  s else if v2 ≠ 1 then tw_isArg_j99 h v4  s else tw_isArg_j95 h v4  s
set_option maxRecDepth 100000 in
theorem okj_tw_isArg_j84 {ω : gW} {l : Launch} {d : Nat} {h : Nat} {σ0 : gMem} {s : gMem} {v1 : Int} {v2 : Int} {v4 : Int} (hdp : 2 ≤ d) (hM : TM s h) (hv1 : g32 v1) (hv2 : g32 v2) (hv4 : g32 v4) : GG (fun p : Int × gMem => (.inl (some (vI p.1)), p.2)) gTw ω l d mu_tw_isArg σ0 84 [(1, vI v1), (2, vI v2), (4, vI v4)] [] s (tw_isArg_j84 h v1 v2 v4 s) := by
  unfold tw_isArg_j84
  refine x_iload_n (μ := mu_tw_isArg) (pc := 84) 0 dX11_isArg_84 rfl ?_
  refine x_bipush (μ := mu_tw_isArg) (pc := 85) dX11_isArg_85 (by decide) ?_
  refine x_icmp_ne (μ := mu_tw_isArg) (pc := 87) (tgt := 99) dX11_isArg_87 rfl hv1 (by decide) ?_ ?_
  · refine x_loc (lv' := [(4, vI v4)]) [2] rfl ?_
    exact okj_tw_isArg_j99 hdp hM hv4
  · refine x_iload_n (μ := mu_tw_isArg) (pc := 90) 1 dX11_isArg_90 rfl ?_
    refine x_iconst (μ := mu_tw_isArg) (pc := 91) dX11_isArg_91 ?_
    refine x_icmp_ne (μ := mu_tw_isArg) (pc := 92) (tgt := 99) dX11_isArg_92 rfl hv2 (by decide) ?_ ?_
    · refine x_loc (lv' := [(4, vI v4)]) [2] rfl ?_
      exact okj_tw_isArg_j99 hdp hM hv4
    · refine x_loc (lv' := [(4, vI v4)]) [2] rfl ?_
      exact okj_tw_isArg_j95 hdp hM hv4
def tw_isArg_j80 (h : Nat) (v1 : Int) (v2 : Int) (v4 : Int) (s : gMem) : Option (Int × gMem) := if v2 = 0 then tw_isArg_j95 h v4  s else tw_isArg_j84 h v1 v2 v4  s
set_option maxRecDepth 100000 in
theorem okj_tw_isArg_j80 {ω : gW} {l : Launch} {d : Nat} {h : Nat} {σ0 : gMem} {s : gMem} {v1 : Int} {v2 : Int} {v4 : Int} (hdp : 2 ≤ d) (hM : TM s h) (hv1 : g32 v1) (hv2 : g32 v2) (hv4 : g32 v4) : GG (fun p : Int × gMem => (.inl (some (vI p.1)), p.2)) gTw ω l d mu_tw_isArg σ0 80 [(1, vI v1), (2, vI v2), (4, vI v4)] [] s (tw_isArg_j80 h v1 v2 v4 s) := by
  unfold tw_isArg_j80
  refine x_iload_n (μ := mu_tw_isArg) (pc := 80) 1 dX11_isArg_80 rfl ?_
  refine x_if_eq (μ := mu_tw_isArg) (pc := 81) (tgt := 95) dX11_isArg_81 rfl hv2 ?_ ?_
  · refine x_loc (lv' := [(4, vI v4)]) [2] rfl ?_
    exact okj_tw_isArg_j95 hdp hM hv4
  · exact okj_tw_isArg_j84 hdp hM hv1 hv2 hv4
def tw_isArg (h : Nat) (v1 : Int) (v2 : Int) (v3 : Int) (σ : gMem) : Option (Int × gMem) := if 0 ≤ v3 ∧ v3 < ((60420 : Nat) : Int) then (tw_isMany v1 σ).bind (fun x2 => if x2 = 0 then if v1 = 41 then tw_isArg_j29 h v3 (mI σ (h + 14) v3.toNat)  σ else if v1 ≠ 42 then if v1 = 45 then tw_isArg_j80 h v1 v2 (mI σ (h + 14) v3.toNat)  σ else if v1 ≠ 47 then tw_isArg_j84 h v1 v2 (mI σ (h + 14) v3.toNat)  σ else tw_isArg_j80 h v1 v2 (mI σ (h + 14) v3.toNat)  σ else tw_isArg_j29 h v3 (mI σ (h + 14) v3.toNat)  σ else some (1, σ)) else none
set_option maxRecDepth 100000 in
theorem ok_tw_isArg {ω : gW} {l : Launch} {d : Nat} {h : Nat} {σ : gMem} {v1 : Int} {v2 : Int} {v3 : Int} (hdp : 2 ≤ d) (hM : TM σ h) (hv1 : g32 v1) (hv2 : g32 v2) (hv3 : g32 v3) : gK (fun p : Int × gMem => (.inl (some (vI p.1)), p.2)) gTw ω l d mu_tw_isArg [vR h, vI v1, vI v2, vI v3] σ (tw_isArg h v1 v2 v3 σ) := by
  refine gK.of hp_X11 (Nat.le_of_ble_eq_true rfl) ?_
  unfold tw_isArg
  refine x_aload_n (μ := mu_tw_isArg) (pc := 0) 0 dX11_isArg_0 rfl ?_
  refine x_fgrE (μ := mu_tw_isArg) (pc := 1) fX11_26 (Or.inr ⟨_, rfl⟩) q2662 (hM.a26).1 dX11_isArg_1 hM.1 ?_
  refine x_iload_n (μ := mu_tw_isArg) (pc := 4) 3 dX11_isArg_4 rfl ?_
  refine x_iald (μ := mu_tw_isArg) (pc := 5) dX11_isArg_5 (hM.a26).2.1 (hM.a26).2.2 (fun hr1 => ?_)
  refine x_istore (μ := mu_tw_isArg) (pc := 6) (lv' := [(4, vI (mI σ (h + 14) v3.toNat)), (0, vR h), (1, vI v1), (2, vI v2), (3, vI v3)]) dX11_isArg_6 (by decide) rfl ?_
  refine x_iload_n (μ := mu_tw_isArg) (pc := 8) 2 dX11_isArg_8 rfl ?_
  refine x_callS_pi (μ := mu_tw_isArg) (pc := 9) (ok_tw_isMany (ω := ω) (l := l) (d := d - 1) (by omega) hv1) gRel_Tw gRel_Tw (fun _ q => q) q3160 q3161 q232 q3162 dX11_isArg_9 hy_tw_isMany (by omega) (Nat.le_of_ble_eq_true rfl) rfl (Nat.le_of_ble_eq_true rfl) (fun x2 hr3 => ?_)
  refine x_if_eq (μ := mu_tw_isArg) (pc := 12) (tgt := 17) dX11_isArg_12 rfl hr3 ?_ ?_
  · refine x_iload_n (μ := mu_tw_isArg) (pc := 17) 2 dX11_isArg_17 rfl ?_
    refine x_bipush (μ := mu_tw_isArg) (pc := 18) dX11_isArg_18 (by decide) ?_
    refine x_icmp_eq (μ := mu_tw_isArg) (pc := 20) (tgt := 29) dX11_isArg_20 rfl hv1 (by decide) ?_ ?_
    · refine x_loc (lv' := [(0, vR h), (3, vI v3), (4, vI (mI σ (h + 14) v3.toNat))]) [1, 4, 0] rfl ?_
      exact okj_tw_isArg_j29 hdp hM hv3 hr1
    · refine x_iload_n (μ := mu_tw_isArg) (pc := 23) 2 dX11_isArg_23 rfl ?_
      refine x_bipush (μ := mu_tw_isArg) (pc := 24) dX11_isArg_24 (by decide) ?_
      refine x_icmp_ne (μ := mu_tw_isArg) (pc := 26) (tgt := 68) dX11_isArg_26 rfl hv1 (by decide) ?_ ?_
      · refine x_iload_n (μ := mu_tw_isArg) (pc := 68) 2 dX11_isArg_68 rfl ?_
        refine x_bipush (μ := mu_tw_isArg) (pc := 69) dX11_isArg_69 (by decide) ?_
        refine x_icmp_eq (μ := mu_tw_isArg) (pc := 71) (tgt := 80) dX11_isArg_71 rfl hv1 (by decide) ?_ ?_
        · refine x_loc (lv' := [(1, vI v1), (2, vI v2), (4, vI (mI σ (h + 14) v3.toNat))]) [2, 3, 0] rfl ?_
          exact okj_tw_isArg_j80 hdp hM hv1 hv2 hr1
        · refine x_iload_n (μ := mu_tw_isArg) (pc := 74) 2 dX11_isArg_74 rfl ?_
          refine x_bipush (μ := mu_tw_isArg) (pc := 75) dX11_isArg_75 (by decide) ?_
          refine x_icmp_ne (μ := mu_tw_isArg) (pc := 77) (tgt := 84) dX11_isArg_77 rfl hv1 (by decide) ?_ ?_
          · refine x_loc (lv' := [(1, vI v1), (2, vI v2), (4, vI (mI σ (h + 14) v3.toNat))]) [2, 3, 0] rfl ?_
            exact okj_tw_isArg_j84 hdp hM hv1 hv2 hr1
          · refine x_loc (lv' := [(1, vI v1), (2, vI v2), (4, vI (mI σ (h + 14) v3.toNat))]) [2, 3, 0] rfl ?_
            exact okj_tw_isArg_j80 hdp hM hv1 hv2 hr1
      · refine x_loc (lv' := [(0, vR h), (3, vI v3), (4, vI (mI σ (h + 14) v3.toNat))]) [1, 4, 0] rfl ?_
        exact okj_tw_isArg_j29 hdp hM hv3 hr1
  · refine x_iconst (μ := mu_tw_isArg) (pc := 15) dX11_isArg_15 ?_
    exact x_zret (μ := mu_tw_isArg) (pc := 16) dX11_isArg_16 rfl (by decide) rfl (gRel_Tw.1 _) (show g32 1 from (by decide))
def tw_plainEntered_l5_j31 (N : Nat) (h : Nat) (v1 : Int) (Kh : Int → gMem → Option (Int × gMem)) (K : gMem → Option (Int × gMem)) (s : gMem) : Option (Int × gMem) := Kh (w32 (v1 + 1)) s
set_option maxRecDepth 100000 in
theorem okj_tw_plainEntered_l5_j31 {ω : gW} {l : Launch} {d : Nat} {N : Nat} {h : Nat} {σ0 : gMem} {s : gMem} {v1 : Int} {Kh : Int → gMem → Option (Int × gMem)} {K : gMem → Option (Int × gMem)} (hdp : 6 ≤ d) (hM : TM s h) (hv1 : g32 v1) (hKh : ∀ (v1 : Int) (s : gMem) , g32 v1 → TM s h → GG (fun p : Int × gMem => (.inl (some (vI p.1)), p.2)) gTw ω l d mu_tw_plainEntered σ0 5 [(0, vR h), (1, vI v1)] [] s (Kh v1 s)) (hK : ∀ (s : gMem) , TM s h → GG (fun p : Int × gMem => (.inl (some (vI p.1)), p.2)) gTw ω l d mu_tw_plainEntered σ0 37 [(0, vR h)] [] s (K s)) : GG (fun p : Int × gMem => (.inl (some (vI p.1)), p.2)) gTw ω l d mu_tw_plainEntered σ0 31 [(0, vR h), (1, vI v1)] [] s (tw_plainEntered_l5_j31 N h v1 Kh K s) := by
  unfold tw_plainEntered_l5_j31
  refine x_iincw (μ := mu_tw_plainEntered) (pc := 31) (lv' := [(1, vI (w32 (v1 + 1))), (0, vR h)]) 1 dX11_plainEntered_31 rfl (by decide) rfl ?_
  refine x_goto (μ := mu_tw_plainEntered) (pc := 34) (tgt := 5) dX11_plainEntered_34 rfl ?_
  refine x_loc (lv' := [(0, vR h), (1, vI (w32 (v1 + 1)))]) [1, 0] rfl ?_
  exact hKh (w32 (v1 + 1)) s (w32_rng _) hM
def tw_plainEntered_l5 (N : Nat) (h : Nat) (K : gMem → Option (Int × gMem)) : Nat → Int → gMem → Option (Int × gMem)
  | 0, _, _ => none
  | n + 1, v1, s => if mI s h 44 ≤ v1 then K s else if 0 ≤ v1 ∧ v1 < ((400 : Nat) : Int) then (tw_isSign (mI s (h + 27) v1.toNat) s).bind (fun x4 => if x4 ≠ 0 then tw_plainEntered_l5_j31 N h v1  (tw_plainEntered_l5 N h K n) K s else (tw_fail h 1 v1 s).bind (fun x6 => tw_plainEntered_l5_j31 N h v1  (tw_plainEntered_l5 N h K n) K x6)) else none
set_option maxRecDepth 100000 in
theorem okl_tw_plainEntered_l5 {ω : gW} {l : Launch} {d : Nat} {N : Nat} {h : Nat} {σ0 : gMem} {K : gMem → Option (Int × gMem)} (hdp : 6 ≤ d) (hK : ∀ (s : gMem) , TM s h → GG (fun p : Int × gMem => (.inl (some (vI p.1)), p.2)) gTw ω l d mu_tw_plainEntered σ0 37 [(0, vR h)] [] s (K s)) : ∀ (n : Nat) (v1 : Int) (s : gMem) , g32 v1 → TM s h → GG (fun p : Int × gMem => (.inl (some (vI p.1)), p.2)) gTw ω l d mu_tw_plainEntered σ0 5 [(0, vR h), (1, vI v1)] [] s (tw_plainEntered_l5 N h K n v1 s) := by
  intro n
  induction n with
  | zero => intros; exact x_none
  | succ n ih =>
    intro v1 s hv1 hM
    unfold tw_plainEntered_l5
    refine x_iload_n (μ := mu_tw_plainEntered) (pc := 5) 1 dX11_plainEntered_5 rfl ?_
    refine x_aload_n (μ := mu_tw_plainEntered) (pc := 6) 0 dX11_plainEntered_6 rfl ?_
    refine x_fgi (μ := mu_tw_plainEntered) (pc := 7) fX11_44 q2680 dX11_plainEntered_7 hM.1 (fun hr2 => ?_)
    refine x_icmp_ge (μ := mu_tw_plainEntered) (pc := 10) (tgt := 37) dX11_plainEntered_10 rfl hv1 hr2 ?_ ?_
    · refine x_loc (lv' := [(0, vR h)]) [0] rfl ?_
      exact hK s hM
    · refine x_aload_n (μ := mu_tw_plainEntered) (pc := 13) 0 dX11_plainEntered_13 rfl ?_
      refine x_fgrE (μ := mu_tw_plainEntered) (pc := 14) fX11_39 (Or.inr ⟨_, rfl⟩) q2675 (hM.a39).1 dX11_plainEntered_14 hM.1 ?_
      refine x_iload_n (μ := mu_tw_plainEntered) (pc := 17) 1 dX11_plainEntered_17 rfl ?_
      refine x_iald (μ := mu_tw_plainEntered) (pc := 18) dX11_plainEntered_18 (hM.a39).2.1 (hM.a39).2.2 (fun hr3 => ?_)
      refine x_callS_pi (μ := mu_tw_plainEntered) (pc := 19) (ok_tw_isSign (ω := ω) (l := l) (d := d - 1) (by omega) hr3) gRel_Tw gRel_Tw (fun _ q => q) q3018 q3019 q232 q3020 dX11_plainEntered_19 hy_tw_isSign (by omega) (Nat.le_of_ble_eq_true rfl) rfl (Nat.le_of_ble_eq_true rfl) (fun x4 hr5 => ?_)
      refine x_if_ne (μ := mu_tw_plainEntered) (pc := 22) (tgt := 31) dX11_plainEntered_22 rfl hr5 ?_ ?_
      · exact okj_tw_plainEntered_l5_j31 hdp hM hv1 ih hK
      · refine x_aload_n (μ := mu_tw_plainEntered) (pc := 25) 0 dX11_plainEntered_25 rfl ?_
        refine x_iconst (μ := mu_tw_plainEntered) (pc := 26) dX11_plainEntered_26 ?_
        refine x_iload_n (μ := mu_tw_plainEntered) (pc := 27) 1 dX11_plainEntered_27 rfl ?_
        refine x_callV_mv (μ := mu_tw_plainEntered) (pc := 28) (ok_tw_fail (ω := ω) (l := l) (d := d - 1) (by omega) hM (by decide) hv1) gRel_Tw gRel_Tw (fun _ q => q) q3079 q3081 qs100 q232 q3082 dX11_plainEntered_28 rfl hM.1 hy_tw_fail (by omega) (Nat.le_of_ble_eq_true rfl) rfl (Nat.le_of_ble_eq_true rfl) (fun x6 k7 => ?_)
        have hM8 : TM x6 h := hM.tw k7
        exact okj_tw_plainEntered_l5_j31 hdp hM8 hv1 ih hK
def tw_plainEntered_j171 (N : Nat) (h : Nat) (v2 : Int) (s : gMem) : Option (Int × gMem) := if v2 = 0 then (tw_plain h 3 (((0 : Fin 2) : Nat) : Int) 0 0 s).bind (fun x21 => some (x21.1, x21.2)) else (tw_plain h 3 (((1 : Fin 2) : Nat) : Int) 0 0 s).bind (fun x25 => some (x25.1, x25.2))
set_option maxRecDepth 100000 in
theorem okj_tw_plainEntered_j171 {ω : gW} {l : Launch} {d : Nat} {N : Nat} {h : Nat} {σ0 : gMem} {s : gMem} {v2 : Int} (hdp : 6 ≤ d) (hM : TM s h) (hv2 : g32 v2) : GG (fun p : Int × gMem => (.inl (some (vI p.1)), p.2)) gTw ω l d mu_tw_plainEntered σ0 171 [(0, vR h), (2, vI v2)] [] s (tw_plainEntered_j171 N h v2 s) := by
  unfold tw_plainEntered_j171
  refine x_aload_n (μ := mu_tw_plainEntered) (pc := 171) 0 dX11_plainEntered_171 rfl ?_
  refine x_iconst (μ := mu_tw_plainEntered) (pc := 172) dX11_plainEntered_172 ?_
  refine x_iload_n (μ := mu_tw_plainEntered) (pc := 173) 1 dX11_plainEntered_173 rfl ?_
  refine x_if_eq (μ := mu_tw_plainEntered) (pc := 174) (tgt := 181) dX11_plainEntered_174 rfl hv2 ?_ ?_
  · refine x_lconst (μ := mu_tw_plainEntered) (pc := 181) dX11_plainEntered_181 ?_
    refine x_iconst (μ := mu_tw_plainEntered) (pc := 182) dX11_plainEntered_182 ?_
    refine x_iconst (μ := mu_tw_plainEntered) (pc := 183) dX11_plainEntered_183 ?_
    refine x_callV_mi (μ := mu_tw_plainEntered) (pc := 184) (ok_tw_plain (ω := ω) (l := l) (d := d - 1) (by omega) hM (by decide) (by decide) (by decide) (by decide)) gRel_Tw gRel_Tw (fun _ q => q) q3185 q3187 qs118 q232 q3188 dX11_plainEntered_184 rfl hM.1 hy_tw_plain (by omega) (Nat.le_of_ble_eq_true rfl) rfl (Nat.le_of_ble_eq_true rfl) (fun x21 k23 hr22 => ?_)
    have hM24 : TM (x21.2) h := hM.tw k23
    exact x_iret (μ := mu_tw_plainEntered) (pc := 187) dX11_plainEntered_187 rfl rfl (gRel_Tw.1 _) (show g32 (x21.1) from hr22)
  · refine x_lconst (μ := mu_tw_plainEntered) (pc := 177) dX11_plainEntered_177 ?_
    refine x_goto (μ := mu_tw_plainEntered) (pc := 178) (tgt := 182) dX11_plainEntered_178 rfl ?_
    refine x_iconst (μ := mu_tw_plainEntered) (pc := 182) dX11_plainEntered_182 ?_
    refine x_iconst (μ := mu_tw_plainEntered) (pc := 183) dX11_plainEntered_183 ?_
    refine x_callV_mi (μ := mu_tw_plainEntered) (pc := 184) (ok_tw_plain (ω := ω) (l := l) (d := d - 1) (by omega) hM (by decide) (by decide) (by decide) (by decide)) gRel_Tw gRel_Tw (fun _ q => q) q3185 q3187 qs118 q232 q3188 dX11_plainEntered_184 rfl hM.1 hy_tw_plain (by omega) (Nat.le_of_ble_eq_true rfl) rfl (Nat.le_of_ble_eq_true rfl) (fun x25 k27 hr26 => ?_)
    have hM28 : TM (x25.2) h := hM.tw k27
    exact x_iret (μ := mu_tw_plainEntered) (pc := 187) dX11_plainEntered_187 rfl rfl (gRel_Tw.1 _) (show g32 (x25.1) from hr26)
def tw_plainEntered_j215 (N : Nat) (h : Nat) (t0 : Int) (s : gMem) : Option (Int × gMem) := if w32 ((mI s h 44) - t0) ≤ 24 then (tw_kept N h t0 (mI s h 44) s).bind (fun x37 => (tw_plain h 2 (((0 : Fin 2) : Nat) : Int) (x37.1) (w32 ((mI (x37.2) h 44) - t0)) (x37.2)).bind (fun x42 => some (x42.1, x42.2))) else (tw_fail h 6 (w32 (t0 + 24)) s).bind (fun x46 => some (0, x46))
set_option maxRecDepth 100000 in
theorem okj_tw_plainEntered_j215 {ω : gW} {l : Launch} {d : Nat} {N : Nat} {h : Nat} {σ0 : gMem} {s : gMem} {t0 : Int} (hdp : 6 ≤ d) (hM : TM s h) (ht0 : g32 t0) : GG (fun p : Int × gMem => (.inl (some (vI p.1)), p.2)) gTw ω l d mu_tw_plainEntered σ0 215 [(0, vR h)] [vI t0] s (tw_plainEntered_j215 N h t0 s) := by
  unfold tw_plainEntered_j215
  refine x_istore_n (μ := mu_tw_plainEntered) (pc := 215) (lv' := [(3, vI t0), (0, vR h)]) dX11_plainEntered_215 rfl (by decide) rfl ?_
  refine x_aload_n (μ := mu_tw_plainEntered) (pc := 216) 1 dX11_plainEntered_216 rfl ?_
  refine x_fgi (μ := mu_tw_plainEntered) (pc := 217) fX11_44 q2680 dX11_plainEntered_217 hM.1 (fun hr35 => ?_)
  refine x_iload_n (μ := mu_tw_plainEntered) (pc := 220) 0 dX11_plainEntered_220 rfl ?_
  refine x_isub (μ := mu_tw_plainEntered) (pc := 221) dX11_plainEntered_221 ?_
  refine x_bipush (μ := mu_tw_plainEntered) (pc := 222) dX11_plainEntered_222 (by decide) ?_
  refine x_w2 ?_
  refine x_icmp_le (μ := mu_tw_plainEntered) (pc := 224) (tgt := 239) dX11_plainEntered_224 rfl (w32_rng _) (by decide) ?_ ?_
  · refine x_aload_n (μ := mu_tw_plainEntered) (pc := 239) 1 dX11_plainEntered_239 rfl ?_
    refine x_iload_n (μ := mu_tw_plainEntered) (pc := 240) 0 dX11_plainEntered_240 rfl ?_
    refine x_aload_n (μ := mu_tw_plainEntered) (pc := 241) 1 dX11_plainEntered_241 rfl ?_
    refine x_fgi (μ := mu_tw_plainEntered) (pc := 242) fX11_44 q2680 dX11_plainEntered_242 hM.1 (fun hr36 => ?_)
    refine x_callV_mi (μ := mu_tw_plainEntered) (pc := 245) (ok_tw_kept (ω := ω) (l := l) (d := d - 1) (by omega) hM ht0 hr36) gRel_Tw gRel_Tw (fun _ q => q) q3093 q3095 qs103 q232 q3096 dX11_plainEntered_245 rfl hM.1 hy_tw_kept (by omega) (Nat.le_of_ble_eq_true rfl) rfl (Nat.le_of_ble_eq_true rfl) (fun x37 k39 hr38 => ?_)
    have hM40 : TM (x37.2) h := hM.tw k39
    refine x_istore (μ := mu_tw_plainEntered) (pc := 248) (lv' := [(4, vI (x37.1)), (3, vI t0), (0, vR h)]) dX11_plainEntered_248 (by decide) rfl ?_
    refine x_aload_n (μ := mu_tw_plainEntered) (pc := 250) 2 dX11_plainEntered_250 rfl ?_
    refine x_iconst (μ := mu_tw_plainEntered) (pc := 251) dX11_plainEntered_251 ?_
    refine x_lconst (μ := mu_tw_plainEntered) (pc := 252) dX11_plainEntered_252 ?_
    refine x_iload (μ := mu_tw_plainEntered) (pc := 253) 0 dX11_plainEntered_253 rfl ?_
    refine x_aload_n (μ := mu_tw_plainEntered) (pc := 255) 2 dX11_plainEntered_255 rfl ?_
    refine x_fgi (μ := mu_tw_plainEntered) (pc := 256) fX11_44 q2680 dX11_plainEntered_256 hM40.1 (fun hr41 => ?_)
    refine x_iload_n (μ := mu_tw_plainEntered) (pc := 259) 1 dX11_plainEntered_259 rfl ?_
    refine x_isub (μ := mu_tw_plainEntered) (pc := 260) dX11_plainEntered_260 ?_
    refine x_w1 ?_
    refine x_callV_mi (μ := mu_tw_plainEntered) (pc := 261) (ok_tw_plain (ω := ω) (l := l) (d := d - 1) (by omega) hM40 (by decide) (by decide) hr38 (w32_rng _)) gRel_Tw gRel_Tw (fun _ q => q) q3185 q3187 qs118 q232 q3188 dX11_plainEntered_261 rfl hM40.1 hy_tw_plain (by omega) (Nat.le_of_ble_eq_true rfl) rfl (Nat.le_of_ble_eq_true rfl) (fun x42 k44 hr43 => ?_)
    have hM45 : TM (x42.2) h := hM40.tw k44
    exact x_iret (μ := mu_tw_plainEntered) (pc := 264) dX11_plainEntered_264 rfl rfl (gRel_Tw.1 _) (show g32 (x42.1) from hr43)
  · refine x_aload_n (μ := mu_tw_plainEntered) (pc := 227) 1 dX11_plainEntered_227 rfl ?_
    refine x_bipush (μ := mu_tw_plainEntered) (pc := 228) dX11_plainEntered_228 (by decide) ?_
    refine x_iload_n (μ := mu_tw_plainEntered) (pc := 230) 0 dX11_plainEntered_230 rfl ?_
    refine x_bipush (μ := mu_tw_plainEntered) (pc := 231) dX11_plainEntered_231 (by decide) ?_
    refine x_iadd (μ := mu_tw_plainEntered) (pc := 233) dX11_plainEntered_233 ?_
    refine x_w1 ?_
    refine x_callV_mv (μ := mu_tw_plainEntered) (pc := 234) (ok_tw_fail (ω := ω) (l := l) (d := d - 1) (by omega) hM (by decide) (w32_rng _)) gRel_Tw gRel_Tw (fun _ q => q) q3079 q3081 qs100 q232 q3082 dX11_plainEntered_234 rfl hM.1 hy_tw_fail (by omega) (Nat.le_of_ble_eq_true rfl) rfl (Nat.le_of_ble_eq_true rfl) (fun x46 k47 => ?_)
    have hM48 : TM x46 h := hM.tw k47
    refine x_iconst (μ := mu_tw_plainEntered) (pc := 237) dX11_plainEntered_237 ?_
    exact x_iret (μ := mu_tw_plainEntered) (pc := 238) dX11_plainEntered_238 rfl rfl (gRel_Tw.1 _) (show g32 0 from (by decide))
def tw_plainEntered_j113 (N : Nat) (h : Nat) (v2 : Int) (t0 : Int) (s : gMem) : Option (Int × gMem) := (tw_numberFrom N h t0 (mI s h 44) s).bind (fun x54 => if v2 = 0 then (tw_plain h 1 x54 0 0 s).bind (fun x56 => some (x56.1, x56.2)) else (tw_plain h 1 (w64 (-x54)) 0 0 s).bind (fun x60 => some (x60.1, x60.2)))
set_option maxRecDepth 100000 in
theorem okj_tw_plainEntered_j113 {ω : gW} {l : Launch} {d : Nat} {N : Nat} {h : Nat} {σ0 : gMem} {s : gMem} {v2 : Int} {t0 : Int} (hdp : 6 ≤ d) (hM : TM s h) (hv2 : g32 v2) (ht0 : g32 t0) : GG (fun p : Int × gMem => (.inl (some (vI p.1)), p.2)) gTw ω l d mu_tw_plainEntered σ0 113 [(0, vR h), (2, vI v2)] [vI t0, vR h] s (tw_plainEntered_j113 N h v2 t0 s) := by
  unfold tw_plainEntered_j113
  refine x_aload_n (μ := mu_tw_plainEntered) (pc := 113) 0 dX11_plainEntered_113 rfl ?_
  refine x_fgi (μ := mu_tw_plainEntered) (pc := 114) fX11_44 q2680 dX11_plainEntered_114 hM.1 (fun hr53 => ?_)
  refine x_callV_pl (μ := mu_tw_plainEntered) (pc := 117) (ok_tw_numberFrom (ω := ω) (l := l) (d := d - 1) (by omega) hM ht0 hr53) gRel_Tw gRel_Tw (fun _ q => q) q3087 q3089 qs102 q232 q3090 dX11_plainEntered_117 rfl hM.1 hy_tw_numberFrom (by omega) (Nat.le_of_ble_eq_true rfl) rfl (Nat.le_of_ble_eq_true rfl) (fun x54 hr55 => ?_)
  refine x_lstore_n (μ := mu_tw_plainEntered) (pc := 120) (lv' := [(3, vL x54), (0, vR h), (2, vI v2)]) dX11_plainEntered_120 rfl (by decide) rfl ?_
  refine x_aload_n (μ := mu_tw_plainEntered) (pc := 121) 1 dX11_plainEntered_121 rfl ?_
  refine x_iconst (μ := mu_tw_plainEntered) (pc := 122) dX11_plainEntered_122 ?_
  refine x_iload_n (μ := mu_tw_plainEntered) (pc := 123) 2 dX11_plainEntered_123 rfl ?_
  refine x_if_eq (μ := mu_tw_plainEntered) (pc := 124) (tgt := 132) dX11_plainEntered_124 rfl hv2 ?_ ?_
  · refine x_lload_n (μ := mu_tw_plainEntered) (pc := 132) 0 dX11_plainEntered_132 rfl ?_
    refine x_iconst (μ := mu_tw_plainEntered) (pc := 133) dX11_plainEntered_133 ?_
    refine x_iconst (μ := mu_tw_plainEntered) (pc := 134) dX11_plainEntered_134 ?_
    refine x_callV_mi (μ := mu_tw_plainEntered) (pc := 135) (ok_tw_plain (ω := ω) (l := l) (d := d - 1) (by omega) hM (by decide) hr55 (by decide) (by decide)) gRel_Tw gRel_Tw (fun _ q => q) q3185 q3187 qs118 q232 q3188 dX11_plainEntered_135 rfl hM.1 hy_tw_plain (by omega) (Nat.le_of_ble_eq_true rfl) rfl (Nat.le_of_ble_eq_true rfl) (fun x56 k58 hr57 => ?_)
    have hM59 : TM (x56.2) h := hM.tw k58
    exact x_iret (μ := mu_tw_plainEntered) (pc := 138) dX11_plainEntered_138 rfl rfl (gRel_Tw.1 _) (show g32 (x56.1) from hr57)
  · refine x_lload_n (μ := mu_tw_plainEntered) (pc := 127) 0 dX11_plainEntered_127 rfl ?_
    refine x_lneg (μ := mu_tw_plainEntered) (pc := 128) dX11_plainEntered_128 ?_
    refine x_goto (μ := mu_tw_plainEntered) (pc := 129) (tgt := 133) dX11_plainEntered_129 rfl ?_
    refine x_iconst (μ := mu_tw_plainEntered) (pc := 133) dX11_plainEntered_133 ?_
    refine x_iconst (μ := mu_tw_plainEntered) (pc := 134) dX11_plainEntered_134 ?_
    refine x_stk (st2 := [vI 0, vI 0, vL (w64 (-x54)), vI 1, vR h]) (by simp only [List.map_cons, gval_w32, gval_w64]) ?_
    refine x_callV_mi (μ := mu_tw_plainEntered) (pc := 135) (ok_tw_plain (ω := ω) (l := l) (d := d - 1) (by omega) hM (by decide) (w64_rng _) (by decide) (by decide)) gRel_Tw gRel_Tw (fun _ q => q) q3185 q3187 qs118 q232 q3188 dX11_plainEntered_135 rfl hM.1 hy_tw_plain (by omega) (Nat.le_of_ble_eq_true rfl) rfl (Nat.le_of_ble_eq_true rfl) (fun x60 k62 hr61 => ?_)
    have hM63 : TM (x60.2) h := hM.tw k62
    exact x_iret (μ := mu_tw_plainEntered) (pc := 138) dX11_plainEntered_138 rfl rfl (gRel_Tw.1 _) (show g32 (x60.1) from hr61)
def tw_plainEntered_j94 (N : Nat) (h : Nat) (t0 : Int) (s : gMem) : Option (Int × gMem) := if t0 = 0 then tw_plainEntered_j113 N h t0 (mI s h 43) s else tw_plainEntered_j113 N h t0 (w32 ((mI s h 43) + 1)) s
set_option maxRecDepth 100000 in
theorem okj_tw_plainEntered_j94 {ω : gW} {l : Launch} {d : Nat} {N : Nat} {h : Nat} {σ0 : gMem} {s : gMem} {t0 : Int} (hdp : 6 ≤ d) (hM : TM s h) (ht0 : g32 t0) : GG (fun p : Int × gMem => (.inl (some (vI p.1)), p.2)) gTw ω l d mu_tw_plainEntered σ0 94 [(0, vR h)] [vI t0] s (tw_plainEntered_j94 N h t0 s) := by
  unfold tw_plainEntered_j94
  refine x_istore_n (μ := mu_tw_plainEntered) (pc := 94) (lv' := [(2, vI t0), (0, vR h)]) dX11_plainEntered_94 rfl (by decide) rfl ?_
  refine x_aload_n (μ := mu_tw_plainEntered) (pc := 95) 1 dX11_plainEntered_95 rfl ?_
  refine x_iload_n (μ := mu_tw_plainEntered) (pc := 96) 0 dX11_plainEntered_96 rfl ?_
  refine x_if_eq (μ := mu_tw_plainEntered) (pc := 97) (tgt := 109) dX11_plainEntered_97 rfl ht0 ?_ ?_
  · refine x_aload_n (μ := mu_tw_plainEntered) (pc := 109) 1 dX11_plainEntered_109 rfl ?_
    refine x_fgi (μ := mu_tw_plainEntered) (pc := 110) fX11_43 q2679 dX11_plainEntered_110 hM.1 (fun hr52 => ?_)
    refine x_loc (lv' := [(0, vR h), (2, vI t0)]) [1, 0] rfl ?_
    exact okj_tw_plainEntered_j113 hdp hM ht0 hr52
  · refine x_aload_n (μ := mu_tw_plainEntered) (pc := 100) 1 dX11_plainEntered_100 rfl ?_
    refine x_fgi (μ := mu_tw_plainEntered) (pc := 101) fX11_43 q2679 dX11_plainEntered_101 hM.1 (fun hr64 => ?_)
    refine x_iconst (μ := mu_tw_plainEntered) (pc := 104) dX11_plainEntered_104 ?_
    refine x_iadd (μ := mu_tw_plainEntered) (pc := 105) dX11_plainEntered_105 ?_
    refine x_goto (μ := mu_tw_plainEntered) (pc := 106) (tgt := 113) dX11_plainEntered_106 rfl ?_
    refine x_w1 ?_
    refine x_loc (lv' := [(0, vR h), (2, vI t0)]) [1, 0] rfl ?_
    exact okj_tw_plainEntered_j113 hdp hM ht0 (w32_rng _)
def tw_plainEntered (N : Nat) (h : Nat) (σ : gMem) : Option (Int × gMem) := tw_plainEntered_l5 N h (fun s9 => if 0 < mI s9 h 41 then some (0, s9) else if w32 ((mI s9 h 44) - (mI s9 h 43)) ≠ 0 then (tw_isNumber N h (mI s9 h 43) (mI s9 h 44) s9).bind (fun x16 => if x16 = 0 then (tw_isWord N h (mI s9 h 43) (w32 ((mI s9 h 44) - (mI s9 h 43))) (mR s9 0 101) s9).bind (fun x19 => if x19 ≠ 0 then tw_plainEntered_j171 N h x19  s9 else (tw_isWord N h (mI s9 h 43) (w32 ((mI s9 h 44) - (mI s9 h 43))) (mR s9 0 102) s9).bind (fun x30 => if x30 = 0 then if 0 ≤ (mI s9 h 43) ∧ (mI s9 h 43) < ((400 : Nat) : Int) then if mI s9 (h + 27) (mI s9 h 43).toNat ≠ 39 then tw_plainEntered_j215 N h (mI s9 h 43) s9 else tw_plainEntered_j215 N h (w32 ((mI s9 h 43) + 1)) s9 else none else tw_plainEntered_j171 N h x19  s9)) else if 0 ≤ (mI s9 h 43) ∧ (mI s9 h 43) < ((400 : Nat) : Int) then if mI s9 (h + 27) (mI s9 h 43).toNat ≠ 45 then tw_plainEntered_j94 N h 0 s9 else tw_plainEntered_j94 N h 1 s9 else none) else some (0, s9)) N (mI σ h 43) σ
set_option maxRecDepth 100000 in
theorem ok_tw_plainEntered {ω : gW} {l : Launch} {d : Nat} {N : Nat} {h : Nat} {σ : gMem} (hdp : 6 ≤ d) (hM : TM σ h) : gK (fun p : Int × gMem => (.inl (some (vI p.1)), p.2)) gTw ω l d mu_tw_plainEntered [vR h] σ (tw_plainEntered N h σ) := by
  refine gK.of hp_X11 (Nat.le_of_ble_eq_true rfl) ?_
  unfold tw_plainEntered
  refine x_aload_n (μ := mu_tw_plainEntered) (pc := 0) 0 dX11_plainEntered_0 rfl ?_
  refine x_fgi (μ := mu_tw_plainEntered) (pc := 1) fX11_43 q2679 dX11_plainEntered_1 hM.1 (fun hr1 => ?_)
  refine x_istore_n (μ := mu_tw_plainEntered) (pc := 4) (lv' := [(1, vI (mI σ h 43)), (0, vR h)]) dX11_plainEntered_4 rfl (by decide) rfl ?_
  refine x_loc (lv' := [(0, vR h), (1, vI (mI σ h 43))]) [1, 0] rfl ?_
  refine okl_tw_plainEntered_l5 hdp (fun s9 hM10 => ?_) N (mI σ h 43) σ hr1 hM
  refine x_aload_n (μ := mu_tw_plainEntered) (pc := 37) 0 dX11_plainEntered_37 rfl ?_
  refine x_fgi (μ := mu_tw_plainEntered) (pc := 38) fX11_44 q2680 dX11_plainEntered_38 hM10.1 (fun hr11 => ?_)
  refine x_aload_n (μ := mu_tw_plainEntered) (pc := 41) 0 dX11_plainEntered_41 rfl ?_
  refine x_fgi (μ := mu_tw_plainEntered) (pc := 42) fX11_43 q2679 dX11_plainEntered_42 hM10.1 (fun hr12 => ?_)
  refine x_isub (μ := mu_tw_plainEntered) (pc := 45) dX11_plainEntered_45 ?_
  refine x_w1 ?_
  refine x_istore_n (μ := mu_tw_plainEntered) (pc := 46) (lv' := [(1, vI (w32 ((mI s9 h 44) - (mI s9 h 43)))), (0, vR h)]) dX11_plainEntered_46 rfl (by decide) rfl ?_
  refine x_aload_n (μ := mu_tw_plainEntered) (pc := 47) 1 dX11_plainEntered_47 rfl ?_
  refine x_fgi (μ := mu_tw_plainEntered) (pc := 48) fX11_41 q2677 dX11_plainEntered_48 hM10.1 (fun hr13 => ?_)
  refine x_if_gt (μ := mu_tw_plainEntered) (pc := 51) (tgt := 58) dX11_plainEntered_51 rfl hr13 ?_ ?_
  · refine x_iconst (μ := mu_tw_plainEntered) (pc := 58) dX11_plainEntered_58 ?_
    exact x_iret (μ := mu_tw_plainEntered) (pc := 59) dX11_plainEntered_59 rfl rfl (gRel_Tw.1 _) (show g32 0 from (by decide))
  · refine x_iload_n (μ := mu_tw_plainEntered) (pc := 54) 0 dX11_plainEntered_54 rfl ?_
    refine x_if_ne (μ := mu_tw_plainEntered) (pc := 55) (tgt := 60) dX11_plainEntered_55 rfl (w32_rng _) ?_ ?_
    · refine x_aload_n (μ := mu_tw_plainEntered) (pc := 60) 1 dX11_plainEntered_60 rfl ?_
      refine x_aload_n (μ := mu_tw_plainEntered) (pc := 61) 1 dX11_plainEntered_61 rfl ?_
      refine x_fgi (μ := mu_tw_plainEntered) (pc := 62) fX11_43 q2679 dX11_plainEntered_62 hM10.1 (fun hr14 => ?_)
      refine x_aload_n (μ := mu_tw_plainEntered) (pc := 65) 1 dX11_plainEntered_65 rfl ?_
      refine x_fgi (μ := mu_tw_plainEntered) (pc := 66) fX11_44 q2680 dX11_plainEntered_66 hM10.1 (fun hr15 => ?_)
      refine x_callV_pi (μ := mu_tw_plainEntered) (pc := 69) (ok_tw_isNumber (ω := ω) (l := l) (d := d - 1) (by omega) hM10 hr14 hr15) gRel_Tw gRel_Tw (fun _ q => q) q3181 q3183 qs117 q232 q3184 dX11_plainEntered_69 rfl hM10.1 hy_tw_isNumber (by omega) (Nat.le_of_ble_eq_true rfl) rfl (Nat.le_of_ble_eq_true rfl) (fun x16 hr17 => ?_)
      refine x_if_eq (μ := mu_tw_plainEntered) (pc := 72) (tgt := 139) dX11_plainEntered_72 rfl hr17 ?_ ?_
      · refine x_aload_n (μ := mu_tw_plainEntered) (pc := 139) 1 dX11_plainEntered_139 rfl ?_
        refine x_aload_n (μ := mu_tw_plainEntered) (pc := 140) 1 dX11_plainEntered_140 rfl ?_
        refine x_fgi (μ := mu_tw_plainEntered) (pc := 141) fX11_43 q2679 dX11_plainEntered_141 hM10.1 (fun hr18 => ?_)
        refine x_iload_n (μ := mu_tw_plainEntered) (pc := 144) 0 dX11_plainEntered_144 rfl ?_
        refine x_ldcwS (μ := mu_tw_plainEntered) (pc := 145) (j := 101) (List.mem_of_getElem? (i := 8) rfl) dX11_plainEntered_145 ?_
        refine x_callV_pi (μ := mu_tw_plainEntered) (pc := 148) (ok_tw_isWord (ω := ω) (l := l) (d := d - 1) (by omega) hM10 hr18 (w32_rng _)) gRel_Tw gRel_Tw (fun _ q => q) q3033 q3035 qs89 q232 q3036 dX11_plainEntered_148 rfl hM10.1 hy_tw_isWord (by omega) (Nat.le_of_ble_eq_true rfl) rfl (Nat.le_of_ble_eq_true rfl) (fun x19 hr20 => ?_)
        refine x_istore_n (μ := mu_tw_plainEntered) (pc := 151) (lv' := [(2, vI x19), (1, vI (w32 ((mI s9 h 44) - (mI s9 h 43)))), (0, vR h)]) dX11_plainEntered_151 rfl (by decide) rfl ?_
        refine x_iload_n (μ := mu_tw_plainEntered) (pc := 152) 0 dX11_plainEntered_152 rfl ?_
        refine x_if_ne (μ := mu_tw_plainEntered) (pc := 153) (tgt := 171) dX11_plainEntered_153 rfl hr20 ?_ ?_
        · refine x_loc (lv' := [(0, vR h), (2, vI x19)]) [2, 0] rfl ?_
          exact okj_tw_plainEntered_j171 hdp hM10 hr20
        · refine x_aload_n (μ := mu_tw_plainEntered) (pc := 156) 2 dX11_plainEntered_156 rfl ?_
          refine x_aload_n (μ := mu_tw_plainEntered) (pc := 157) 2 dX11_plainEntered_157 rfl ?_
          refine x_fgi (μ := mu_tw_plainEntered) (pc := 158) fX11_43 q2679 dX11_plainEntered_158 hM10.1 (fun hr29 => ?_)
          refine x_iload_n (μ := mu_tw_plainEntered) (pc := 161) 1 dX11_plainEntered_161 rfl ?_
          refine x_ldcwS (μ := mu_tw_plainEntered) (pc := 162) (j := 102) (List.mem_of_getElem? (i := 12) rfl) dX11_plainEntered_162 ?_
          refine x_callV_pi (μ := mu_tw_plainEntered) (pc := 165) (ok_tw_isWord (ω := ω) (l := l) (d := d - 1) (by omega) hM10 hr29 (w32_rng _)) gRel_Tw gRel_Tw (fun _ q => q) q3033 q3035 qs89 q232 q3036 dX11_plainEntered_165 rfl hM10.1 hy_tw_isWord (by omega) (Nat.le_of_ble_eq_true rfl) rfl (Nat.le_of_ble_eq_true rfl) (fun x30 hr31 => ?_)
          refine x_if_eq (μ := mu_tw_plainEntered) (pc := 168) (tgt := 188) dX11_plainEntered_168 rfl hr31 ?_ ?_
          · refine x_aload_n (μ := mu_tw_plainEntered) (pc := 188) 2 dX11_plainEntered_188 rfl ?_
            refine x_fgrE (μ := mu_tw_plainEntered) (pc := 189) fX11_39 (Or.inr ⟨_, rfl⟩) q2675 (hM10.a39).1 dX11_plainEntered_189 hM10.1 ?_
            refine x_aload_n (μ := mu_tw_plainEntered) (pc := 192) 2 dX11_plainEntered_192 rfl ?_
            refine x_fgi (μ := mu_tw_plainEntered) (pc := 193) fX11_43 q2679 dX11_plainEntered_193 hM10.1 (fun hr32 => ?_)
            refine x_iald (μ := mu_tw_plainEntered) (pc := 196) dX11_plainEntered_196 (hM10.a39).2.1 (hM10.a39).2.2 (fun hr33 => ?_)
            refine x_bipush (μ := mu_tw_plainEntered) (pc := 197) dX11_plainEntered_197 (by decide) ?_
            refine x_icmp_ne (μ := mu_tw_plainEntered) (pc := 199) (tgt := 211) dX11_plainEntered_199 rfl hr33 (by decide) ?_ ?_
            · refine x_aload_n (μ := mu_tw_plainEntered) (pc := 211) 2 dX11_plainEntered_211 rfl ?_
              refine x_fgi (μ := mu_tw_plainEntered) (pc := 212) fX11_43 q2679 dX11_plainEntered_212 hM10.1 (fun hr34 => ?_)
              refine x_loc (lv' := [(0, vR h)]) [2] rfl ?_
              exact okj_tw_plainEntered_j215 hdp hM10 hr34
            · refine x_aload_n (μ := mu_tw_plainEntered) (pc := 202) 2 dX11_plainEntered_202 rfl ?_
              refine x_fgi (μ := mu_tw_plainEntered) (pc := 203) fX11_43 q2679 dX11_plainEntered_203 hM10.1 (fun hr49 => ?_)
              refine x_iconst (μ := mu_tw_plainEntered) (pc := 206) dX11_plainEntered_206 ?_
              refine x_iadd (μ := mu_tw_plainEntered) (pc := 207) dX11_plainEntered_207 ?_
              refine x_goto (μ := mu_tw_plainEntered) (pc := 208) (tgt := 215) dX11_plainEntered_208 rfl ?_
              refine x_w1 ?_
              refine x_loc (lv' := [(0, vR h)]) [2] rfl ?_
              exact okj_tw_plainEntered_j215 hdp hM10 (w32_rng _)
          · refine x_loc (lv' := [(0, vR h), (2, vI x19)]) [2, 0] rfl ?_
            exact okj_tw_plainEntered_j171 hdp hM10 hr20
      · refine x_aload_n (μ := mu_tw_plainEntered) (pc := 75) 1 dX11_plainEntered_75 rfl ?_
        refine x_fgrE (μ := mu_tw_plainEntered) (pc := 76) fX11_39 (Or.inr ⟨_, rfl⟩) q2675 (hM10.a39).1 dX11_plainEntered_76 hM10.1 ?_
        refine x_aload_n (μ := mu_tw_plainEntered) (pc := 79) 1 dX11_plainEntered_79 rfl ?_
        refine x_fgi (μ := mu_tw_plainEntered) (pc := 80) fX11_43 q2679 dX11_plainEntered_80 hM10.1 (fun hr50 => ?_)
        refine x_iald (μ := mu_tw_plainEntered) (pc := 83) dX11_plainEntered_83 (hM10.a39).2.1 (hM10.a39).2.2 (fun hr51 => ?_)
        refine x_bipush (μ := mu_tw_plainEntered) (pc := 84) dX11_plainEntered_84 (by decide) ?_
        refine x_icmp_ne (μ := mu_tw_plainEntered) (pc := 86) (tgt := 93) dX11_plainEntered_86 rfl hr51 (by decide) ?_ ?_
        · refine x_iconst (μ := mu_tw_plainEntered) (pc := 93) dX11_plainEntered_93 ?_
          refine x_loc (lv' := [(0, vR h)]) [1] rfl ?_
          exact okj_tw_plainEntered_j94 hdp hM10 (by decide)
        · refine x_iconst (μ := mu_tw_plainEntered) (pc := 89) dX11_plainEntered_89 ?_
          refine x_goto (μ := mu_tw_plainEntered) (pc := 90) (tgt := 94) dX11_plainEntered_90 rfl ?_
          refine x_loc (lv' := [(0, vR h)]) [1] rfl ?_
          exact okj_tw_plainEntered_j94 hdp hM10 (by decide)
    · refine x_iconst (μ := mu_tw_plainEntered) (pc := 58) dX11_plainEntered_58 ?_
      exact x_iret (μ := mu_tw_plainEntered) (pc := 59) dX11_plainEntered_59 rfl rfl (gRel_Tw.1 _) (show g32 0 from (by decide))
def tw_asked (h : Nat) (v1 : Int) (v2 : Int) (v3 : Int) (σ : gMem) : Option Int := (tw_isSheet h v1 σ).bind (fun x1 => if x1 = 0 then some (-1) else (tw_sheetAt v1 σ).bind (fun x3 => (tw_isCell h x3 v2 v3 σ).bind (fun x5 => if x5 ≠ 0 then (tw_sheetAt v1 σ).bind (fun x7 => some (w32 ((((320 * x7) + (10 * (v2 - 1))) + v3) - 1))) else some (-1))))
set_option maxRecDepth 100000 in
theorem ok_tw_asked {ω : gW} {l : Launch} {d : Nat} {h : Nat} {σ : gMem} {v1 : Int} {v2 : Int} {v3 : Int} (hdp : 2 ≤ d) (hM : TM σ h) (hv1 : g32 v1) (hv2 : g32 v2) (hv3 : g32 v3) : gK (fun x : Int => (.inl (some (vI x)), σ)) gTw ω l d mu_tw_asked [vR h, vI v1, vI v2, vI v3] σ (tw_asked h v1 v2 v3 σ) := by
  refine gK.of hp_X11 (Nat.le_of_ble_eq_true rfl) ?_
  unfold tw_asked
  refine x_aload_n (μ := mu_tw_asked) (pc := 0) 0 dX11_asked_0 rfl ?_
  refine x_iload_n (μ := mu_tw_asked) (pc := 1) 1 dX11_asked_1 rfl ?_
  refine x_callV_pi (μ := mu_tw_asked) (pc := 2) (ok_tw_isSheet (ω := ω) (l := l) (d := d - 1) (by omega) hM hv1) gRel_Tw gRel_Tw (fun _ q => q) q3211 q3213 qs122 q232 q3214 dX11_asked_2 rfl hM.1 hy_tw_isSheet (by omega) (Nat.le_of_ble_eq_true rfl) rfl (Nat.le_of_ble_eq_true rfl) (fun x1 hr2 => ?_)
  refine x_if_eq (μ := mu_tw_asked) (pc := 5) (tgt := 21) dX11_asked_5 rfl hr2 ?_ ?_
  · refine x_iconst (μ := mu_tw_asked) (pc := 21) dX11_asked_21 ?_
    exact x_iret (μ := mu_tw_asked) (pc := 22) dX11_asked_22 rfl rfl (gRel_Tw.1 _) (show g32 (-1) from (by decide))
  · refine x_aload_n (μ := mu_tw_asked) (pc := 8) 0 dX11_asked_8 rfl ?_
    refine x_iload_n (μ := mu_tw_asked) (pc := 9) 1 dX11_asked_9 rfl ?_
    refine x_callS_pi (μ := mu_tw_asked) (pc := 10) (ok_tw_sheetAt (ω := ω) (l := l) (d := d - 1) (by omega) hv1) gRel_Tw gRel_Tw (fun _ q => q) q3215 q3216 q232 q3217 dX11_asked_10 hy_tw_sheetAt (by omega) (Nat.le_of_ble_eq_true rfl) rfl (Nat.le_of_ble_eq_true rfl) (fun x3 hr4 => ?_)
    refine x_iload_n (μ := mu_tw_asked) (pc := 13) 2 dX11_asked_13 rfl ?_
    refine x_iload_n (μ := mu_tw_asked) (pc := 14) 3 dX11_asked_14 rfl ?_
    refine x_callV_pi (μ := mu_tw_asked) (pc := 15) (ok_tw_isCell (ω := ω) (l := l) (d := d - 1) (by omega) hM hr4 hv2 hv3) gRel_Tw gRel_Tw (fun _ q => q) q2987 q2989 qs80 q232 q2990 dX11_asked_15 rfl hM.1 hy_tw_isCell (by omega) (Nat.le_of_ble_eq_true rfl) rfl (Nat.le_of_ble_eq_true rfl) (fun x5 hr6 => ?_)
    refine x_if_ne (μ := mu_tw_asked) (pc := 18) (tgt := 23) dX11_asked_18 rfl hr6 ?_ ?_
    · refine x_sipush (μ := mu_tw_asked) (pc := 23) dX11_asked_23 (by decide) ?_
      refine x_iload_n (μ := mu_tw_asked) (pc := 26) 1 dX11_asked_26 rfl ?_
      refine x_callS_pi (μ := mu_tw_asked) (pc := 27) (ok_tw_sheetAt (ω := ω) (l := l) (d := d - 1) (by omega) hv1) gRel_Tw gRel_Tw (fun _ q => q) q3215 q3216 q232 q3217 dX11_asked_27 hy_tw_sheetAt (by omega) (Nat.le_of_ble_eq_true rfl) rfl (Nat.le_of_ble_eq_true rfl) (fun x7 hr8 => ?_)
      refine x_imul (μ := mu_tw_asked) (pc := 30) dX11_asked_30 ?_
      refine x_bipush (μ := mu_tw_asked) (pc := 31) dX11_asked_31 (by decide) ?_
      refine x_iload_n (μ := mu_tw_asked) (pc := 33) 2 dX11_asked_33 rfl ?_
      refine x_iconst (μ := mu_tw_asked) (pc := 34) dX11_asked_34 ?_
      refine x_isub (μ := mu_tw_asked) (pc := 35) dX11_asked_35 ?_
      refine x_imul (μ := mu_tw_asked) (pc := 36) dX11_asked_36 ?_
      refine x_iadd (μ := mu_tw_asked) (pc := 37) dX11_asked_37 ?_
      refine x_iload_n (μ := mu_tw_asked) (pc := 38) 3 dX11_asked_38 rfl ?_
      refine x_iadd (μ := mu_tw_asked) (pc := 39) dX11_asked_39 ?_
      refine x_iconst (μ := mu_tw_asked) (pc := 40) dX11_asked_40 ?_
      refine x_isub (μ := mu_tw_asked) (pc := 41) dX11_asked_41 ?_
      refine x_w1 ?_
      exact x_iret (μ := mu_tw_asked) (pc := 42) dX11_asked_42 rfl rfl (gRel_Tw.1 _) (show g32 (w32 ((((320 * x7) + (10 * (v2 - 1))) + v3) - 1)) from (w32_rng _))
    · refine x_iconst (μ := mu_tw_asked) (pc := 21) dX11_asked_21 ?_
      exact x_iret (μ := mu_tw_asked) (pc := 22) dX11_asked_22 rfl rfl (gRel_Tw.1 _) (show g32 (-1) from (by decide))
def tw_placeOf_l3 (N : Nat) (h : Nat) (σ : gMem) (v1 : Int) (v2 : Int) (v3 : Int) (K : Option Int) : Nat → Int → Option Int
  | 0, _ => none
  | n + 1, v4 => (tw_linesOf h v1 v2 σ).bind (fun x1 => if x1 ≤ v4 then K else (tw_lineAt h v1 v2 v4 σ).bind (fun x3 => if x3 ≠ v3 then tw_placeOf_l3 N h σ v1 v2 v3 K n (w32 (v4 + 1)) else some v4))
set_option maxRecDepth 100000 in
theorem okl_tw_placeOf_l3 {ω : gW} {l : Launch} {d : Nat} {N : Nat} {h : Nat} {σ : gMem} {v1 : Int} {v2 : Int} {v3 : Int} {K : Option Int} (hdp : 1 ≤ d) (hM : TM σ h) (hv1 : g32 v1) (hv2 : g32 v2) (hv3 : g32 v3) (hK : GG (fun x : Int => (.inl (some (vI x)), σ)) gTw ω l d mu_tw_placeOf σ 35 [] [] σ (K)) : ∀ (n : Nat) (v4 : Int) , g32 v4 → GG (fun x : Int => (.inl (some (vI x)), σ)) gTw ω l d mu_tw_placeOf σ 3 [(0, vR h), (1, vI v1), (2, vI v2), (3, vI v3), (4, vI v4)] [] σ (tw_placeOf_l3 N h σ v1 v2 v3 K n v4) := by
  intro n
  induction n with
  | zero => intros; exact x_none
  | succ n ih =>
    intro v4 hv4
    unfold tw_placeOf_l3
    refine x_iload (μ := mu_tw_placeOf) (pc := 3) 4 dX11_placeOf_3 rfl ?_
    refine x_aload_n (μ := mu_tw_placeOf) (pc := 5) 0 dX11_placeOf_5 rfl ?_
    refine x_iload_n (μ := mu_tw_placeOf) (pc := 6) 1 dX11_placeOf_6 rfl ?_
    refine x_iload_n (μ := mu_tw_placeOf) (pc := 7) 2 dX11_placeOf_7 rfl ?_
    refine x_callV_pi (μ := mu_tw_placeOf) (pc := 8) (ok_tw_linesOf (ω := ω) (l := l) (d := d - 1) (by omega) hM hv1 hv2) gRel_Tw gRel_Tw (fun _ q => q) q3245 q3247 qs129 q232 q3248 dX11_placeOf_8 rfl hM.1 hy_tw_linesOf (by omega) (Nat.le_of_ble_eq_true rfl) rfl (Nat.le_of_ble_eq_true rfl) (fun x1 hr2 => ?_)
    refine x_icmp_ge (μ := mu_tw_placeOf) (pc := 11) (tgt := 35) dX11_placeOf_11 rfl hv4 hr2 ?_ ?_
    · refine x_loc (lv' := []) [] rfl ?_
      exact hK
    · refine x_aload_n (μ := mu_tw_placeOf) (pc := 14) 0 dX11_placeOf_14 rfl ?_
      refine x_iload_n (μ := mu_tw_placeOf) (pc := 15) 1 dX11_placeOf_15 rfl ?_
      refine x_iload_n (μ := mu_tw_placeOf) (pc := 16) 2 dX11_placeOf_16 rfl ?_
      refine x_iload (μ := mu_tw_placeOf) (pc := 17) 4 dX11_placeOf_17 rfl ?_
      refine x_callV_pi (μ := mu_tw_placeOf) (pc := 19) (ok_tw_lineAt (ω := ω) (l := l) (d := d - 1) (by omega) hM hv1 hv2 hv4) gRel_Tw gRel_Tw (fun _ q => q) q3148 q3150 qs111 q232 q3151 dX11_placeOf_19 rfl hM.1 hy_tw_lineAt (by omega) (Nat.le_of_ble_eq_true rfl) rfl (Nat.le_of_ble_eq_true rfl) (fun x3 hr4 => ?_)
      refine x_iload_n (μ := mu_tw_placeOf) (pc := 22) 3 dX11_placeOf_22 rfl ?_
      refine x_icmp_ne (μ := mu_tw_placeOf) (pc := 23) (tgt := 29) dX11_placeOf_23 rfl hr4 hv3 ?_ ?_
      · refine x_iincw (μ := mu_tw_placeOf) (pc := 29) (lv' := [(4, vI (w32 (v4 + 1))), (0, vR h), (1, vI v1), (2, vI v2), (3, vI v3)]) 4 dX11_placeOf_29 rfl (by decide) rfl ?_
        refine x_goto (μ := mu_tw_placeOf) (pc := 32) (tgt := 3) dX11_placeOf_32 rfl ?_
        refine x_loc (lv' := [(0, vR h), (1, vI v1), (2, vI v2), (3, vI v3), (4, vI (w32 (v4 + 1)))]) [1, 2, 3, 4, 0] rfl ?_
        exact ih (w32 (v4 + 1)) (w32_rng _)
      · refine x_iload (μ := mu_tw_placeOf) (pc := 26) 4 dX11_placeOf_26 rfl ?_
        exact x_iret (μ := mu_tw_placeOf) (pc := 28) dX11_placeOf_28 rfl rfl (gRel_Tw.1 _) (show g32 v4 from hv4)
def tw_placeOf (N : Nat) (h : Nat) (v1 : Int) (v2 : Int) (v3 : Int) (σ : gMem) : Option Int := tw_placeOf_l3 N h σ v1 v2 v3 (some (-1)) N 0
set_option maxRecDepth 100000 in
theorem ok_tw_placeOf {ω : gW} {l : Launch} {d : Nat} {N : Nat} {h : Nat} {σ : gMem} {v1 : Int} {v2 : Int} {v3 : Int} (hdp : 1 ≤ d) (hM : TM σ h) (hv1 : g32 v1) (hv2 : g32 v2) (hv3 : g32 v3) : gK (fun x : Int => (.inl (some (vI x)), σ)) gTw ω l d mu_tw_placeOf [vR h, vI v1, vI v2, vI v3] σ (tw_placeOf N h v1 v2 v3 σ) := by
  refine gK.of hp_X11 (Nat.le_of_ble_eq_true rfl) ?_
  unfold tw_placeOf
  refine x_iconst (μ := mu_tw_placeOf) (pc := 0) dX11_placeOf_0 ?_
  refine x_istore (μ := mu_tw_placeOf) (pc := 1) (lv' := [(4, vI 0), (0, vR h), (1, vI v1), (2, vI v2), (3, vI v3)]) dX11_placeOf_1 (by decide) rfl ?_
  refine x_loc (lv' := [(0, vR h), (1, vI v1), (2, vI v2), (3, vI v3), (4, vI 0)]) [1, 2, 3, 4, 0] rfl ?_
  refine okl_tw_placeOf_l3 hdp hM hv1 hv2 hv3 ?_ N 0 (by decide)
  refine x_iconst (μ := mu_tw_placeOf) (pc := 35) dX11_placeOf_35 ?_
  exact x_iret (μ := mu_tw_placeOf) (pc := 36) dX11_placeOf_36 rfl rfl (gRel_Tw.1 _) (show g32 (-1) from (by decide))
def tw_area (N : Nat) (h : Nat) (v1 : Int) (v2 : Int) (σ : gMem) : Option (Int × gMem) := if 0 ≤ v1 ∧ v1 < ((60420 : Nat) : Int) then if mI σ (h + 14) v1.toNat = 6 then (tw_sheetOf h v1 v2 σ).bind (fun x2 => if 0 ≤ v1 ∧ v1 < ((60420 : Nat) : Int) then (tw_placeOf N h x2 0 (mI σ (h + 20) v1.toNat) σ).bind (fun x5 => if 0 ≤ v1 ∧ v1 < ((60420 : Nat) : Int) then (tw_placeOf N h x2 1 (mI σ (h + 21) v1.toNat) σ).bind (fun x8 => if 0 ≤ v1 ∧ v1 < ((60420 : Nat) : Int) then (tw_placeOf N h x2 0 (mI σ (h + 22) v1.toNat) σ).bind (fun x11 => if 0 ≤ v1 ∧ v1 < ((60420 : Nat) : Int) then (tw_placeOf N h x2 1 (mI σ (h + 23) v1.toNat) σ).bind (fun x14 => gLet (wI σ h 71 x2) (fun s16 => (tw_least x5 x11 s16).bind (fun x19 => gLet (wI s16 h 72 x19) (fun s21 => (tw_most x5 x11 s21).bind (fun x24 => gLet (wI s21 h 73 x24) (fun s26 => (tw_least x8 x14 s26).bind (fun x29 => gLet (wI s26 h 74 x29) (fun s31 => (tw_most x8 x14 s31).bind (fun x34 => gLet (wI s31 h 75 x34) (fun s36 => if x5 < 0 then some (0, s36) else if x8 < 0 then some (0, s36) else if x11 < 0 then some (0, s36) else if x14 < 0 then some (0, s36) else some (1, s36))))))))))) else none) else none) else none) else none) else some (0, σ) else none
set_option maxRecDepth 100000 in
theorem ok_tw_area {ω : gW} {l : Launch} {d : Nat} {N : Nat} {h : Nat} {σ : gMem} {v1 : Int} {v2 : Int} (hdp : 2 ≤ d) (hM : TM σ h) (hv1 : g32 v1) (hv2 : g32 v2) : gK (fun p : Int × gMem => (.inl (some (vI p.1)), p.2)) gTw ω l d mu_tw_area [vR h, vI v1, vI v2] σ (tw_area N h v1 v2 σ) := by
  refine gK.of hp_X11 (Nat.le_of_ble_eq_true rfl) ?_
  unfold tw_area
  refine x_aload_n (μ := mu_tw_area) (pc := 0) 0 dX11_area_0 rfl ?_
  refine x_fgrE (μ := mu_tw_area) (pc := 1) fX11_26 (Or.inr ⟨_, rfl⟩) q2662 (hM.a26).1 dX11_area_1 hM.1 ?_
  refine x_iload_n (μ := mu_tw_area) (pc := 4) 1 dX11_area_4 rfl ?_
  refine x_iald (μ := mu_tw_area) (pc := 5) dX11_area_5 (hM.a26).2.1 (hM.a26).2.2 (fun hr1 => ?_)
  refine x_bipush (μ := mu_tw_area) (pc := 6) dX11_area_6 (by decide) ?_
  refine x_icmp_eq (μ := mu_tw_area) (pc := 8) (tgt := 13) dX11_area_8 rfl hr1 (by decide) ?_ ?_
  · refine x_aload_n (μ := mu_tw_area) (pc := 13) 0 dX11_area_13 rfl ?_
    refine x_iload_n (μ := mu_tw_area) (pc := 14) 1 dX11_area_14 rfl ?_
    refine x_iload_n (μ := mu_tw_area) (pc := 15) 2 dX11_area_15 rfl ?_
    refine x_callV_pi (μ := mu_tw_area) (pc := 16) (ok_tw_sheetOf (ω := ω) (l := l) (d := d - 1) (by omega) hM hv1 hv2) gRel_Tw gRel_Tw (fun _ q => q) q3237 q3239 qs127 q232 q3240 dX11_area_16 rfl hM.1 hy_tw_sheetOf (by omega) (Nat.le_of_ble_eq_true rfl) rfl (Nat.le_of_ble_eq_true rfl) (fun x2 hr3 => ?_)
    refine x_istore_n (μ := mu_tw_area) (pc := 19) (lv' := [(3, vI x2), (0, vR h), (1, vI v1), (2, vI v2)]) dX11_area_19 rfl (by decide) rfl ?_
    refine x_aload_n (μ := mu_tw_area) (pc := 20) 1 dX11_area_20 rfl ?_
    refine x_iload_n (μ := mu_tw_area) (pc := 21) 0 dX11_area_21 rfl ?_
    refine x_iconst (μ := mu_tw_area) (pc := 22) dX11_area_22 ?_
    refine x_aload_n (μ := mu_tw_area) (pc := 23) 1 dX11_area_23 rfl ?_
    refine x_fgrE (μ := mu_tw_area) (pc := 24) fX11_32 (Or.inr ⟨_, rfl⟩) q2668 (hM.a32).1 dX11_area_24 hM.1 ?_
    refine x_iload_n (μ := mu_tw_area) (pc := 27) 2 dX11_area_27 rfl ?_
    refine x_iald (μ := mu_tw_area) (pc := 28) dX11_area_28 (hM.a32).2.1 (hM.a32).2.2 (fun hr4 => ?_)
    refine x_callV_pi (μ := mu_tw_area) (pc := 29) (ok_tw_placeOf (ω := ω) (l := l) (d := d - 1) (by omega) hM hr3 (by decide) hr4) gRel_Tw gRel_Tw (fun _ q => q) q3241 q3243 qs128 q232 q3244 dX11_area_29 rfl hM.1 hy_tw_placeOf (by omega) (Nat.le_of_ble_eq_true rfl) rfl (Nat.le_of_ble_eq_true rfl) (fun x5 hr6 => ?_)
    refine x_istore (μ := mu_tw_area) (pc := 32) (lv' := [(4, vI x5), (3, vI x2), (0, vR h), (1, vI v1), (2, vI v2)]) dX11_area_32 (by decide) rfl ?_
    refine x_aload_n (μ := mu_tw_area) (pc := 34) 2 dX11_area_34 rfl ?_
    refine x_iload_n (μ := mu_tw_area) (pc := 35) 1 dX11_area_35 rfl ?_
    refine x_iconst (μ := mu_tw_area) (pc := 36) dX11_area_36 ?_
    refine x_aload_n (μ := mu_tw_area) (pc := 37) 2 dX11_area_37 rfl ?_
    refine x_fgrE (μ := mu_tw_area) (pc := 38) fX11_33 (Or.inr ⟨_, rfl⟩) q2669 (hM.a33).1 dX11_area_38 hM.1 ?_
    refine x_iload_n (μ := mu_tw_area) (pc := 41) 3 dX11_area_41 rfl ?_
    refine x_iald (μ := mu_tw_area) (pc := 42) dX11_area_42 (hM.a33).2.1 (hM.a33).2.2 (fun hr7 => ?_)
    refine x_callV_pi (μ := mu_tw_area) (pc := 43) (ok_tw_placeOf (ω := ω) (l := l) (d := d - 1) (by omega) hM hr3 (by decide) hr7) gRel_Tw gRel_Tw (fun _ q => q) q3241 q3243 qs128 q232 q3244 dX11_area_43 rfl hM.1 hy_tw_placeOf (by omega) (Nat.le_of_ble_eq_true rfl) rfl (Nat.le_of_ble_eq_true rfl) (fun x8 hr9 => ?_)
    refine x_istore (μ := mu_tw_area) (pc := 46) (lv' := [(5, vI x8), (4, vI x5), (3, vI x2), (0, vR h), (1, vI v1), (2, vI v2)]) dX11_area_46 (by decide) rfl ?_
    refine x_aload_n (μ := mu_tw_area) (pc := 48) 3 dX11_area_48 rfl ?_
    refine x_iload_n (μ := mu_tw_area) (pc := 49) 2 dX11_area_49 rfl ?_
    refine x_iconst (μ := mu_tw_area) (pc := 50) dX11_area_50 ?_
    refine x_aload_n (μ := mu_tw_area) (pc := 51) 3 dX11_area_51 rfl ?_
    refine x_fgrE (μ := mu_tw_area) (pc := 52) fX11_34 (Or.inr ⟨_, rfl⟩) q2670 (hM.a34).1 dX11_area_52 hM.1 ?_
    refine x_iload_n (μ := mu_tw_area) (pc := 55) 4 dX11_area_55 rfl ?_
    refine x_iald (μ := mu_tw_area) (pc := 56) dX11_area_56 (hM.a34).2.1 (hM.a34).2.2 (fun hr10 => ?_)
    refine x_callV_pi (μ := mu_tw_area) (pc := 57) (ok_tw_placeOf (ω := ω) (l := l) (d := d - 1) (by omega) hM hr3 (by decide) hr10) gRel_Tw gRel_Tw (fun _ q => q) q3241 q3243 qs128 q232 q3244 dX11_area_57 rfl hM.1 hy_tw_placeOf (by omega) (Nat.le_of_ble_eq_true rfl) rfl (Nat.le_of_ble_eq_true rfl) (fun x11 hr12 => ?_)
    refine x_istore (μ := mu_tw_area) (pc := 60) (lv' := [(6, vI x11), (5, vI x8), (4, vI x5), (3, vI x2), (0, vR h), (1, vI v1), (2, vI v2)]) dX11_area_60 (by decide) rfl ?_
    refine x_aload_n (μ := mu_tw_area) (pc := 62) 4 dX11_area_62 rfl ?_
    refine x_iload_n (μ := mu_tw_area) (pc := 63) 3 dX11_area_63 rfl ?_
    refine x_iconst (μ := mu_tw_area) (pc := 64) dX11_area_64 ?_
    refine x_aload_n (μ := mu_tw_area) (pc := 65) 4 dX11_area_65 rfl ?_
    refine x_fgrE (μ := mu_tw_area) (pc := 66) fX11_35 (Or.inr ⟨_, rfl⟩) q2671 (hM.a35).1 dX11_area_66 hM.1 ?_
    refine x_iload_n (μ := mu_tw_area) (pc := 69) 5 dX11_area_69 rfl ?_
    refine x_iald (μ := mu_tw_area) (pc := 70) dX11_area_70 (hM.a35).2.1 (hM.a35).2.2 (fun hr13 => ?_)
    refine x_callV_pi (μ := mu_tw_area) (pc := 71) (ok_tw_placeOf (ω := ω) (l := l) (d := d - 1) (by omega) hM hr3 (by decide) hr13) gRel_Tw gRel_Tw (fun _ q => q) q3241 q3243 qs128 q232 q3244 dX11_area_71 rfl hM.1 hy_tw_placeOf (by omega) (Nat.le_of_ble_eq_true rfl) rfl (Nat.le_of_ble_eq_true rfl) (fun x14 hr15 => ?_)
    refine x_istore (μ := mu_tw_area) (pc := 74) (lv' := [(7, vI x14), (6, vI x11), (5, vI x8), (4, vI x5), (3, vI x2), (0, vR h), (1, vI v1), (2, vI v2)]) dX11_area_74 (by decide) rfl ?_
    refine x_aload_n (μ := mu_tw_area) (pc := 76) 5 dX11_area_76 rfl ?_
    refine x_iload_n (μ := mu_tw_area) (pc := 77) 4 dX11_area_77 rfl ?_
    refine x_fpi (μ := mu_tw_area) (pc := 78) fX11_71 q2707 dX11_area_78 hM.1 (fun _ q => gTw_wI q) ?_
    refine x_let (fun s16 e17 => ?_)
    have hM18 := TM.eI e17 hM
    refine x_aload_n (μ := mu_tw_area) (pc := 81) 5 dX11_area_81 rfl ?_
    refine x_iload (μ := mu_tw_area) (pc := 82) 3 dX11_area_82 rfl ?_
    refine x_iload (μ := mu_tw_area) (pc := 84) 1 dX11_area_84 rfl ?_
    refine x_callS_pi (μ := mu_tw_area) (pc := 86) (ok_tw_least (ω := ω) (l := l) (d := d - 1) (by omega) hr6 hr12) gRel_Tw gRel_Tw (fun _ q => q) q3257 q3258 q232 q3259 dX11_area_86 hy_tw_least (by omega) (Nat.le_of_ble_eq_true rfl) rfl (Nat.le_of_ble_eq_true rfl) (fun x19 hr20 => ?_)
    refine x_fpi (μ := mu_tw_area) (pc := 89) fX11_72 q2708 dX11_area_89 hM18.1 (fun _ q => gTw_wI q) ?_
    refine x_let (fun s21 e22 => ?_)
    have hM23 := TM.eI e22 hM18
    refine x_aload_n (μ := mu_tw_area) (pc := 92) 5 dX11_area_92 rfl ?_
    refine x_iload (μ := mu_tw_area) (pc := 93) 3 dX11_area_93 rfl ?_
    refine x_iload (μ := mu_tw_area) (pc := 95) 1 dX11_area_95 rfl ?_
    refine x_callS_pi (μ := mu_tw_area) (pc := 97) (ok_tw_most (ω := ω) (l := l) (d := d - 1) (by omega) hr6 hr12) gRel_Tw gRel_Tw (fun _ q => q) q3260 q3261 q232 q3262 dX11_area_97 hy_tw_most (by omega) (Nat.le_of_ble_eq_true rfl) rfl (Nat.le_of_ble_eq_true rfl) (fun x24 hr25 => ?_)
    refine x_fpi (μ := mu_tw_area) (pc := 100) fX11_73 q2709 dX11_area_100 hM23.1 (fun _ q => gTw_wI q) ?_
    refine x_let (fun s26 e27 => ?_)
    have hM28 := TM.eI e27 hM23
    refine x_aload_n (μ := mu_tw_area) (pc := 103) 5 dX11_area_103 rfl ?_
    refine x_iload (μ := mu_tw_area) (pc := 104) 2 dX11_area_104 rfl ?_
    refine x_iload (μ := mu_tw_area) (pc := 106) 0 dX11_area_106 rfl ?_
    refine x_callS_pi (μ := mu_tw_area) (pc := 108) (ok_tw_least (ω := ω) (l := l) (d := d - 1) (by omega) hr9 hr15) gRel_Tw gRel_Tw (fun _ q => q) q3257 q3258 q232 q3259 dX11_area_108 hy_tw_least (by omega) (Nat.le_of_ble_eq_true rfl) rfl (Nat.le_of_ble_eq_true rfl) (fun x29 hr30 => ?_)
    refine x_fpi (μ := mu_tw_area) (pc := 111) fX11_74 q2710 dX11_area_111 hM28.1 (fun _ q => gTw_wI q) ?_
    refine x_let (fun s31 e32 => ?_)
    have hM33 := TM.eI e32 hM28
    refine x_aload_n (μ := mu_tw_area) (pc := 114) 5 dX11_area_114 rfl ?_
    refine x_iload (μ := mu_tw_area) (pc := 115) 2 dX11_area_115 rfl ?_
    refine x_iload (μ := mu_tw_area) (pc := 117) 0 dX11_area_117 rfl ?_
    refine x_callS_pi (μ := mu_tw_area) (pc := 119) (ok_tw_most (ω := ω) (l := l) (d := d - 1) (by omega) hr9 hr15) gRel_Tw gRel_Tw (fun _ q => q) q3260 q3261 q232 q3262 dX11_area_119 hy_tw_most (by omega) (Nat.le_of_ble_eq_true rfl) rfl (Nat.le_of_ble_eq_true rfl) (fun x34 hr35 => ?_)
    refine x_fpi (μ := mu_tw_area) (pc := 122) fX11_75 q2711 dX11_area_122 hM33.1 (fun _ q => gTw_wI q) ?_
    refine x_let (fun s36 e37 => ?_)
    have hM38 := TM.eI e37 hM33
    refine x_iload (μ := mu_tw_area) (pc := 125) 3 dX11_area_125 rfl ?_
    refine x_if_lt (μ := mu_tw_area) (pc := 127) (tgt := 149) dX11_area_127 rfl hr6 ?_ ?_
    · refine x_iconst (μ := mu_tw_area) (pc := 149) dX11_area_149 ?_
      exact x_zret (μ := mu_tw_area) (pc := 150) dX11_area_150 rfl (by decide) rfl (gRel_Tw.1 _) (show g32 0 from (by decide))
    · refine x_iload (μ := mu_tw_area) (pc := 130) 2 dX11_area_130 rfl ?_
      refine x_if_lt (μ := mu_tw_area) (pc := 132) (tgt := 149) dX11_area_132 rfl hr9 ?_ ?_
      · refine x_iconst (μ := mu_tw_area) (pc := 149) dX11_area_149 ?_
        exact x_zret (μ := mu_tw_area) (pc := 150) dX11_area_150 rfl (by decide) rfl (gRel_Tw.1 _) (show g32 0 from (by decide))
      · refine x_iload (μ := mu_tw_area) (pc := 135) 1 dX11_area_135 rfl ?_
        refine x_if_lt (μ := mu_tw_area) (pc := 137) (tgt := 149) dX11_area_137 rfl hr12 ?_ ?_
        · refine x_iconst (μ := mu_tw_area) (pc := 149) dX11_area_149 ?_
          exact x_zret (μ := mu_tw_area) (pc := 150) dX11_area_150 rfl (by decide) rfl (gRel_Tw.1 _) (show g32 0 from (by decide))
        · refine x_iload (μ := mu_tw_area) (pc := 140) 0 dX11_area_140 rfl ?_
          refine x_if_lt (μ := mu_tw_area) (pc := 142) (tgt := 149) dX11_area_142 rfl hr15 ?_ ?_
          · refine x_iconst (μ := mu_tw_area) (pc := 149) dX11_area_149 ?_
            exact x_zret (μ := mu_tw_area) (pc := 150) dX11_area_150 rfl (by decide) rfl (gRel_Tw.1 _) (show g32 0 from (by decide))
          · refine x_iconst (μ := mu_tw_area) (pc := 145) dX11_area_145 ?_
            refine x_goto (μ := mu_tw_area) (pc := 146) (tgt := 150) dX11_area_146 rfl ?_
            exact x_zret (μ := mu_tw_area) (pc := 150) dX11_area_150 rfl (by decide) rfl (gRel_Tw.1 _) (show g32 1 from (by decide))
  · refine x_iconst (μ := mu_tw_area) (pc := 11) dX11_area_11 ?_
    exact x_zret (μ := mu_tw_area) (pc := 12) dX11_area_12 rfl (by decide) rfl (gRel_Tw.1 _) (show g32 0 from (by decide))
def tw_plainValue (N : Nat) (h : Nat) (v1 : Int) (v2 : Int) (σ : gMem) : Option gMem := if v1 ≠ 0 then if 0 ≤ (w32 (v1 - 100000)) ∧ (w32 (v1 - 100000)) < ((4200 : Nat) : Int) then if mI σ (h + 10) (w32 (v1 - 100000)).toNat ≠ 2 then if 0 ≤ (w32 (v1 - 100000)) ∧ (w32 (v1 - 100000)) < ((4200 : Nat) : Int) then if 0 ≤ (0 : Int) ∧ (0 : Int) < ((200 : Nat) : Int) then gLet (wI σ (h + 33) (0 : Int).toNat (mI σ (h + 10) (w32 (v1 - 100000)).toNat)) (fun s3 => if 0 ≤ (w32 (v1 - 100000)) ∧ (w32 (v1 - 100000)) < ((4200 : Nat) : Int) then if 0 ≤ (0 : Int) ∧ (0 : Int) < ((200 : Nat) : Int) then gLet (wL s3 (h + 34) (0 : Int).toNat (mL s3 (h + 11) (w32 (v1 - 100000)).toNat)) (fun s7 => (tw_store N h 0 v2 s7).bind (fun x10 => some x10)) else none else none) else none else none else if 0 ≤ (w32 (v1 - 100000)) ∧ (w32 (v1 - 100000)) < ((4200 : Nat) : Int) then if 0 ≤ (w32 (v1 - 100000)) ∧ (w32 (v1 - 100000)) < ((4200 : Nat) : Int) then (tw_text N h 0 (h + 9) (mI σ (h + 12) (w32 (v1 - 100000)).toNat) (mI σ (h + 13) (w32 (v1 - 100000)).toNat) σ).bind (fun x15 => (tw_store N h 0 v2 x15).bind (fun x18 => some x18)) else none else none else none else if 0 ≤ (0 : Int) ∧ (0 : Int) < ((200 : Nat) : Int) then gLet (wI σ (h + 33) (0 : Int).toNat 0) (fun s21 => if 0 ≤ (0 : Int) ∧ (0 : Int) < ((200 : Nat) : Int) then gLet (wL s21 (h + 34) (0 : Int).toNat (((0 : Fin 2) : Nat) : Int)) (fun s24 => (tw_store N h 0 v2 s24).bind (fun x27 => some x27)) else none) else none
set_option maxRecDepth 100000 in
theorem ok_tw_plainValue {ω : gW} {l : Launch} {d : Nat} {N : Nat} {h : Nat} {σ : gMem} {v1 : Int} {v2 : Int} (hdp : 1 ≤ d) (hM : TM σ h) (hv1 : g32 v1) (hv2 : g32 v2) : gK (fun p : gMem => (.inl none, p)) gTw ω l d mu_tw_plainValue [vR h, vI v1, vI v2] σ (tw_plainValue N h v1 v2 σ) := by
  refine gK.of hp_X11 (Nat.le_of_ble_eq_true rfl) ?_
  unfold tw_plainValue
  refine x_iload_n (μ := mu_tw_plainValue) (pc := 0) 1 dX11_plainValue_0 rfl ?_
  refine x_ldc (μ := mu_tw_plainValue) (pc := 1) (n := 100000) dX11_plainValue_1 q3189 ?_
  refine x_isub (μ := mu_tw_plainValue) (pc := 3) dX11_plainValue_3 ?_
  refine x_w1 ?_
  refine x_istore_n (μ := mu_tw_plainValue) (pc := 4) (lv' := [(3, vI (w32 (v1 - 100000))), (0, vR h), (1, vI v1), (2, vI v2)]) dX11_plainValue_4 rfl (by decide) rfl ?_
  refine x_iload_n (μ := mu_tw_plainValue) (pc := 5) 2 dX11_plainValue_5 rfl ?_
  refine x_if_ne (μ := mu_tw_plainValue) (pc := 6) (tgt := 26) dX11_plainValue_6 rfl hv1 ?_ ?_
  · refine x_aload_n (μ := mu_tw_plainValue) (pc := 26) 1 dX11_plainValue_26 rfl ?_
    refine x_fgrE (μ := mu_tw_plainValue) (pc := 27) fX11_20 (Or.inr ⟨_, rfl⟩) q2656 (hM.a20).1 dX11_plainValue_27 hM.1 ?_
    refine x_iload_n (μ := mu_tw_plainValue) (pc := 30) 0 dX11_plainValue_30 rfl ?_
    refine x_iald (μ := mu_tw_plainValue) (pc := 31) dX11_plainValue_31 (hM.a20).2.1 (hM.a20).2.2 (fun hr1 => ?_)
    refine x_iconst (μ := mu_tw_plainValue) (pc := 32) dX11_plainValue_32 ?_
    refine x_icmp_ne (μ := mu_tw_plainValue) (pc := 33) (tgt := 60) dX11_plainValue_33 rfl hr1 (by decide) ?_ ?_
    · refine x_aload_n (μ := mu_tw_plainValue) (pc := 60) 1 dX11_plainValue_60 rfl ?_
      refine x_fgrE (μ := mu_tw_plainValue) (pc := 61) fX11_66 (Or.inr ⟨_, rfl⟩) q2702 (hM.a66).1 dX11_plainValue_61 hM.1 ?_
      refine x_iconst (μ := mu_tw_plainValue) (pc := 64) dX11_plainValue_64 ?_
      refine x_aload_n (μ := mu_tw_plainValue) (pc := 65) 1 dX11_plainValue_65 rfl ?_
      refine x_fgrE (μ := mu_tw_plainValue) (pc := 66) fX11_20 (Or.inr ⟨_, rfl⟩) q2656 (hM.a20).1 dX11_plainValue_66 hM.1 ?_
      refine x_iload_n (μ := mu_tw_plainValue) (pc := 69) 0 dX11_plainValue_69 rfl ?_
      refine x_iald (μ := mu_tw_plainValue) (pc := 70) dX11_plainValue_70 (hM.a20).2.1 (hM.a20).2.2 (fun hr2 => ?_)
      refine x_iast (μ := mu_tw_plainValue) (pc := 71) dX11_plainValue_71 (hM.a66).2.1 (hM.a66).2.2 (fun _ _ q => gTw_wI q) ?_
      refine x_let (fun s3 e4 => ?_)
      have hM5 := TM.eI e4 hM
      refine x_aload_n (μ := mu_tw_plainValue) (pc := 72) 1 dX11_plainValue_72 rfl ?_
      refine x_fgrE (μ := mu_tw_plainValue) (pc := 73) fX11_67 (Or.inr ⟨_, rfl⟩) q2703 (hM5.a67).1 dX11_plainValue_73 hM5.1 ?_
      refine x_iconst (μ := mu_tw_plainValue) (pc := 76) dX11_plainValue_76 ?_
      refine x_aload_n (μ := mu_tw_plainValue) (pc := 77) 1 dX11_plainValue_77 rfl ?_
      refine x_fgrE (μ := mu_tw_plainValue) (pc := 78) fX11_21 (Or.inr ⟨_, rfl⟩) q2657 (hM5.a21).1 dX11_plainValue_78 hM5.1 ?_
      refine x_iload_n (μ := mu_tw_plainValue) (pc := 81) 0 dX11_plainValue_81 rfl ?_
      refine x_lald (μ := mu_tw_plainValue) (pc := 82) dX11_plainValue_82 (hM5.a21).2.1 (hM5.a21).2.2 (fun hr6 => ?_)
      refine x_last (μ := mu_tw_plainValue) (pc := 83) dX11_plainValue_83 (hM5.a67).2.1 (hM5.a67).2.2 (fun _ _ q => gTw_wL q) ?_
      refine x_let (fun s7 e8 => ?_)
      have hM9 := TM.eL e8 hM5
      refine x_aload_n (μ := mu_tw_plainValue) (pc := 84) 1 dX11_plainValue_84 rfl ?_
      refine x_iconst (μ := mu_tw_plainValue) (pc := 85) dX11_plainValue_85 ?_
      refine x_iload_n (μ := mu_tw_plainValue) (pc := 86) 3 dX11_plainValue_86 rfl ?_
      refine x_callV_mv (μ := mu_tw_plainValue) (pc := 87) (ok_tw_store (ω := ω) (l := l) (d := d - 1) (by omega) hM9 (by decide) hv2) gRel_Tw gRel_Tw (fun _ q => q) q3283 q3285 qs137 q232 q3286 dX11_plainValue_87 rfl hM9.1 hy_tw_store (by omega) (Nat.le_of_ble_eq_true rfl) rfl (Nat.le_of_ble_eq_true rfl) (fun x10 k11 => ?_)
      have hM12 : TM x10 h := hM9.tw k11
      exact x_vret (μ := mu_tw_plainValue) (pc := 90) (a1 := x10) dX11_plainValue_90 rfl rfl (gRel_Tw.1 _) trivial
    · refine x_aload_n (μ := mu_tw_plainValue) (pc := 36) 1 dX11_plainValue_36 rfl ?_
      refine x_iconst (μ := mu_tw_plainValue) (pc := 37) dX11_plainValue_37 ?_
      refine x_aload_n (μ := mu_tw_plainValue) (pc := 38) 1 dX11_plainValue_38 rfl ?_
      refine x_fgrE (μ := mu_tw_plainValue) (pc := 39) fX11_18 (Or.inr ⟨_, rfl⟩) q2654 (hM.a18).1 dX11_plainValue_39 hM.1 ?_
      refine x_aload_n (μ := mu_tw_plainValue) (pc := 42) 1 dX11_plainValue_42 rfl ?_
      refine x_fgrE (μ := mu_tw_plainValue) (pc := 43) fX11_22 (Or.inr ⟨_, rfl⟩) q2658 (hM.a22).1 dX11_plainValue_43 hM.1 ?_
      refine x_iload_n (μ := mu_tw_plainValue) (pc := 46) 0 dX11_plainValue_46 rfl ?_
      refine x_iald (μ := mu_tw_plainValue) (pc := 47) dX11_plainValue_47 (hM.a22).2.1 (hM.a22).2.2 (fun hr13 => ?_)
      refine x_aload_n (μ := mu_tw_plainValue) (pc := 48) 1 dX11_plainValue_48 rfl ?_
      refine x_fgrE (μ := mu_tw_plainValue) (pc := 49) fX11_23 (Or.inr ⟨_, rfl⟩) q2659 (hM.a23).1 dX11_plainValue_49 hM.1 ?_
      refine x_iload_n (μ := mu_tw_plainValue) (pc := 52) 0 dX11_plainValue_52 rfl ?_
      refine x_iald (μ := mu_tw_plainValue) (pc := 53) dX11_plainValue_53 (hM.a23).2.1 (hM.a23).2.2 (fun hr14 => ?_)
      refine x_callV_mv (μ := mu_tw_plainValue) (pc := 54) (ok_tw_text (ω := ω) (l := l) (d := d - 1) (by omega) hM (by decide) hr13 hr14) gRel_Tw gRel_Tw (fun _ q => q) q3279 q3281 qs136 q232 q3282 dX11_plainValue_54 rfl hM.1 hy_tw_text (by omega) (Nat.le_of_ble_eq_true rfl) rfl (Nat.le_of_ble_eq_true rfl) (fun x15 k16 => ?_)
      have hM17 : TM x15 h := hM.tw k16
      refine x_goto (μ := mu_tw_plainValue) (pc := 57) (tgt := 84) dX11_plainValue_57 rfl ?_
      refine x_aload_n (μ := mu_tw_plainValue) (pc := 84) 1 dX11_plainValue_84 rfl ?_
      refine x_iconst (μ := mu_tw_plainValue) (pc := 85) dX11_plainValue_85 ?_
      refine x_iload_n (μ := mu_tw_plainValue) (pc := 86) 3 dX11_plainValue_86 rfl ?_
      refine x_callV_mv (μ := mu_tw_plainValue) (pc := 87) (ok_tw_store (ω := ω) (l := l) (d := d - 1) (by omega) hM17 (by decide) hv2) gRel_Tw gRel_Tw (fun _ q => q) q3283 q3285 qs137 q232 q3286 dX11_plainValue_87 rfl hM17.1 hy_tw_store (by omega) (Nat.le_of_ble_eq_true rfl) rfl (Nat.le_of_ble_eq_true rfl) (fun x18 k19 => ?_)
      have hM20 : TM x18 h := hM17.tw k19
      exact x_vret (μ := mu_tw_plainValue) (pc := 90) (a1 := x18) dX11_plainValue_90 rfl rfl (gRel_Tw.1 _) trivial
  · refine x_aload_n (μ := mu_tw_plainValue) (pc := 9) 1 dX11_plainValue_9 rfl ?_
    refine x_fgrE (μ := mu_tw_plainValue) (pc := 10) fX11_66 (Or.inr ⟨_, rfl⟩) q2702 (hM.a66).1 dX11_plainValue_10 hM.1 ?_
    refine x_iconst (μ := mu_tw_plainValue) (pc := 13) dX11_plainValue_13 ?_
    refine x_iconst (μ := mu_tw_plainValue) (pc := 14) dX11_plainValue_14 ?_
    refine x_iast (μ := mu_tw_plainValue) (pc := 15) dX11_plainValue_15 (hM.a66).2.1 (hM.a66).2.2 (fun _ _ q => gTw_wI q) ?_
    refine x_let (fun s21 e22 => ?_)
    have hM23 := TM.eI e22 hM
    refine x_aload_n (μ := mu_tw_plainValue) (pc := 16) 1 dX11_plainValue_16 rfl ?_
    refine x_fgrE (μ := mu_tw_plainValue) (pc := 17) fX11_67 (Or.inr ⟨_, rfl⟩) q2703 (hM23.a67).1 dX11_plainValue_17 hM23.1 ?_
    refine x_iconst (μ := mu_tw_plainValue) (pc := 20) dX11_plainValue_20 ?_
    refine x_lconst (μ := mu_tw_plainValue) (pc := 21) dX11_plainValue_21 ?_
    refine x_last (μ := mu_tw_plainValue) (pc := 22) dX11_plainValue_22 (hM23.a67).2.1 (hM23.a67).2.2 (fun _ _ q => gTw_wL q) ?_
    refine x_let (fun s24 e25 => ?_)
    have hM26 := TM.eL e25 hM23
    refine x_goto (μ := mu_tw_plainValue) (pc := 23) (tgt := 84) dX11_plainValue_23 rfl ?_
    refine x_aload_n (μ := mu_tw_plainValue) (pc := 84) 1 dX11_plainValue_84 rfl ?_
    refine x_iconst (μ := mu_tw_plainValue) (pc := 85) dX11_plainValue_85 ?_
    refine x_iload_n (μ := mu_tw_plainValue) (pc := 86) 3 dX11_plainValue_86 rfl ?_
    refine x_callV_mv (μ := mu_tw_plainValue) (pc := 87) (ok_tw_store (ω := ω) (l := l) (d := d - 1) (by omega) hM26 (by decide) hv2) gRel_Tw gRel_Tw (fun _ q => q) q3283 q3285 qs137 q232 q3286 dX11_plainValue_87 rfl hM26.1 hy_tw_store (by omega) (Nat.le_of_ble_eq_true rfl) rfl (Nat.le_of_ble_eq_true rfl) (fun x27 k28 => ?_)
    have hM29 : TM x27 h := hM26.tw k28
    exact x_vret (μ := mu_tw_plainValue) (pc := 90) (a1 := x27) dX11_plainValue_90 rfl rfl (gRel_Tw.1 _) trivial
def tw_close_l2 (N : Nat) (h : Nat) (K : gMem → Option gMem) : Nat → Int → gMem → Option gMem
  | 0, _, _ => none
  | n + 1, v1, s => if 1600 ≤ v1 then K s else if 0 ≤ v1 ∧ v1 < ((1600 : Nat) : Int) then if 0 ≤ v1 ∧ v1 < ((1600 : Nat) : Int) then gLet (wL s (h + 39) v1.toNat (mL s (h + 38) v1.toNat)) (fun s2 => tw_close_l2 N h K n (w32 (v1 + 1)) s2) else none else none
set_option maxRecDepth 100000 in
theorem okl_tw_close_l2 {ω : gW} {l : Launch} {d : Nat} {N : Nat} {h : Nat} {σ0 : gMem} {K : gMem → Option gMem} (hdp : 1 ≤ d) (hK : ∀ (s : gMem) , TM s h → GG (fun p : gMem => (.inl none, p)) gTw ω l d mu_tw_close σ0 27 [(0, vR h)] [] s (K s)) : ∀ (n : Nat) (v1 : Int) (s : gMem) , g32 v1 → TM s h → GG (fun p : gMem => (.inl none, p)) gTw ω l d mu_tw_close σ0 2 [(0, vR h), (1, vI v1)] [] s (tw_close_l2 N h K n v1 s) := by
  intro n
  induction n with
  | zero => intros; exact x_none
  | succ n ih =>
    intro v1 s hv1 hM
    unfold tw_close_l2
    refine x_iload_n (μ := mu_tw_close) (pc := 2) 1 dX11_close_2 rfl ?_
    refine x_sipush (μ := mu_tw_close) (pc := 3) dX11_close_3 (by decide) ?_
    refine x_icmp_ge (μ := mu_tw_close) (pc := 6) (tgt := 27) dX11_close_6 rfl hv1 (by decide) ?_ ?_
    · refine x_loc (lv' := [(0, vR h)]) [0] rfl ?_
      exact hK s hM
    · refine x_aload_n (μ := mu_tw_close) (pc := 9) 0 dX11_close_9 rfl ?_
      refine x_fgrE (μ := mu_tw_close) (pc := 10) fX11_83 (Or.inr ⟨_, rfl⟩) q2719 (hM.a83).1 dX11_close_10 hM.1 ?_
      refine x_iload_n (μ := mu_tw_close) (pc := 13) 1 dX11_close_13 rfl ?_
      refine x_aload_n (μ := mu_tw_close) (pc := 14) 0 dX11_close_14 rfl ?_
      refine x_fgrE (μ := mu_tw_close) (pc := 15) fX11_82 (Or.inr ⟨_, rfl⟩) q2718 (hM.a82).1 dX11_close_15 hM.1 ?_
      refine x_iload_n (μ := mu_tw_close) (pc := 18) 1 dX11_close_18 rfl ?_
      refine x_lald (μ := mu_tw_close) (pc := 19) dX11_close_19 (hM.a82).2.1 (hM.a82).2.2 (fun hr1 => ?_)
      refine x_last (μ := mu_tw_close) (pc := 20) dX11_close_20 (hM.a83).2.1 (hM.a83).2.2 (fun _ _ q => gTw_wL q) ?_
      refine x_let (fun s2 e3 => ?_)
      have hM4 := TM.eL e3 hM
      refine x_iincw (μ := mu_tw_close) (pc := 21) (lv' := [(1, vI (w32 (v1 + 1))), (0, vR h)]) 1 dX11_close_21 rfl (by decide) rfl ?_
      refine x_goto (μ := mu_tw_close) (pc := 24) (tgt := 2) dX11_close_24 rfl ?_
      refine x_loc (lv' := [(0, vR h), (1, vI (w32 (v1 + 1)))]) [1, 0] rfl ?_
      exact ih (w32 (v1 + 1)) s2 (w32_rng _) hM4
def tw_close_l38_j93 (N : Nat) (h : Nat) (v1 : Int) (v2 : Int) (Kh : Int → gMem → Option gMem) (K : gMem → Option gMem) (s : gMem) : Option gMem := Kh (w32 (v2 + 1)) s
set_option maxRecDepth 100000 in
theorem okj_tw_close_l38_j93 {ω : gW} {l : Launch} {d : Nat} {N : Nat} {h : Nat} {σ0 : gMem} {s : gMem} {v1 : Int} {v2 : Int} {Kh : Int → gMem → Option gMem} {K : gMem → Option gMem} (hdp : 1 ≤ d) (hM : TM s h) (hv1 : g32 v1) (hv2 : g32 v2) (hKh : ∀ (v2 : Int) (s : gMem) , g32 v2 → TM s h → GG (fun p : gMem => (.inl none, p)) gTw ω l d mu_tw_close σ0 38 [(0, vR h), (1, vI v1), (2, vI v2)] [] s (Kh v2 s)) (hK : ∀ (s : gMem) , TM s h → GG (fun p : gMem => (.inl none, p)) gTw ω l d mu_tw_close σ0 99 [(0, vR h), (1, vI v1)] [] s (K s)) : GG (fun p : gMem => (.inl none, p)) gTw ω l d mu_tw_close σ0 93 [(0, vR h), (1, vI v1), (2, vI v2)] [] s (tw_close_l38_j93 N h v1 v2 Kh K s) := by
  unfold tw_close_l38_j93
  refine x_iincw (μ := mu_tw_close) (pc := 93) (lv' := [(2, vI (w32 (v2 + 1))), (0, vR h), (1, vI v1)]) 2 dX11_close_93 rfl (by decide) rfl ?_
  refine x_goto (μ := mu_tw_close) (pc := 96) (tgt := 38) dX11_close_96 rfl ?_
  refine x_loc (lv' := [(0, vR h), (1, vI v1), (2, vI (w32 (v2 + 1)))]) [1, 2, 0] rfl ?_
  exact hKh (w32 (v2 + 1)) s (w32_rng _) hM
def tw_close_l59 (N : Nat) (h : Nat) (v1 : Int) (v2 : Int) (K : gMem → Option gMem) : Nat → Int → gMem → Option gMem
  | 0, _, _ => none
  | n + 1, v3, s => if 5 ≤ v3 then K s else if 0 ≤ ((5 * v2) + v3) ∧ ((5 * v2) + v3) < ((1600 : Nat) : Int) then if 0 ≤ ((5 * v1) + v3) ∧ ((5 * v1) + v3) < ((1600 : Nat) : Int) then if 0 ≤ ((5 * v2) + v3) ∧ ((5 * v2) + v3) < ((1600 : Nat) : Int) then gLet (wL s (h + 39) ((5 * v2) + v3).toNat (lOr (mL s (h + 39) ((5 * v2) + v3).toNat) (mL s (h + 39) ((5 * v1) + v3).toNat))) (fun s11 => tw_close_l59 N h v1 v2 K n (w32 (v3 + 1)) s11) else none else none else none
set_option maxRecDepth 100000 in
theorem okl_tw_close_l59 {ω : gW} {l : Launch} {d : Nat} {N : Nat} {h : Nat} {σ0 : gMem} {v1 : Int} {v2 : Int} {K : gMem → Option gMem} (hdp : 1 ≤ d) (hv1 : g32 v1) (hv2 : g32 v2) (hK : ∀ (s : gMem) , TM s h → GG (fun p : gMem => (.inl none, p)) gTw ω l d mu_tw_close σ0 93 [(0, vR h), (1, vI v1), (2, vI v2)] [] s (K s)) : ∀ (n : Nat) (v3 : Int) (s : gMem) , g32 v3 → TM s h → GG (fun p : gMem => (.inl none, p)) gTw ω l d mu_tw_close σ0 59 [(0, vR h), (1, vI v1), (2, vI v2), (3, vI v3)] [] s (tw_close_l59 N h v1 v2 K n v3 s) := by
  intro n
  induction n with
  | zero => intros; exact x_none
  | succ n ih =>
    intro v3 s hv3 hM
    unfold tw_close_l59
    refine x_iload_n (μ := mu_tw_close) (pc := 59) 3 dX11_close_59 rfl ?_
    refine x_iconst (μ := mu_tw_close) (pc := 60) dX11_close_60 ?_
    refine x_icmp_ge (μ := mu_tw_close) (pc := 61) (tgt := 93) dX11_close_61 rfl hv3 (by decide) ?_ ?_
    · refine x_loc (lv' := [(0, vR h), (1, vI v1), (2, vI v2)]) [0, 1, 2] rfl ?_
      exact hK s hM
    · refine x_aload_n (μ := mu_tw_close) (pc := 64) 0 dX11_close_64 rfl ?_
      refine x_fgrE (μ := mu_tw_close) (pc := 65) fX11_83 (Or.inr ⟨_, rfl⟩) q2719 (hM.a83).1 dX11_close_65 hM.1 ?_
      refine x_iconst (μ := mu_tw_close) (pc := 68) dX11_close_68 ?_
      refine x_iload_n (μ := mu_tw_close) (pc := 69) 2 dX11_close_69 rfl ?_
      refine x_imul (μ := mu_tw_close) (pc := 70) dX11_close_70 ?_
      refine x_iload_n (μ := mu_tw_close) (pc := 71) 3 dX11_close_71 rfl ?_
      refine x_iadd (μ := mu_tw_close) (pc := 72) dX11_close_72 ?_
      refine x_dup2 (μ := mu_tw_close) (pc := 73) dX11_close_73 rfl rfl ?_
      refine x_lald (μ := mu_tw_close) (pc := 74) dX11_close_74 (hM.a83).2.1 (hM.a83).2.2 (fun hr9 => ?_)
      refine x_aload_n (μ := mu_tw_close) (pc := 75) 0 dX11_close_75 rfl ?_
      refine x_fgrE (μ := mu_tw_close) (pc := 76) fX11_83 (Or.inr ⟨_, rfl⟩) q2719 (hM.a83).1 dX11_close_76 hM.1 ?_
      refine x_iconst (μ := mu_tw_close) (pc := 79) dX11_close_79 ?_
      refine x_iload_n (μ := mu_tw_close) (pc := 80) 1 dX11_close_80 rfl ?_
      refine x_imul (μ := mu_tw_close) (pc := 81) dX11_close_81 ?_
      refine x_iload_n (μ := mu_tw_close) (pc := 82) 3 dX11_close_82 rfl ?_
      refine x_iadd (μ := mu_tw_close) (pc := 83) dX11_close_83 ?_
      refine x_lald (μ := mu_tw_close) (pc := 84) dX11_close_84 (hM.a83).2.1 (hM.a83).2.2 (fun hr10 => ?_)
      refine x_lor (μ := mu_tw_close) (pc := 85) dX11_close_85 ?_
      refine x_last (μ := mu_tw_close) (pc := 86) dX11_close_86 (hM.a83).2.1 (hM.a83).2.2 (fun _ _ q => gTw_wL q) ?_
      refine x_let (fun s11 e12 => ?_)
      have hM13 := TM.eL e12 hM
      refine x_iincw (μ := mu_tw_close) (pc := 87) (lv' := [(3, vI (w32 (v3 + 1))), (0, vR h), (1, vI v1), (2, vI v2)]) 3 dX11_close_87 rfl (by decide) rfl ?_
      refine x_goto (μ := mu_tw_close) (pc := 90) (tgt := 59) dX11_close_90 rfl ?_
      refine x_loc (lv' := [(0, vR h), (1, vI v1), (2, vI v2), (3, vI (w32 (v3 + 1)))]) [1, 2, 3, 0] rfl ?_
      exact ih (w32 (v3 + 1)) s11 (w32_rng _) hM13
def tw_close_l38 (N : Nat) (h : Nat) (v1 : Int) (K : gMem → Option gMem) : Nat → Int → gMem → Option gMem
  | 0, _, _ => none
  | n + 1, v2, s => if 320 ≤ v2 then K s else (tw_bit (h + 39) v2 v1 s).bind (fun x7 => if x7 = 0 then tw_close_l38_j93 N h v1 v2  (tw_close_l38 N h v1 K n) K s else tw_close_l59 N h v1 v2 (fun s14 => tw_close_l38_j93 N h v1 v2  (tw_close_l38 N h v1 K n) K s14) N 0 s)
set_option maxRecDepth 100000 in
theorem okl_tw_close_l38 {ω : gW} {l : Launch} {d : Nat} {N : Nat} {h : Nat} {σ0 : gMem} {v1 : Int} {K : gMem → Option gMem} (hdp : 1 ≤ d) (hv1 : g32 v1) (hK : ∀ (s : gMem) , TM s h → GG (fun p : gMem => (.inl none, p)) gTw ω l d mu_tw_close σ0 99 [(0, vR h), (1, vI v1)] [] s (K s)) : ∀ (n : Nat) (v2 : Int) (s : gMem) , g32 v2 → TM s h → GG (fun p : gMem => (.inl none, p)) gTw ω l d mu_tw_close σ0 38 [(0, vR h), (1, vI v1), (2, vI v2)] [] s (tw_close_l38 N h v1 K n v2 s) := by
  intro n
  induction n with
  | zero => intros; exact x_none
  | succ n ih =>
    intro v2 s hv2 hM
    unfold tw_close_l38
    refine x_iload_n (μ := mu_tw_close) (pc := 38) 2 dX11_close_38 rfl ?_
    refine x_sipush (μ := mu_tw_close) (pc := 39) dX11_close_39 (by decide) ?_
    refine x_icmp_ge (μ := mu_tw_close) (pc := 42) (tgt := 99) dX11_close_42 rfl hv2 (by decide) ?_ ?_
    · refine x_loc (lv' := [(0, vR h), (1, vI v1)]) [0, 1] rfl ?_
      exact hK s hM
    · refine x_aload_n (μ := mu_tw_close) (pc := 45) 0 dX11_close_45 rfl ?_
      refine x_fgrE (μ := mu_tw_close) (pc := 46) fX11_83 (Or.inr ⟨_, rfl⟩) q2719 (hM.a83).1 dX11_close_46 hM.1 ?_
      refine x_iload_n (μ := mu_tw_close) (pc := 49) 2 dX11_close_49 rfl ?_
      refine x_iload_n (μ := mu_tw_close) (pc := 50) 1 dX11_close_50 rfl ?_
      refine x_callS_pi (μ := mu_tw_close) (pc := 51) (ok_tw_bit (ω := ω) (l := l) (d := d - 1) (by omega) hv2 hv1) gRel_Tw gRel_Tw (fun _ q => q) q3291 q3292 q232 q3293 dX11_close_51 hy_tw_bit (by omega) (Nat.le_of_ble_eq_true rfl) rfl (Nat.le_of_ble_eq_true rfl) (fun x7 hr8 => ?_)
      refine x_if_eq (μ := mu_tw_close) (pc := 54) (tgt := 93) dX11_close_54 rfl hr8 ?_ ?_
      · exact okj_tw_close_l38_j93 hdp hM hv1 hv2 ih hK
      · refine x_iconst (μ := mu_tw_close) (pc := 57) dX11_close_57 ?_
        refine x_istore_n (μ := mu_tw_close) (pc := 58) (lv' := [(3, vI 0), (0, vR h), (1, vI v1), (2, vI v2)]) dX11_close_58 rfl (by decide) rfl ?_
        refine x_loc (lv' := [(0, vR h), (1, vI v1), (2, vI v2), (3, vI 0)]) [1, 2, 3, 0] rfl ?_
        refine okl_tw_close_l59 hdp hv1 hv2 (fun s14 hM15 => ?_) N 0 s (by decide) hM
        exact okj_tw_close_l38_j93 hdp hM15 hv1 hv2 ih hK
def tw_close_l29 (N : Nat) (h : Nat) (K : gMem → Option gMem) : Nat → Int → gMem → Option gMem
  | 0, _, _ => none
  | n + 1, v1, s => if 320 ≤ v1 then K s else tw_close_l38 N h v1 (fun s16 => tw_close_l29 N h K n (w32 (v1 + 1)) s16) N 0 s
set_option maxRecDepth 100000 in
theorem okl_tw_close_l29 {ω : gW} {l : Launch} {d : Nat} {N : Nat} {h : Nat} {σ0 : gMem} {K : gMem → Option gMem} (hdp : 1 ≤ d) (hK : ∀ (s : gMem) , TM s h → GG (fun p : gMem => (.inl none, p)) gTw ω l d mu_tw_close σ0 105 [] [] s (K s)) : ∀ (n : Nat) (v1 : Int) (s : gMem) , g32 v1 → TM s h → GG (fun p : gMem => (.inl none, p)) gTw ω l d mu_tw_close σ0 29 [(0, vR h), (1, vI v1)] [] s (tw_close_l29 N h K n v1 s) := by
  intro n
  induction n with
  | zero => intros; exact x_none
  | succ n ih =>
    intro v1 s hv1 hM
    unfold tw_close_l29
    refine x_iload_n (μ := mu_tw_close) (pc := 29) 1 dX11_close_29 rfl ?_
    refine x_sipush (μ := mu_tw_close) (pc := 30) dX11_close_30 (by decide) ?_
    refine x_icmp_ge (μ := mu_tw_close) (pc := 33) (tgt := 105) dX11_close_33 rfl hv1 (by decide) ?_ ?_
    · refine x_loc (lv' := []) [] rfl ?_
      exact hK s hM
    · refine x_iconst (μ := mu_tw_close) (pc := 36) dX11_close_36 ?_
      refine x_istore_n (μ := mu_tw_close) (pc := 37) (lv' := [(2, vI 0), (0, vR h), (1, vI v1)]) dX11_close_37 rfl (by decide) rfl ?_
      refine x_loc (lv' := [(0, vR h), (1, vI v1), (2, vI 0)]) [1, 2, 0] rfl ?_
      refine okl_tw_close_l38 hdp hv1 (fun s16 hM17 => ?_) N 0 s (by decide) hM
      refine x_iincw (μ := mu_tw_close) (pc := 99) (lv' := [(1, vI (w32 (v1 + 1))), (0, vR h)]) 1 dX11_close_99 rfl (by decide) rfl ?_
      refine x_goto (μ := mu_tw_close) (pc := 102) (tgt := 29) dX11_close_102 rfl ?_
      refine x_loc (lv' := [(0, vR h), (1, vI (w32 (v1 + 1)))]) [1, 0] rfl ?_
      exact ih (w32 (v1 + 1)) s16 (w32_rng _) hM17
def tw_close (N : Nat) (h : Nat) (σ : gMem) : Option gMem := tw_close_l2 N h (fun s5 => tw_close_l29 N h (fun s18 => some s18) N 0 s5) N 0 σ
set_option maxRecDepth 100000 in
theorem ok_tw_close {ω : gW} {l : Launch} {d : Nat} {N : Nat} {h : Nat} {σ : gMem} (hdp : 1 ≤ d) (hM : TM σ h) : gK (fun p : gMem => (.inl none, p)) gTw ω l d mu_tw_close [vR h] σ (tw_close N h σ) := by
  refine gK.of hp_X11 (Nat.le_of_ble_eq_true rfl) ?_
  unfold tw_close
  refine x_iconst (μ := mu_tw_close) (pc := 0) dX11_close_0 ?_
  refine x_istore_n (μ := mu_tw_close) (pc := 1) (lv' := [(1, vI 0), (0, vR h)]) dX11_close_1 rfl (by decide) rfl ?_
  refine x_loc (lv' := [(0, vR h), (1, vI 0)]) [1, 0] rfl ?_
  refine okl_tw_close_l2 hdp (fun s5 hM6 => ?_) N 0 σ (by decide) hM
  refine x_iconst (μ := mu_tw_close) (pc := 27) dX11_close_27 ?_
  refine x_istore_n (μ := mu_tw_close) (pc := 28) (lv' := [(1, vI 0), (0, vR h)]) dX11_close_28 rfl (by decide) rfl ?_
  refine x_loc (lv' := [(0, vR h), (1, vI 0)]) [1, 0] rfl ?_
  refine okl_tw_close_l29 hdp (fun s18 hM19 => ?_) N 0 s5 (by decide) hM6
  exact x_vret (μ := mu_tw_close) (pc := 105) (a1 := s18) dX11_close_105 rfl rfl (gRel_Tw.1 _) trivial
def tw_asOther_j58 (N : Nat) (h : Nat) (v1 : Int) (v2 : Int) (s : gMem) : Option gMem := if 0 ≤ v1 ∧ v1 < ((200 : Nat) : Int) then if mI s (h + 33) v1.toNat ≠ 0 then some s else if 0 ≤ v2 ∧ v2 < ((200 : Nat) : Int) then if mI s (h + 33) v2.toNat ≠ 3 then some s else (tw_truth h v1 0 s).bind (fun x5 => some x5) else none else none
set_option maxRecDepth 100000 in
theorem okj_tw_asOther_j58 {ω : gW} {l : Launch} {d : Nat} {N : Nat} {h : Nat} {σ0 : gMem} {s : gMem} {v1 : Int} {v2 : Int} (hdp : 6 ≤ d) (hM : TM s h) (hv1 : g32 v1) (hv2 : g32 v2) : GG (fun p : gMem => (.inl none, p)) gTw ω l d mu_tw_asOther σ0 58 [(0, vR h), (1, vI v1), (2, vI v2)] [] s (tw_asOther_j58 N h v1 v2 s) := by
  unfold tw_asOther_j58
  refine x_aload_n (μ := mu_tw_asOther) (pc := 58) 0 dX11_asOther_58 rfl ?_
  refine x_fgrE (μ := mu_tw_asOther) (pc := 59) fX11_66 (Or.inr ⟨_, rfl⟩) q2702 (hM.a66).1 dX11_asOther_59 hM.1 ?_
  refine x_iload_n (μ := mu_tw_asOther) (pc := 62) 1 dX11_asOther_62 rfl ?_
  refine x_iald (μ := mu_tw_asOther) (pc := 63) dX11_asOther_63 (hM.a66).2.1 (hM.a66).2.2 (fun hr3 => ?_)
  refine x_if_ne (μ := mu_tw_asOther) (pc := 64) (tgt := 83) dX11_asOther_64 rfl hr3 ?_ ?_
  · exact x_vret (μ := mu_tw_asOther) (pc := 83) (a1 := s) dX11_asOther_83 rfl rfl (gRel_Tw.1 _) trivial
  · refine x_aload_n (μ := mu_tw_asOther) (pc := 67) 0 dX11_asOther_67 rfl ?_
    refine x_fgrE (μ := mu_tw_asOther) (pc := 68) fX11_66 (Or.inr ⟨_, rfl⟩) q2702 (hM.a66).1 dX11_asOther_68 hM.1 ?_
    refine x_iload_n (μ := mu_tw_asOther) (pc := 71) 2 dX11_asOther_71 rfl ?_
    refine x_iald (μ := mu_tw_asOther) (pc := 72) dX11_asOther_72 (hM.a66).2.1 (hM.a66).2.2 (fun hr4 => ?_)
    refine x_iconst (μ := mu_tw_asOther) (pc := 73) dX11_asOther_73 ?_
    refine x_icmp_ne (μ := mu_tw_asOther) (pc := 74) (tgt := 83) dX11_asOther_74 rfl hr4 (by decide) ?_ ?_
    · exact x_vret (μ := mu_tw_asOther) (pc := 83) (a1 := s) dX11_asOther_83 rfl rfl (gRel_Tw.1 _) trivial
    · refine x_aload_n (μ := mu_tw_asOther) (pc := 77) 0 dX11_asOther_77 rfl ?_
      refine x_iload_n (μ := mu_tw_asOther) (pc := 78) 1 dX11_asOther_78 rfl ?_
      refine x_iconst (μ := mu_tw_asOther) (pc := 79) dX11_asOther_79 ?_
      refine x_callV_mv (μ := mu_tw_asOther) (pc := 80) (ok_tw_truth (ω := ω) (l := l) (d := d - 1) (by omega) hM hv1 (by decide)) gRel_Tw gRel_Tw (fun _ q => q) q3322 q3324 qs145 q232 q3325 dX11_asOther_80 rfl hM.1 hy_tw_truth (by omega) (Nat.le_of_ble_eq_true rfl) rfl (Nat.le_of_ble_eq_true rfl) (fun x5 k6 => ?_)
      have hM7 : TM x5 h := hM.tw k6
      exact x_vret (μ := mu_tw_asOther) (pc := 83) (a1 := x5) dX11_asOther_83 rfl rfl (gRel_Tw.1 _) trivial
def tw_asOther_j28 (N : Nat) (h : Nat) (v1 : Int) (v2 : Int) (s : gMem) : Option gMem := if 0 ≤ v1 ∧ v1 < ((200 : Nat) : Int) then if mI s (h + 33) v1.toNat ≠ 0 then tw_asOther_j58 N h v1 v2  s else if 0 ≤ v2 ∧ v2 < ((200 : Nat) : Int) then if mI s (h + 33) v2.toNat ≠ 2 then tw_asOther_j58 N h v1 v2  s else (tw_word N h v1 (mR s 0 121) s).bind (fun x9 => some x9) else none else none
set_option maxRecDepth 100000 in
theorem okj_tw_asOther_j28 {ω : gW} {l : Launch} {d : Nat} {N : Nat} {h : Nat} {σ0 : gMem} {s : gMem} {v1 : Int} {v2 : Int} (hdp : 6 ≤ d) (hM : TM s h) (hv1 : g32 v1) (hv2 : g32 v2) : GG (fun p : gMem => (.inl none, p)) gTw ω l d mu_tw_asOther σ0 28 [(0, vR h), (1, vI v1), (2, vI v2)] [] s (tw_asOther_j28 N h v1 v2 s) := by
  unfold tw_asOther_j28
  refine x_aload_n (μ := mu_tw_asOther) (pc := 28) 0 dX11_asOther_28 rfl ?_
  refine x_fgrE (μ := mu_tw_asOther) (pc := 29) fX11_66 (Or.inr ⟨_, rfl⟩) q2702 (hM.a66).1 dX11_asOther_29 hM.1 ?_
  refine x_iload_n (μ := mu_tw_asOther) (pc := 32) 1 dX11_asOther_32 rfl ?_
  refine x_iald (μ := mu_tw_asOther) (pc := 33) dX11_asOther_33 (hM.a66).2.1 (hM.a66).2.2 (fun hr2 => ?_)
  refine x_if_ne (μ := mu_tw_asOther) (pc := 34) (tgt := 58) dX11_asOther_34 rfl hr2 ?_ ?_
  · exact okj_tw_asOther_j58 hdp hM hv1 hv2
  · refine x_aload_n (μ := mu_tw_asOther) (pc := 37) 0 dX11_asOther_37 rfl ?_
    refine x_fgrE (μ := mu_tw_asOther) (pc := 38) fX11_66 (Or.inr ⟨_, rfl⟩) q2702 (hM.a66).1 dX11_asOther_38 hM.1 ?_
    refine x_iload_n (μ := mu_tw_asOther) (pc := 41) 2 dX11_asOther_41 rfl ?_
    refine x_iald (μ := mu_tw_asOther) (pc := 42) dX11_asOther_42 (hM.a66).2.1 (hM.a66).2.2 (fun hr8 => ?_)
    refine x_iconst (μ := mu_tw_asOther) (pc := 43) dX11_asOther_43 ?_
    refine x_icmp_ne (μ := mu_tw_asOther) (pc := 44) (tgt := 58) dX11_asOther_44 rfl hr8 (by decide) ?_ ?_
    · exact okj_tw_asOther_j58 hdp hM hv1 hv2
    · refine x_aload_n (μ := mu_tw_asOther) (pc := 47) 0 dX11_asOther_47 rfl ?_
      refine x_iload_n (μ := mu_tw_asOther) (pc := 48) 1 dX11_asOther_48 rfl ?_
      refine x_ldcwS (μ := mu_tw_asOther) (pc := 49) (j := 121) (List.mem_of_getElem? (i := 49) rfl) dX11_asOther_49 ?_
      refine x_callV_mv (μ := mu_tw_asOther) (pc := 52) (ok_tw_word (ω := ω) (l := l) (d := d - 1) (by omega) hM hv1) gRel_Tw gRel_Tw (fun _ q => q) q3355 q3357 qs153 q232 q3358 dX11_asOther_52 rfl hM.1 hy_tw_word (by omega) (Nat.le_of_ble_eq_true rfl) rfl (Nat.le_of_ble_eq_true rfl) (fun x9 k10 => ?_)
      have hM11 : TM x9 h := hM.tw k10
      refine x_goto (μ := mu_tw_asOther) (pc := 55) (tgt := 83) dX11_asOther_55 rfl ?_
      exact x_vret (μ := mu_tw_asOther) (pc := 83) (a1 := x9) dX11_asOther_83 rfl rfl (gRel_Tw.1 _) trivial
def tw_asOther (N : Nat) (h : Nat) (v1 : Int) (v2 : Int) (σ : gMem) : Option gMem := if 0 ≤ v1 ∧ v1 < ((200 : Nat) : Int) then if mI σ (h + 33) v1.toNat ≠ 0 then tw_asOther_j28 N h v1 v2  σ else if 0 ≤ v2 ∧ v2 < ((200 : Nat) : Int) then if mI σ (h + 33) v2.toNat ≠ 1 then tw_asOther_j28 N h v1 v2  σ else (tw_number h v1 (((0 : Fin 2) : Nat) : Int) σ).bind (fun x13 => some x13) else none else none
set_option maxRecDepth 100000 in
theorem ok_tw_asOther {ω : gW} {l : Launch} {d : Nat} {N : Nat} {h : Nat} {σ : gMem} {v1 : Int} {v2 : Int} (hdp : 6 ≤ d) (hM : TM σ h) (hv1 : g32 v1) (hv2 : g32 v2) : gK (fun p : gMem => (.inl none, p)) gTw ω l d mu_tw_asOther [vR h, vI v1, vI v2] σ (tw_asOther N h v1 v2 σ) := by
  refine gK.of hp_X11 (Nat.le_of_ble_eq_true rfl) ?_
  unfold tw_asOther
  refine x_aload_n (μ := mu_tw_asOther) (pc := 0) 0 dX11_asOther_0 rfl ?_
  refine x_fgrE (μ := mu_tw_asOther) (pc := 1) fX11_66 (Or.inr ⟨_, rfl⟩) q2702 (hM.a66).1 dX11_asOther_1 hM.1 ?_
  refine x_iload_n (μ := mu_tw_asOther) (pc := 4) 1 dX11_asOther_4 rfl ?_
  refine x_iald (μ := mu_tw_asOther) (pc := 5) dX11_asOther_5 (hM.a66).2.1 (hM.a66).2.2 (fun hr1 => ?_)
  refine x_if_ne (μ := mu_tw_asOther) (pc := 6) (tgt := 28) dX11_asOther_6 rfl hr1 ?_ ?_
  · exact okj_tw_asOther_j28 hdp hM hv1 hv2
  · refine x_aload_n (μ := mu_tw_asOther) (pc := 9) 0 dX11_asOther_9 rfl ?_
    refine x_fgrE (μ := mu_tw_asOther) (pc := 10) fX11_66 (Or.inr ⟨_, rfl⟩) q2702 (hM.a66).1 dX11_asOther_10 hM.1 ?_
    refine x_iload_n (μ := mu_tw_asOther) (pc := 13) 2 dX11_asOther_13 rfl ?_
    refine x_iald (μ := mu_tw_asOther) (pc := 14) dX11_asOther_14 (hM.a66).2.1 (hM.a66).2.2 (fun hr12 => ?_)
    refine x_iconst (μ := mu_tw_asOther) (pc := 15) dX11_asOther_15 ?_
    refine x_icmp_ne (μ := mu_tw_asOther) (pc := 16) (tgt := 28) dX11_asOther_16 rfl hr12 (by decide) ?_ ?_
    · exact okj_tw_asOther_j28 hdp hM hv1 hv2
    · refine x_aload_n (μ := mu_tw_asOther) (pc := 19) 0 dX11_asOther_19 rfl ?_
      refine x_iload_n (μ := mu_tw_asOther) (pc := 20) 1 dX11_asOther_20 rfl ?_
      refine x_lconst (μ := mu_tw_asOther) (pc := 21) dX11_asOther_21 ?_
      refine x_callV_mv (μ := mu_tw_asOther) (pc := 22) (ok_tw_number (ω := ω) (l := l) (d := d - 1) (by omega) hM hv1 (by decide)) gRel_Tw gRel_Tw (fun _ q => q) q3315 q3317 qs144 q232 q3318 dX11_asOther_22 rfl hM.1 hy_tw_number (by omega) (Nat.le_of_ble_eq_true rfl) rfl (Nat.le_of_ble_eq_true rfl) (fun x13 k14 => ?_)
      have hM15 : TM x13 h := hM.tw k14
      refine x_goto (μ := mu_tw_asOther) (pc := 25) (tgt := 83) dX11_asOther_25 rfl ?_
      exact x_vret (μ := mu_tw_asOther) (pc := 83) (a1 := x13) dX11_asOther_83 rfl rfl (gRel_Tw.1 _) trivial
def tw_wantsText (N : Nat) (h : Nat) (v1 : Int) (σ : gMem) : Option gMem := if 0 ≤ v1 ∧ v1 < ((200 : Nat) : Int) then if mI σ (h + 33) v1.toNat ≠ 0 then if 0 ≤ v1 ∧ v1 < ((200 : Nat) : Int) then if mI σ (h + 33) v1.toNat ≠ 3 then if 0 ≤ v1 ∧ v1 < ((200 : Nat) : Int) then if mI σ (h + 33) v1.toNat ≠ 1 then some σ else if 0 ≤ v1 ∧ v1 < ((200 : Nat) : Int) then (tw_decimal N h (mL σ (h + 34) v1.toNat) σ).bind (fun x5 => (tw_text N h v1 (h + 37) (w32 (20 - (x5.1))) (x5.1) (x5.2)).bind (fun x9 => some x9)) else none else none else if 0 ≤ v1 ∧ v1 < ((200 : Nat) : Int) then if gcmp (mL σ (h + 34) v1.toNat) (((1 : Fin 2) : Nat) : Int) ≠ 0 then (tw_word N h v1 (mR σ 0 102) σ).bind (fun x13 => some x13) else (tw_word N h v1 (mR σ 0 101) σ).bind (fun x16 => some x16) else none else none else (tw_word N h v1 (mR σ 0 121) σ).bind (fun x19 => some x19) else none
set_option maxRecDepth 100000 in
theorem ok_tw_wantsText {ω : gW} {l : Launch} {d : Nat} {N : Nat} {h : Nat} {σ : gMem} {v1 : Int} (hdp : 6 ≤ d) (hM : TM σ h) (hv1 : g32 v1) : gK (fun p : gMem => (.inl none, p)) gTw ω l d mu_tw_wantsText [vR h, vI v1] σ (tw_wantsText N h v1 σ) := by
  refine gK.of hp_X11 (Nat.le_of_ble_eq_true rfl) ?_
  unfold tw_wantsText
  refine x_aload_n (μ := mu_tw_wantsText) (pc := 0) 0 dX11_wantsText_0 rfl ?_
  refine x_fgrE (μ := mu_tw_wantsText) (pc := 1) fX11_66 (Or.inr ⟨_, rfl⟩) q2702 (hM.a66).1 dX11_wantsText_1 hM.1 ?_
  refine x_iload_n (μ := mu_tw_wantsText) (pc := 4) 1 dX11_wantsText_4 rfl ?_
  refine x_iald (μ := mu_tw_wantsText) (pc := 5) dX11_wantsText_5 (hM.a66).2.1 (hM.a66).2.2 (fun hr1 => ?_)
  refine x_if_ne (μ := mu_tw_wantsText) (pc := 6) (tgt := 20) dX11_wantsText_6 rfl hr1 ?_ ?_
  · refine x_aload_n (μ := mu_tw_wantsText) (pc := 20) 0 dX11_wantsText_20 rfl ?_
    refine x_fgrE (μ := mu_tw_wantsText) (pc := 21) fX11_66 (Or.inr ⟨_, rfl⟩) q2702 (hM.a66).1 dX11_wantsText_21 hM.1 ?_
    refine x_iload_n (μ := mu_tw_wantsText) (pc := 24) 1 dX11_wantsText_24 rfl ?_
    refine x_iald (μ := mu_tw_wantsText) (pc := 25) dX11_wantsText_25 (hM.a66).2.1 (hM.a66).2.2 (fun hr2 => ?_)
    refine x_iconst (μ := mu_tw_wantsText) (pc := 26) dX11_wantsText_26 ?_
    refine x_icmp_ne (μ := mu_tw_wantsText) (pc := 27) (tgt := 58) dX11_wantsText_27 rfl hr2 (by decide) ?_ ?_
    · refine x_aload_n (μ := mu_tw_wantsText) (pc := 58) 0 dX11_wantsText_58 rfl ?_
      refine x_fgrE (μ := mu_tw_wantsText) (pc := 59) fX11_66 (Or.inr ⟨_, rfl⟩) q2702 (hM.a66).1 dX11_wantsText_59 hM.1 ?_
      refine x_iload_n (μ := mu_tw_wantsText) (pc := 62) 1 dX11_wantsText_62 rfl ?_
      refine x_iald (μ := mu_tw_wantsText) (pc := 63) dX11_wantsText_63 (hM.a66).2.1 (hM.a66).2.2 (fun hr3 => ?_)
      refine x_iconst (μ := mu_tw_wantsText) (pc := 64) dX11_wantsText_64 ?_
      refine x_icmp_ne (μ := mu_tw_wantsText) (pc := 65) (tgt := 93) dX11_wantsText_65 rfl hr3 (by decide) ?_ ?_
      · exact x_vret (μ := mu_tw_wantsText) (pc := 93) (a1 := σ) dX11_wantsText_93 rfl rfl (gRel_Tw.1 _) trivial
      · refine x_aload_n (μ := mu_tw_wantsText) (pc := 68) 0 dX11_wantsText_68 rfl ?_
        refine x_aload_n (μ := mu_tw_wantsText) (pc := 69) 0 dX11_wantsText_69 rfl ?_
        refine x_fgrE (μ := mu_tw_wantsText) (pc := 70) fX11_67 (Or.inr ⟨_, rfl⟩) q2703 (hM.a67).1 dX11_wantsText_70 hM.1 ?_
        refine x_iload_n (μ := mu_tw_wantsText) (pc := 73) 1 dX11_wantsText_73 rfl ?_
        refine x_lald (μ := mu_tw_wantsText) (pc := 74) dX11_wantsText_74 (hM.a67).2.1 (hM.a67).2.2 (fun hr4 => ?_)
        refine x_callV_mi (μ := mu_tw_wantsText) (pc := 75) (ok_tw_decimal (ω := ω) (l := l) (d := d - 1) (by omega) hM hr4) gRel_Tw gRel_Tw (fun _ q => q) q3374 q3376 qs157 q232 q3377 dX11_wantsText_75 rfl hM.1 hy_tw_decimal (by omega) (Nat.le_of_ble_eq_true rfl) rfl (Nat.le_of_ble_eq_true rfl) (fun x5 k7 hr6 => ?_)
        have hM8 : TM (x5.2) h := hM.tw k7
        refine x_istore_n (μ := mu_tw_wantsText) (pc := 78) (lv' := [(2, vI (x5.1)), (0, vR h), (1, vI v1)]) dX11_wantsText_78 rfl (by decide) rfl ?_
        refine x_aload_n (μ := mu_tw_wantsText) (pc := 79) 1 dX11_wantsText_79 rfl ?_
        refine x_iload_n (μ := mu_tw_wantsText) (pc := 80) 2 dX11_wantsText_80 rfl ?_
        refine x_aload_n (μ := mu_tw_wantsText) (pc := 81) 1 dX11_wantsText_81 rfl ?_
        refine x_fgrE (μ := mu_tw_wantsText) (pc := 82) fX11_70 (Or.inr ⟨_, rfl⟩) q2706 (hM8.a70).1 dX11_wantsText_82 hM8.1 ?_
        refine x_bipush (μ := mu_tw_wantsText) (pc := 85) dX11_wantsText_85 (by decide) ?_
        refine x_iload_n (μ := mu_tw_wantsText) (pc := 87) 0 dX11_wantsText_87 rfl ?_
        refine x_isub (μ := mu_tw_wantsText) (pc := 88) dX11_wantsText_88 ?_
        refine x_iload_n (μ := mu_tw_wantsText) (pc := 89) 0 dX11_wantsText_89 rfl ?_
        refine x_w2 ?_
        refine x_callV_mv (μ := mu_tw_wantsText) (pc := 90) (ok_tw_text (ω := ω) (l := l) (d := d - 1) (by omega) hM8 hv1 (w32_rng _) hr6) gRel_Tw gRel_Tw (fun _ q => q) q3279 q3281 qs136 q232 q3282 dX11_wantsText_90 rfl hM8.1 hy_tw_text (by omega) (Nat.le_of_ble_eq_true rfl) rfl (Nat.le_of_ble_eq_true rfl) (fun x9 k10 => ?_)
        have hM11 : TM x9 h := hM8.tw k10
        exact x_vret (μ := mu_tw_wantsText) (pc := 93) (a1 := x9) dX11_wantsText_93 rfl rfl (gRel_Tw.1 _) trivial
    · refine x_aload_n (μ := mu_tw_wantsText) (pc := 30) 0 dX11_wantsText_30 rfl ?_
      refine x_iload_n (μ := mu_tw_wantsText) (pc := 31) 1 dX11_wantsText_31 rfl ?_
      refine x_aload_n (μ := mu_tw_wantsText) (pc := 32) 0 dX11_wantsText_32 rfl ?_
      refine x_fgrE (μ := mu_tw_wantsText) (pc := 33) fX11_67 (Or.inr ⟨_, rfl⟩) q2703 (hM.a67).1 dX11_wantsText_33 hM.1 ?_
      refine x_iload_n (μ := mu_tw_wantsText) (pc := 36) 1 dX11_wantsText_36 rfl ?_
      refine x_lald (μ := mu_tw_wantsText) (pc := 37) dX11_wantsText_37 (hM.a67).2.1 (hM.a67).2.2 (fun hr12 => ?_)
      refine x_lconst (μ := mu_tw_wantsText) (pc := 38) dX11_wantsText_38 ?_
      refine x_lcmp (μ := mu_tw_wantsText) (pc := 39) dX11_wantsText_39 hr12 (by decide) ?_
      refine x_if_ne (μ := mu_tw_wantsText) (pc := 40) (tgt := 49) dX11_wantsText_40 rfl (gcmp_rng _ _) ?_ ?_
      · refine x_ldcwS (μ := mu_tw_wantsText) (pc := 49) (j := 102) (List.mem_of_getElem? (i := 12) rfl) dX11_wantsText_49 ?_
        refine x_callV_mv (μ := mu_tw_wantsText) (pc := 52) (ok_tw_word (ω := ω) (l := l) (d := d - 1) (by omega) hM hv1) gRel_Tw gRel_Tw (fun _ q => q) q3355 q3357 qs153 q232 q3358 dX11_wantsText_52 rfl hM.1 hy_tw_word (by omega) (Nat.le_of_ble_eq_true rfl) rfl (Nat.le_of_ble_eq_true rfl) (fun x13 k14 => ?_)
        have hM15 : TM x13 h := hM.tw k14
        refine x_goto (μ := mu_tw_wantsText) (pc := 55) (tgt := 93) dX11_wantsText_55 rfl ?_
        exact x_vret (μ := mu_tw_wantsText) (pc := 93) (a1 := x13) dX11_wantsText_93 rfl rfl (gRel_Tw.1 _) trivial
      · refine x_ldcwS (μ := mu_tw_wantsText) (pc := 43) (j := 101) (List.mem_of_getElem? (i := 8) rfl) dX11_wantsText_43 ?_
        refine x_goto (μ := mu_tw_wantsText) (pc := 46) (tgt := 52) dX11_wantsText_46 rfl ?_
        refine x_callV_mv (μ := mu_tw_wantsText) (pc := 52) (ok_tw_word (ω := ω) (l := l) (d := d - 1) (by omega) hM hv1) gRel_Tw gRel_Tw (fun _ q => q) q3355 q3357 qs153 q232 q3358 dX11_wantsText_52 rfl hM.1 hy_tw_word (by omega) (Nat.le_of_ble_eq_true rfl) rfl (Nat.le_of_ble_eq_true rfl) (fun x16 k17 => ?_)
        have hM18 : TM x16 h := hM.tw k17
        refine x_goto (μ := mu_tw_wantsText) (pc := 55) (tgt := 93) dX11_wantsText_55 rfl ?_
        exact x_vret (μ := mu_tw_wantsText) (pc := 93) (a1 := x16) dX11_wantsText_93 rfl rfl (gRel_Tw.1 _) trivial
  · refine x_aload_n (μ := mu_tw_wantsText) (pc := 9) 0 dX11_wantsText_9 rfl ?_
    refine x_iload_n (μ := mu_tw_wantsText) (pc := 10) 1 dX11_wantsText_10 rfl ?_
    refine x_ldcwS (μ := mu_tw_wantsText) (pc := 11) (j := 121) (List.mem_of_getElem? (i := 49) rfl) dX11_wantsText_11 ?_
    refine x_callV_mv (μ := mu_tw_wantsText) (pc := 14) (ok_tw_word (ω := ω) (l := l) (d := d - 1) (by omega) hM hv1) gRel_Tw gRel_Tw (fun _ q => q) q3355 q3357 qs153 q232 q3358 dX11_wantsText_14 rfl hM.1 hy_tw_word (by omega) (Nat.le_of_ble_eq_true rfl) rfl (Nat.le_of_ble_eq_true rfl) (fun x19 k20 => ?_)
    have hM21 : TM x19 h := hM.tw k20
    refine x_goto (μ := mu_tw_wantsText) (pc := 17) (tgt := 93) dX11_wantsText_17 rfl ?_
    exact x_vret (μ := mu_tw_wantsText) (pc := 93) (a1 := x19) dX11_wantsText_93 rfl rfl (gRel_Tw.1 _) trivial
def tw_reckon (h : Nat) (v1 : Int) (v2 : Int) (σ : gMem) : Option gMem := if 0 ≤ v1 ∧ v1 < ((200 : Nat) : Int) then if 0 ≤ (v1 + 1) ∧ (v1 + 1) < ((200 : Nat) : Int) then if v2 ≠ 17 then if v2 ≠ 18 then if v2 ≠ 19 then if gcmp (mL σ (h + 34) (v1 + 1).toNat) (((0 : Fin 2) : Nat) : Int) ≠ 0 then if v2 ≠ 20 then if mL σ (h + 34) (v1 + 1).toNat ≠ 0 then (tw_number h v1 (w64 (Int.tmod (mL σ (h + 34) v1.toNat) (mL σ (h + 34) (v1 + 1).toNat))) σ).bind (fun x3 => some x3) else none else if mL σ (h + 34) (v1 + 1).toNat ≠ 0 then (tw_number h v1 (w64 (Int.tdiv (mL σ (h + 34) v1.toNat) (mL σ (h + 34) (v1 + 1).toNat))) σ).bind (fun x6 => some x6) else none else (tw_error h v1 2 σ).bind (fun x9 => some x9) else (tw_times h v1 (mL σ (h + 34) v1.toNat) (mL σ (h + 34) (v1 + 1).toNat) σ).bind (fun x12 => some x12) else (tw_number h v1 (w64 ((mL σ (h + 34) v1.toNat) - (mL σ (h + 34) (v1 + 1).toNat))) σ).bind (fun x15 => some x15) else (tw_number h v1 (w64 ((mL σ (h + 34) v1.toNat) + (mL σ (h + 34) (v1 + 1).toNat))) σ).bind (fun x18 => some x18) else none else none
set_option maxRecDepth 100000 in
theorem ok_tw_reckon {ω : gW} {l : Launch} {d : Nat} {h : Nat} {σ : gMem} {v1 : Int} {v2 : Int} (hdp : 2 ≤ d) (hM : TM σ h) (hv1 : g32 v1) (hv2 : g32 v2) : gK (fun p : gMem => (.inl none, p)) gTw ω l d mu_tw_reckon [vR h, vI v1, vI v2] σ (tw_reckon h v1 v2 σ) := by
  refine gK.of hp_X11 (Nat.le_of_ble_eq_true rfl) ?_
  unfold tw_reckon
  refine x_aload_n (μ := mu_tw_reckon) (pc := 0) 0 dX11_reckon_0 rfl ?_
  refine x_fgrE (μ := mu_tw_reckon) (pc := 1) fX11_67 (Or.inr ⟨_, rfl⟩) q2703 (hM.a67).1 dX11_reckon_1 hM.1 ?_
  refine x_iload_n (μ := mu_tw_reckon) (pc := 4) 1 dX11_reckon_4 rfl ?_
  refine x_lald (μ := mu_tw_reckon) (pc := 5) dX11_reckon_5 (hM.a67).2.1 (hM.a67).2.2 (fun hr1 => ?_)
  refine x_lstore_n (μ := mu_tw_reckon) (pc := 6) (lv' := [(3, vL (mL σ (h + 34) v1.toNat)), (0, vR h), (1, vI v1), (2, vI v2)]) dX11_reckon_6 rfl (by decide) rfl ?_
  refine x_aload_n (μ := mu_tw_reckon) (pc := 7) 1 dX11_reckon_7 rfl ?_
  refine x_fgrE (μ := mu_tw_reckon) (pc := 8) fX11_67 (Or.inr ⟨_, rfl⟩) q2703 (hM.a67).1 dX11_reckon_8 hM.1 ?_
  refine x_iload_n (μ := mu_tw_reckon) (pc := 11) 2 dX11_reckon_11 rfl ?_
  refine x_iconst (μ := mu_tw_reckon) (pc := 12) dX11_reckon_12 ?_
  refine x_iadd (μ := mu_tw_reckon) (pc := 13) dX11_reckon_13 ?_
  refine x_lald (μ := mu_tw_reckon) (pc := 14) dX11_reckon_14 (hM.a67).2.1 (hM.a67).2.2 (fun hr2 => ?_)
  refine x_lstore (μ := mu_tw_reckon) (pc := 15) (lv' := [(5, vL (mL σ (h + 34) (v1 + 1).toNat)), (3, vL (mL σ (h + 34) v1.toNat)), (0, vR h), (1, vI v1), (2, vI v2)]) dX11_reckon_15 (by decide) rfl ?_
  refine x_iload_n (μ := mu_tw_reckon) (pc := 17) 4 dX11_reckon_17 rfl ?_
  refine x_bipush (μ := mu_tw_reckon) (pc := 18) dX11_reckon_18 (by decide) ?_
  refine x_icmp_ne (μ := mu_tw_reckon) (pc := 20) (tgt := 35) dX11_reckon_20 rfl hv2 (by decide) ?_ ?_
  · refine x_iload_n (μ := mu_tw_reckon) (pc := 35) 4 dX11_reckon_35 rfl ?_
    refine x_bipush (μ := mu_tw_reckon) (pc := 36) dX11_reckon_36 (by decide) ?_
    refine x_icmp_ne (μ := mu_tw_reckon) (pc := 38) (tgt := 53) dX11_reckon_38 rfl hv2 (by decide) ?_ ?_
    · refine x_iload_n (μ := mu_tw_reckon) (pc := 53) 4 dX11_reckon_53 rfl ?_
      refine x_bipush (μ := mu_tw_reckon) (pc := 54) dX11_reckon_54 (by decide) ?_
      refine x_icmp_ne (μ := mu_tw_reckon) (pc := 56) (tgt := 70) dX11_reckon_56 rfl hv2 (by decide) ?_ ?_
      · refine x_lload (μ := mu_tw_reckon) (pc := 70) 0 dX11_reckon_70 rfl ?_
        refine x_lconst (μ := mu_tw_reckon) (pc := 72) dX11_reckon_72 ?_
        refine x_lcmp (μ := mu_tw_reckon) (pc := 73) dX11_reckon_73 hr2 (by decide) ?_
        refine x_if_ne (μ := mu_tw_reckon) (pc := 74) (tgt := 86) dX11_reckon_74 rfl (gcmp_rng _ _) ?_ ?_
        · refine x_aload_n (μ := mu_tw_reckon) (pc := 86) 2 dX11_reckon_86 rfl ?_
          refine x_iload_n (μ := mu_tw_reckon) (pc := 87) 3 dX11_reckon_87 rfl ?_
          refine x_iload_n (μ := mu_tw_reckon) (pc := 88) 4 dX11_reckon_88 rfl ?_
          refine x_bipush (μ := mu_tw_reckon) (pc := 89) dX11_reckon_89 (by decide) ?_
          refine x_icmp_ne (μ := mu_tw_reckon) (pc := 91) (tgt := 101) dX11_reckon_91 rfl hv2 (by decide) ?_ ?_
          · refine x_lload_n (μ := mu_tw_reckon) (pc := 101) 1 dX11_reckon_101 rfl ?_
            refine x_lload (μ := mu_tw_reckon) (pc := 102) 0 dX11_reckon_102 rfl ?_
            refine x_lrem (μ := mu_tw_reckon) (pc := 104) dX11_reckon_104 hr1 hr2 ?_
            refine x_W1 ?_
            refine x_callV_mv (μ := mu_tw_reckon) (pc := 105) (ok_tw_number (ω := ω) (l := l) (d := d - 1) (by omega) hM hv1 (w64_rng _)) gRel_Tw gRel_Tw (fun _ q => q) q3315 q3317 qs144 q232 q3318 dX11_reckon_105 rfl hM.1 hy_tw_number (by omega) (Nat.le_of_ble_eq_true rfl) rfl (Nat.le_of_ble_eq_true rfl) (fun x3 k4 => ?_)
            have hM5 : TM x3 h := hM.tw k4
            exact x_vret (μ := mu_tw_reckon) (pc := 108) (a1 := x3) dX11_reckon_108 rfl rfl (gRel_Tw.1 _) trivial
          · refine x_lload_n (μ := mu_tw_reckon) (pc := 94) 1 dX11_reckon_94 rfl ?_
            refine x_lload (μ := mu_tw_reckon) (pc := 95) 0 dX11_reckon_95 rfl ?_
            refine x_ldiv (μ := mu_tw_reckon) (pc := 97) dX11_reckon_97 hr1 hr2 ?_
            refine x_goto (μ := mu_tw_reckon) (pc := 98) (tgt := 105) dX11_reckon_98 rfl ?_
            refine x_W1 ?_
            refine x_callV_mv (μ := mu_tw_reckon) (pc := 105) (ok_tw_number (ω := ω) (l := l) (d := d - 1) (by omega) hM hv1 (w64_rng _)) gRel_Tw gRel_Tw (fun _ q => q) q3315 q3317 qs144 q232 q3318 dX11_reckon_105 rfl hM.1 hy_tw_number (by omega) (Nat.le_of_ble_eq_true rfl) rfl (Nat.le_of_ble_eq_true rfl) (fun x6 k7 => ?_)
            have hM8 : TM x6 h := hM.tw k7
            exact x_vret (μ := mu_tw_reckon) (pc := 108) (a1 := x6) dX11_reckon_108 rfl rfl (gRel_Tw.1 _) trivial
        · refine x_aload_n (μ := mu_tw_reckon) (pc := 77) 2 dX11_reckon_77 rfl ?_
          refine x_iload_n (μ := mu_tw_reckon) (pc := 78) 3 dX11_reckon_78 rfl ?_
          refine x_iconst (μ := mu_tw_reckon) (pc := 79) dX11_reckon_79 ?_
          refine x_callV_mv (μ := mu_tw_reckon) (pc := 80) (ok_tw_error (ω := ω) (l := l) (d := d - 1) (by omega) hM hv1 (by decide)) gRel_Tw gRel_Tw (fun _ q => q) q3294 q3296 qs139 q232 q3297 dX11_reckon_80 rfl hM.1 hy_tw_error (by omega) (Nat.le_of_ble_eq_true rfl) rfl (Nat.le_of_ble_eq_true rfl) (fun x9 k10 => ?_)
          have hM11 : TM x9 h := hM.tw k10
          refine x_goto (μ := mu_tw_reckon) (pc := 83) (tgt := 108) dX11_reckon_83 rfl ?_
          exact x_vret (μ := mu_tw_reckon) (pc := 108) (a1 := x9) dX11_reckon_108 rfl rfl (gRel_Tw.1 _) trivial
      · refine x_aload_n (μ := mu_tw_reckon) (pc := 59) 2 dX11_reckon_59 rfl ?_
        refine x_iload_n (μ := mu_tw_reckon) (pc := 60) 3 dX11_reckon_60 rfl ?_
        refine x_lload_n (μ := mu_tw_reckon) (pc := 61) 1 dX11_reckon_61 rfl ?_
        refine x_lload (μ := mu_tw_reckon) (pc := 62) 0 dX11_reckon_62 rfl ?_
        refine x_callV_mv (μ := mu_tw_reckon) (pc := 64) (ok_tw_times (ω := ω) (l := l) (d := d - 1) (by omega) hM hv1 hr1 hr2) gRel_Tw gRel_Tw (fun _ q => q) q3382 q3384 qs159 q232 q3385 dX11_reckon_64 rfl hM.1 hy_tw_times (by omega) (Nat.le_of_ble_eq_true rfl) rfl (Nat.le_of_ble_eq_true rfl) (fun x12 k13 => ?_)
        have hM14 : TM x12 h := hM.tw k13
        refine x_goto (μ := mu_tw_reckon) (pc := 67) (tgt := 108) dX11_reckon_67 rfl ?_
        exact x_vret (μ := mu_tw_reckon) (pc := 108) (a1 := x12) dX11_reckon_108 rfl rfl (gRel_Tw.1 _) trivial
    · refine x_aload_n (μ := mu_tw_reckon) (pc := 41) 2 dX11_reckon_41 rfl ?_
      refine x_iload_n (μ := mu_tw_reckon) (pc := 42) 3 dX11_reckon_42 rfl ?_
      refine x_lload_n (μ := mu_tw_reckon) (pc := 43) 1 dX11_reckon_43 rfl ?_
      refine x_lload (μ := mu_tw_reckon) (pc := 44) 0 dX11_reckon_44 rfl ?_
      refine x_lsub (μ := mu_tw_reckon) (pc := 46) dX11_reckon_46 ?_
      refine x_W1 ?_
      refine x_callV_mv (μ := mu_tw_reckon) (pc := 47) (ok_tw_number (ω := ω) (l := l) (d := d - 1) (by omega) hM hv1 (w64_rng _)) gRel_Tw gRel_Tw (fun _ q => q) q3315 q3317 qs144 q232 q3318 dX11_reckon_47 rfl hM.1 hy_tw_number (by omega) (Nat.le_of_ble_eq_true rfl) rfl (Nat.le_of_ble_eq_true rfl) (fun x15 k16 => ?_)
      have hM17 : TM x15 h := hM.tw k16
      refine x_goto (μ := mu_tw_reckon) (pc := 50) (tgt := 108) dX11_reckon_50 rfl ?_
      exact x_vret (μ := mu_tw_reckon) (pc := 108) (a1 := x15) dX11_reckon_108 rfl rfl (gRel_Tw.1 _) trivial
  · refine x_aload_n (μ := mu_tw_reckon) (pc := 23) 2 dX11_reckon_23 rfl ?_
    refine x_iload_n (μ := mu_tw_reckon) (pc := 24) 3 dX11_reckon_24 rfl ?_
    refine x_lload_n (μ := mu_tw_reckon) (pc := 25) 1 dX11_reckon_25 rfl ?_
    refine x_lload (μ := mu_tw_reckon) (pc := 26) 0 dX11_reckon_26 rfl ?_
    refine x_ladd (μ := mu_tw_reckon) (pc := 28) dX11_reckon_28 ?_
    refine x_W1 ?_
    refine x_callV_mv (μ := mu_tw_reckon) (pc := 29) (ok_tw_number (ω := ω) (l := l) (d := d - 1) (by omega) hM hv1 (w64_rng _)) gRel_Tw gRel_Tw (fun _ q => q) q3315 q3317 qs144 q232 q3318 dX11_reckon_29 rfl hM.1 hy_tw_number (by omega) (Nat.le_of_ble_eq_true rfl) rfl (Nat.le_of_ble_eq_true rfl) (fun x18 k19 => ?_)
    have hM20 : TM x18 h := hM.tw k19
    refine x_goto (μ := mu_tw_reckon) (pc := 32) (tgt := 108) dX11_reckon_32 rfl ?_
    exact x_vret (μ := mu_tw_reckon) (pc := 108) (a1 := x18) dX11_reckon_108 rfl rfl (gRel_Tw.1 _) trivial
def tw_workIf_j47 (N : Nat) (W : Int → Int → Int → gMem → Option gMem) (h : Nat) (v1 : Int) (v2 : Int) (v3 : Int) (t0 : Int) (s : gMem) : Option gMem := if t0 = 0 then (tw_under N h v1 2 s).bind (fun x12 => (W x12 v2 v3 s).bind (fun x14 => some x14)) else (tw_under N h v1 1 s).bind (fun x17 => (W x17 v2 v3 s).bind (fun x19 => some x19))
set_option maxRecDepth 100000 in
theorem okj_tw_workIf_j47 {ω : gW} {l : Launch} {d : Nat} {N : Nat} {W : Int → Int → Int → gMem → Option gMem} {dW : Nat} {h : Nat} {σ0 : gMem} {s : gMem} {v1 : Int} {v2 : Int} {v3 : Int} {t0 : Int} (hW : ∀ (a1 : Int) (a2 : Int) (a3 : Int) (s : gMem), TM s h → g32 a1 → g32 a2 → g32 a3 → gK (fun p : gMem => (.inl none, p)) gTw ω l dW mu_tw_work [vR h, vI a1, vI a2, vI a3] s (W a1 a2 a3 s)) (hdp : 2 ≤ d) (hdw : dW + 1 ≤ d) (hM : TM s h) (hv1 : g32 v1) (hv2 : g32 v2) (hv3 : g32 v3) (ht0 : g32 t0) : GG (fun p : gMem => (.inl none, p)) gTw ω l d mu_tw_workIf σ0 47 [(0, vR h), (1, vI v1), (2, vI v2), (3, vI v3)] [vI t0] s (tw_workIf_j47 N W h v1 v2 v3 t0 s) := by
  unfold tw_workIf_j47
  refine x_istore (μ := mu_tw_workIf) (pc := 47) (lv' := [(4, vI t0), (0, vR h), (1, vI v1), (2, vI v2), (3, vI v3)]) dX11_workIf_47 (by decide) rfl ?_
  refine x_aload_n (μ := mu_tw_workIf) (pc := 49) 1 dX11_workIf_49 rfl ?_
  refine x_aload_n (μ := mu_tw_workIf) (pc := 50) 1 dX11_workIf_50 rfl ?_
  refine x_iload_n (μ := mu_tw_workIf) (pc := 51) 2 dX11_workIf_51 rfl ?_
  refine x_iload (μ := mu_tw_workIf) (pc := 52) 0 dX11_workIf_52 rfl ?_
  refine x_if_eq (μ := mu_tw_workIf) (pc := 54) (tgt := 61) dX11_workIf_54 rfl ht0 ?_ ?_
  · refine x_iconst (μ := mu_tw_workIf) (pc := 61) dX11_workIf_61 ?_
    refine x_callV_pi (μ := mu_tw_workIf) (pc := 62) (ok_tw_under (ω := ω) (l := l) (d := d - 1) (by omega) hM hv1 (by decide)) gRel_Tw gRel_Tw (fun _ q => q) q3338 q3340 qs149 q232 q3341 dX11_workIf_62 rfl hM.1 hy_tw_under (by omega) (Nat.le_of_ble_eq_true rfl) rfl (Nat.le_of_ble_eq_true rfl) (fun x12 hr13 => ?_)
    refine x_iload_n (μ := mu_tw_workIf) (pc := 65) 3 dX11_workIf_65 rfl ?_
    refine x_iload_n (μ := mu_tw_workIf) (pc := 66) 4 dX11_workIf_66 rfl ?_
    refine x_callV_mv (μ := mu_tw_workIf) (pc := 67) (hW x12 v2 v3 s hM hr13 hv2 hv3) gRel_Tw gRel_Tw (fun _ q => q) q3311 q3313 qs143 q232 q3314 dX11_workIf_67 rfl hM.1 hy_tw_work (by omega) (Nat.le_of_ble_eq_true rfl) rfl (Nat.le_of_ble_eq_true rfl) (fun x14 k15 => ?_)
    have hM16 : TM x14 h := hM.tw k15
    exact x_vret (μ := mu_tw_workIf) (pc := 70) (a1 := x14) dX11_workIf_70 rfl rfl (gRel_Tw.1 _) trivial
  · refine x_iconst (μ := mu_tw_workIf) (pc := 57) dX11_workIf_57 ?_
    refine x_goto (μ := mu_tw_workIf) (pc := 58) (tgt := 62) dX11_workIf_58 rfl ?_
    refine x_callV_pi (μ := mu_tw_workIf) (pc := 62) (ok_tw_under (ω := ω) (l := l) (d := d - 1) (by omega) hM hv1 (by decide)) gRel_Tw gRel_Tw (fun _ q => q) q3338 q3340 qs149 q232 q3341 dX11_workIf_62 rfl hM.1 hy_tw_under (by omega) (Nat.le_of_ble_eq_true rfl) rfl (Nat.le_of_ble_eq_true rfl) (fun x17 hr18 => ?_)
    refine x_iload_n (μ := mu_tw_workIf) (pc := 65) 3 dX11_workIf_65 rfl ?_
    refine x_iload_n (μ := mu_tw_workIf) (pc := 66) 4 dX11_workIf_66 rfl ?_
    refine x_callV_mv (μ := mu_tw_workIf) (pc := 67) (hW x17 v2 v3 s hM hr18 hv2 hv3) gRel_Tw gRel_Tw (fun _ q => q) q3311 q3313 qs143 q232 q3314 dX11_workIf_67 rfl hM.1 hy_tw_work (by omega) (Nat.le_of_ble_eq_true rfl) rfl (Nat.le_of_ble_eq_true rfl) (fun x19 k20 => ?_)
    have hM21 : TM x19 h := hM.tw k20
    exact x_vret (μ := mu_tw_workIf) (pc := 70) (a1 := x19) dX11_workIf_70 rfl rfl (gRel_Tw.1 _) trivial
def tw_workIf (N : Nat) (W : Int → Int → Int → gMem → Option gMem) (h : Nat) (v1 : Int) (v2 : Int) (v3 : Int) (σ : gMem) : Option gMem := (tw_under N h v1 0 σ).bind (fun x1 => (W x1 v2 v3 σ).bind (fun x3 => if 0 ≤ v3 ∧ v3 < ((200 : Nat) : Int) then if mI x3 (h + 33) v3.toNat = 4 then some x3 else (tw_wantsTruth h v3 x3).bind (fun x7 => if x7.1 ≠ 0 then if 0 ≤ v3 ∧ v3 < ((200 : Nat) : Int) then if gcmp (mL (x7.2) (h + 34) v3.toNat) (((1 : Fin 2) : Nat) : Int) ≠ 0 then tw_workIf_j47 N W h v1 v2 v3 0 (x7.2) else tw_workIf_j47 N W h v1 v2 v3 1 (x7.2) else none else some (x7.2)) else none))
set_option maxRecDepth 100000 in
theorem ok_tw_workIf {ω : gW} {l : Launch} {d : Nat} {N : Nat} {W : Int → Int → Int → gMem → Option gMem} {dW : Nat} {h : Nat} {σ : gMem} {v1 : Int} {v2 : Int} {v3 : Int} (hW : ∀ (a1 : Int) (a2 : Int) (a3 : Int) (s : gMem), TM s h → g32 a1 → g32 a2 → g32 a3 → gK (fun p : gMem => (.inl none, p)) gTw ω l dW mu_tw_work [vR h, vI a1, vI a2, vI a3] s (W a1 a2 a3 s)) (hdp : 2 ≤ d) (hdw : dW + 1 ≤ d) (hM : TM σ h) (hv1 : g32 v1) (hv2 : g32 v2) (hv3 : g32 v3) : gK (fun p : gMem => (.inl none, p)) gTw ω l d mu_tw_workIf [vR h, vI v1, vI v2, vI v3] σ (tw_workIf N W h v1 v2 v3 σ) := by
  refine gK.of hp_X11 (Nat.le_of_ble_eq_true rfl) ?_
  unfold tw_workIf
  refine x_aload_n (μ := mu_tw_workIf) (pc := 0) 0 dX11_workIf_0 rfl ?_
  refine x_aload_n (μ := mu_tw_workIf) (pc := 1) 0 dX11_workIf_1 rfl ?_
  refine x_iload_n (μ := mu_tw_workIf) (pc := 2) 1 dX11_workIf_2 rfl ?_
  refine x_iconst (μ := mu_tw_workIf) (pc := 3) dX11_workIf_3 ?_
  refine x_callV_pi (μ := mu_tw_workIf) (pc := 4) (ok_tw_under (ω := ω) (l := l) (d := d - 1) (by omega) hM hv1 (by decide)) gRel_Tw gRel_Tw (fun _ q => q) q3338 q3340 qs149 q232 q3341 dX11_workIf_4 rfl hM.1 hy_tw_under (by omega) (Nat.le_of_ble_eq_true rfl) rfl (Nat.le_of_ble_eq_true rfl) (fun x1 hr2 => ?_)
  refine x_iload_n (μ := mu_tw_workIf) (pc := 7) 2 dX11_workIf_7 rfl ?_
  refine x_iload_n (μ := mu_tw_workIf) (pc := 8) 3 dX11_workIf_8 rfl ?_
  refine x_callV_mv (μ := mu_tw_workIf) (pc := 9) (hW x1 v2 v3 σ hM hr2 hv2 hv3) gRel_Tw gRel_Tw (fun _ q => q) q3311 q3313 qs143 q232 q3314 dX11_workIf_9 rfl hM.1 hy_tw_work (by omega) (Nat.le_of_ble_eq_true rfl) rfl (Nat.le_of_ble_eq_true rfl) (fun x3 k4 => ?_)
  have hM5 : TM x3 h := hM.tw k4
  refine x_aload_n (μ := mu_tw_workIf) (pc := 12) 0 dX11_workIf_12 rfl ?_
  refine x_fgrE (μ := mu_tw_workIf) (pc := 13) fX11_66 (Or.inr ⟨_, rfl⟩) q2702 (hM5.a66).1 dX11_workIf_13 hM5.1 ?_
  refine x_iload_n (μ := mu_tw_workIf) (pc := 16) 3 dX11_workIf_16 rfl ?_
  refine x_iald (μ := mu_tw_workIf) (pc := 17) dX11_workIf_17 (hM5.a66).2.1 (hM5.a66).2.2 (fun hr6 => ?_)
  refine x_iconst (μ := mu_tw_workIf) (pc := 18) dX11_workIf_18 ?_
  refine x_icmp_eq (μ := mu_tw_workIf) (pc := 19) (tgt := 30) dX11_workIf_19 rfl hr6 (by decide) ?_ ?_
  · exact x_vret (μ := mu_tw_workIf) (pc := 30) (a1 := x3) dX11_workIf_30 rfl rfl (gRel_Tw.1 _) trivial
  · refine x_aload_n (μ := mu_tw_workIf) (pc := 22) 0 dX11_workIf_22 rfl ?_
    refine x_iload_n (μ := mu_tw_workIf) (pc := 23) 3 dX11_workIf_23 rfl ?_
    refine x_callV_mi (μ := mu_tw_workIf) (pc := 24) (ok_tw_wantsTruth (ω := ω) (l := l) (d := d - 1) (by omega) hM5 hv3) gRel_Tw gRel_Tw (fun _ q => q) q3394 q3396 qs162 q232 q3397 dX11_workIf_24 rfl hM5.1 hy_tw_wantsTruth (by omega) (Nat.le_of_ble_eq_true rfl) rfl (Nat.le_of_ble_eq_true rfl) (fun x7 k9 hr8 => ?_)
    have hM10 : TM (x7.2) h := hM5.tw k9
    refine x_if_ne (μ := mu_tw_workIf) (pc := 27) (tgt := 31) dX11_workIf_27 rfl hr8 ?_ ?_
    · refine x_aload_n (μ := mu_tw_workIf) (pc := 31) 0 dX11_workIf_31 rfl ?_
      refine x_fgrE (μ := mu_tw_workIf) (pc := 32) fX11_67 (Or.inr ⟨_, rfl⟩) q2703 (hM10.a67).1 dX11_workIf_32 hM10.1 ?_
      refine x_iload_n (μ := mu_tw_workIf) (pc := 35) 3 dX11_workIf_35 rfl ?_
      refine x_lald (μ := mu_tw_workIf) (pc := 36) dX11_workIf_36 (hM10.a67).2.1 (hM10.a67).2.2 (fun hr11 => ?_)
      refine x_lconst (μ := mu_tw_workIf) (pc := 37) dX11_workIf_37 ?_
      refine x_lcmp (μ := mu_tw_workIf) (pc := 38) dX11_workIf_38 hr11 (by decide) ?_
      refine x_if_ne (μ := mu_tw_workIf) (pc := 39) (tgt := 46) dX11_workIf_39 rfl (gcmp_rng _ _) ?_ ?_
      · refine x_iconst (μ := mu_tw_workIf) (pc := 46) dX11_workIf_46 ?_
        exact okj_tw_workIf_j47 hW hdp hdw hM10 hv1 hv2 hv3 (by decide)
      · refine x_iconst (μ := mu_tw_workIf) (pc := 42) dX11_workIf_42 ?_
        refine x_goto (μ := mu_tw_workIf) (pc := 43) (tgt := 47) dX11_workIf_43 rfl ?_
        exact okj_tw_workIf_j47 hW hdp hdw hM10 hv1 hv2 hv3 (by decide)
    · exact x_vret (μ := mu_tw_workIf) (pc := 30) (a1 := x7.2) dX11_workIf_30 rfl rfl (gRel_Tw.1 _) trivial
def tw_workOne (N : Nat) (W : Int → Int → Int → gMem → Option gMem) (h : Nat) (v1 : Int) (v2 : Int) (v3 : Int) (σ : gMem) : Option gMem := (W (w32 (v1 - 1)) v2 v3 σ).bind (fun x1 => if 0 ≤ v1 ∧ v1 < ((60420 : Nat) : Int) then if mI x1 (h + 14) v1.toNat ≠ 40 then if 0 ≤ v3 ∧ v3 < ((200 : Nat) : Int) then if mI x1 (h + 33) v3.toNat ≠ 4 then if mI x1 (h + 14) v1.toNat ≠ 39 then if mI x1 (h + 14) v1.toNat ≠ 37 then (tw_wantsNumber h v3 x1).bind (fun x6 => if x6.1 = 0 then some (x6.2) else if 0 ≤ v3 ∧ v3 < ((200 : Nat) : Int) then if 0 ≤ gcmp (mL (x6.2) (h + 34) v3.toNat) (((0 : Fin 2) : Nat) : Int) then if 0 ≤ v3 ∧ v3 < ((200 : Nat) : Int) then (tw_number h v3 (mL (x6.2) (h + 34) v3.toNat) (x6.2)).bind (fun x12 => some x12) else none else if 0 ≤ v3 ∧ v3 < ((200 : Nat) : Int) then (tw_number h v3 (w64 (-(mL (x6.2) (h + 34) v3.toNat))) (x6.2)).bind (fun x16 => some x16) else none else none) else (tw_wantsTruth h v3 x1).bind (fun x19 => if x19.1 = 0 then some (x19.2) else if 0 ≤ v3 ∧ v3 < ((200 : Nat) : Int) then if gcmp (mL (x19.2) (h + 34) v3.toNat) (((0 : Fin 2) : Nat) : Int) ≠ 0 then (tw_truth h v3 0 (x19.2)).bind (fun x24 => some x24) else (tw_truth h v3 1 (x19.2)).bind (fun x27 => some x27) else none) else (tw_wantsText N h v3 x1).bind (fun x30 => if 0 ≤ v3 ∧ v3 < ((200 : Nat) : Int) then (tw_number h v3 (mI x30 (h + 35) v3.toNat) x30).bind (fun x34 => some x34) else none) else some x1 else none else if 0 ≤ v3 ∧ v3 < ((200 : Nat) : Int) then if mI x1 (h + 33) v3.toNat ≠ 4 then (tw_truth h v3 0 x1).bind (fun x38 => some x38) else (tw_truth h v3 1 x1).bind (fun x41 => some x41) else none else none)
set_option maxRecDepth 100000 in
theorem ok_tw_workOne {ω : gW} {l : Launch} {d : Nat} {N : Nat} {W : Int → Int → Int → gMem → Option gMem} {dW : Nat} {h : Nat} {σ : gMem} {v1 : Int} {v2 : Int} {v3 : Int} (hW : ∀ (a1 : Int) (a2 : Int) (a3 : Int) (s : gMem), TM s h → g32 a1 → g32 a2 → g32 a3 → gK (fun p : gMem => (.inl none, p)) gTw ω l dW mu_tw_work [vR h, vI a1, vI a2, vI a3] s (W a1 a2 a3 s)) (hdp : 7 ≤ d) (hdw : dW + 1 ≤ d) (hM : TM σ h) (hv1 : g32 v1) (hv2 : g32 v2) (hv3 : g32 v3) : gK (fun p : gMem => (.inl none, p)) gTw ω l d mu_tw_workOne [vR h, vI v1, vI v2, vI v3] σ (tw_workOne N W h v1 v2 v3 σ) := by
  refine gK.of hp_X11 (Nat.le_of_ble_eq_true rfl) ?_
  unfold tw_workOne
  refine x_aload_n (μ := mu_tw_workOne) (pc := 0) 0 dX11_workOne_0 rfl ?_
  refine x_iload_n (μ := mu_tw_workOne) (pc := 1) 1 dX11_workOne_1 rfl ?_
  refine x_iconst (μ := mu_tw_workOne) (pc := 2) dX11_workOne_2 ?_
  refine x_isub (μ := mu_tw_workOne) (pc := 3) dX11_workOne_3 ?_
  refine x_iload_n (μ := mu_tw_workOne) (pc := 4) 2 dX11_workOne_4 rfl ?_
  refine x_iload_n (μ := mu_tw_workOne) (pc := 5) 3 dX11_workOne_5 rfl ?_
  refine x_stk (st2 := [vI v3, vI v2, vI (w32 (v1 - 1)), vR h]) (by simp only [List.map_cons, gval_w32, gval_w64]) ?_
  refine x_callV_mv (μ := mu_tw_workOne) (pc := 6) (hW (w32 (v1 - 1)) v2 v3 σ hM (w32_rng _) hv2 hv3) gRel_Tw gRel_Tw (fun _ q => q) q3311 q3313 qs143 q232 q3314 dX11_workOne_6 rfl hM.1 hy_tw_work (by omega) (Nat.le_of_ble_eq_true rfl) rfl (Nat.le_of_ble_eq_true rfl) (fun x1 k2 => ?_)
  have hM3 : TM x1 h := hM.tw k2
  refine x_aload_n (μ := mu_tw_workOne) (pc := 9) 0 dX11_workOne_9 rfl ?_
  refine x_fgrE (μ := mu_tw_workOne) (pc := 10) fX11_26 (Or.inr ⟨_, rfl⟩) q2662 (hM3.a26).1 dX11_workOne_10 hM3.1 ?_
  refine x_iload_n (μ := mu_tw_workOne) (pc := 13) 1 dX11_workOne_13 rfl ?_
  refine x_iald (μ := mu_tw_workOne) (pc := 14) dX11_workOne_14 (hM3.a26).2.1 (hM3.a26).2.2 (fun hr4 => ?_)
  refine x_istore (μ := mu_tw_workOne) (pc := 15) (lv' := [(4, vI (mI x1 (h + 14) v1.toNat)), (0, vR h), (1, vI v1), (2, vI v2), (3, vI v3)]) dX11_workOne_15 (by decide) rfl ?_
  refine x_iload (μ := mu_tw_workOne) (pc := 17) 0 dX11_workOne_17 rfl ?_
  refine x_bipush (μ := mu_tw_workOne) (pc := 19) dX11_workOne_19 (by decide) ?_
  refine x_icmp_ne (μ := mu_tw_workOne) (pc := 21) (tgt := 47) dX11_workOne_21 rfl hr4 (by decide) ?_ ?_
  · refine x_aload_n (μ := mu_tw_workOne) (pc := 47) 1 dX11_workOne_47 rfl ?_
    refine x_fgrE (μ := mu_tw_workOne) (pc := 48) fX11_66 (Or.inr ⟨_, rfl⟩) q2702 (hM3.a66).1 dX11_workOne_48 hM3.1 ?_
    refine x_iload_n (μ := mu_tw_workOne) (pc := 51) 4 dX11_workOne_51 rfl ?_
    refine x_iald (μ := mu_tw_workOne) (pc := 52) dX11_workOne_52 (hM3.a66).2.1 (hM3.a66).2.2 (fun hr5 => ?_)
    refine x_iconst (μ := mu_tw_workOne) (pc := 53) dX11_workOne_53 ?_
    refine x_icmp_ne (μ := mu_tw_workOne) (pc := 54) (tgt := 58) dX11_workOne_54 rfl hr5 (by decide) ?_ ?_
    · refine x_iload (μ := mu_tw_workOne) (pc := 58) 0 dX11_workOne_58 rfl ?_
      refine x_bipush (μ := mu_tw_workOne) (pc := 60) dX11_workOne_60 (by decide) ?_
      refine x_icmp_ne (μ := mu_tw_workOne) (pc := 62) (tgt := 85) dX11_workOne_62 rfl hr4 (by decide) ?_ ?_
      · refine x_iload (μ := mu_tw_workOne) (pc := 85) 0 dX11_workOne_85 rfl ?_
        refine x_bipush (μ := mu_tw_workOne) (pc := 87) dX11_workOne_87 (by decide) ?_
        refine x_icmp_ne (μ := mu_tw_workOne) (pc := 89) (tgt := 124) dX11_workOne_89 rfl hr4 (by decide) ?_ ?_
        · refine x_aload_n (μ := mu_tw_workOne) (pc := 124) 1 dX11_workOne_124 rfl ?_
          refine x_iload_n (μ := mu_tw_workOne) (pc := 125) 4 dX11_workOne_125 rfl ?_
          refine x_callV_mi (μ := mu_tw_workOne) (pc := 126) (ok_tw_wantsNumber (ω := ω) (l := l) (d := d - 1) (by omega) hM3 hv3) gRel_Tw gRel_Tw (fun _ q => q) q3330 q3332 qs147 q232 q3333 dX11_workOne_126 rfl hM3.1 hy_tw_wantsNumber (by omega) (Nat.le_of_ble_eq_true rfl) rfl (Nat.le_of_ble_eq_true rfl) (fun x6 k8 hr7 => ?_)
          have hM9 : TM (x6.2) h := hM3.tw k8
          refine x_if_eq (μ := mu_tw_workOne) (pc := 129) (tgt := 164) dX11_workOne_129 rfl hr7 ?_ ?_
          · exact x_vret (μ := mu_tw_workOne) (pc := 164) (a1 := x6.2) dX11_workOne_164 rfl rfl (gRel_Tw.1 _) trivial
          · refine x_aload_n (μ := mu_tw_workOne) (pc := 132) 1 dX11_workOne_132 rfl ?_
            refine x_iload_n (μ := mu_tw_workOne) (pc := 133) 4 dX11_workOne_133 rfl ?_
            refine x_aload_n (μ := mu_tw_workOne) (pc := 134) 1 dX11_workOne_134 rfl ?_
            refine x_fgrE (μ := mu_tw_workOne) (pc := 135) fX11_67 (Or.inr ⟨_, rfl⟩) q2703 (hM9.a67).1 dX11_workOne_135 hM9.1 ?_
            refine x_iload_n (μ := mu_tw_workOne) (pc := 138) 4 dX11_workOne_138 rfl ?_
            refine x_lald (μ := mu_tw_workOne) (pc := 139) dX11_workOne_139 (hM9.a67).2.1 (hM9.a67).2.2 (fun hr10 => ?_)
            refine x_lconst (μ := mu_tw_workOne) (pc := 140) dX11_workOne_140 ?_
            refine x_lcmp (μ := mu_tw_workOne) (pc := 141) dX11_workOne_141 hr10 (by decide) ?_
            refine x_if_ge (μ := mu_tw_workOne) (pc := 142) (tgt := 155) dX11_workOne_142 rfl (gcmp_rng _ _) ?_ ?_
            · refine x_aload_n (μ := mu_tw_workOne) (pc := 155) 1 dX11_workOne_155 rfl ?_
              refine x_fgrE (μ := mu_tw_workOne) (pc := 156) fX11_67 (Or.inr ⟨_, rfl⟩) q2703 (hM9.a67).1 dX11_workOne_156 hM9.1 ?_
              refine x_iload_n (μ := mu_tw_workOne) (pc := 159) 4 dX11_workOne_159 rfl ?_
              refine x_lald (μ := mu_tw_workOne) (pc := 160) dX11_workOne_160 (hM9.a67).2.1 (hM9.a67).2.2 (fun hr11 => ?_)
              refine x_callV_mv (μ := mu_tw_workOne) (pc := 161) (ok_tw_number (ω := ω) (l := l) (d := d - 1) (by omega) hM9 hv3 hr11) gRel_Tw gRel_Tw (fun _ q => q) q3315 q3317 qs144 q232 q3318 dX11_workOne_161 rfl hM9.1 hy_tw_number (by omega) (Nat.le_of_ble_eq_true rfl) rfl (Nat.le_of_ble_eq_true rfl) (fun x12 k13 => ?_)
              have hM14 : TM x12 h := hM9.tw k13
              exact x_vret (μ := mu_tw_workOne) (pc := 164) (a1 := x12) dX11_workOne_164 rfl rfl (gRel_Tw.1 _) trivial
            · refine x_aload_n (μ := mu_tw_workOne) (pc := 145) 1 dX11_workOne_145 rfl ?_
              refine x_fgrE (μ := mu_tw_workOne) (pc := 146) fX11_67 (Or.inr ⟨_, rfl⟩) q2703 (hM9.a67).1 dX11_workOne_146 hM9.1 ?_
              refine x_iload_n (μ := mu_tw_workOne) (pc := 149) 4 dX11_workOne_149 rfl ?_
              refine x_lald (μ := mu_tw_workOne) (pc := 150) dX11_workOne_150 (hM9.a67).2.1 (hM9.a67).2.2 (fun hr15 => ?_)
              refine x_lneg (μ := mu_tw_workOne) (pc := 151) dX11_workOne_151 ?_
              refine x_goto (μ := mu_tw_workOne) (pc := 152) (tgt := 161) dX11_workOne_152 rfl ?_
              refine x_W1 ?_
              refine x_callV_mv (μ := mu_tw_workOne) (pc := 161) (ok_tw_number (ω := ω) (l := l) (d := d - 1) (by omega) hM9 hv3 (w64_rng _)) gRel_Tw gRel_Tw (fun _ q => q) q3315 q3317 qs144 q232 q3318 dX11_workOne_161 rfl hM9.1 hy_tw_number (by omega) (Nat.le_of_ble_eq_true rfl) rfl (Nat.le_of_ble_eq_true rfl) (fun x16 k17 => ?_)
              have hM18 : TM x16 h := hM9.tw k17
              exact x_vret (μ := mu_tw_workOne) (pc := 164) (a1 := x16) dX11_workOne_164 rfl rfl (gRel_Tw.1 _) trivial
        · refine x_aload_n (μ := mu_tw_workOne) (pc := 92) 1 dX11_workOne_92 rfl ?_
          refine x_iload_n (μ := mu_tw_workOne) (pc := 93) 4 dX11_workOne_93 rfl ?_
          refine x_callV_mi (μ := mu_tw_workOne) (pc := 94) (ok_tw_wantsTruth (ω := ω) (l := l) (d := d - 1) (by omega) hM3 hv3) gRel_Tw gRel_Tw (fun _ q => q) q3394 q3396 qs162 q232 q3397 dX11_workOne_94 rfl hM3.1 hy_tw_wantsTruth (by omega) (Nat.le_of_ble_eq_true rfl) rfl (Nat.le_of_ble_eq_true rfl) (fun x19 k21 hr20 => ?_)
          have hM22 : TM (x19.2) h := hM3.tw k21
          refine x_if_eq (μ := mu_tw_workOne) (pc := 97) (tgt := 164) dX11_workOne_97 rfl hr20 ?_ ?_
          · exact x_vret (μ := mu_tw_workOne) (pc := 164) (a1 := x19.2) dX11_workOne_164 rfl rfl (gRel_Tw.1 _) trivial
          · refine x_aload_n (μ := mu_tw_workOne) (pc := 100) 1 dX11_workOne_100 rfl ?_
            refine x_iload_n (μ := mu_tw_workOne) (pc := 101) 4 dX11_workOne_101 rfl ?_
            refine x_aload_n (μ := mu_tw_workOne) (pc := 102) 1 dX11_workOne_102 rfl ?_
            refine x_fgrE (μ := mu_tw_workOne) (pc := 103) fX11_67 (Or.inr ⟨_, rfl⟩) q2703 (hM22.a67).1 dX11_workOne_103 hM22.1 ?_
            refine x_iload_n (μ := mu_tw_workOne) (pc := 106) 4 dX11_workOne_106 rfl ?_
            refine x_lald (μ := mu_tw_workOne) (pc := 107) dX11_workOne_107 (hM22.a67).2.1 (hM22.a67).2.2 (fun hr23 => ?_)
            refine x_lconst (μ := mu_tw_workOne) (pc := 108) dX11_workOne_108 ?_
            refine x_lcmp (μ := mu_tw_workOne) (pc := 109) dX11_workOne_109 hr23 (by decide) ?_
            refine x_if_ne (μ := mu_tw_workOne) (pc := 110) (tgt := 117) dX11_workOne_110 rfl (gcmp_rng _ _) ?_ ?_
            · refine x_iconst (μ := mu_tw_workOne) (pc := 117) dX11_workOne_117 ?_
              refine x_callV_mv (μ := mu_tw_workOne) (pc := 118) (ok_tw_truth (ω := ω) (l := l) (d := d - 1) (by omega) hM22 hv3 (by decide)) gRel_Tw gRel_Tw (fun _ q => q) q3322 q3324 qs145 q232 q3325 dX11_workOne_118 rfl hM22.1 hy_tw_truth (by omega) (Nat.le_of_ble_eq_true rfl) rfl (Nat.le_of_ble_eq_true rfl) (fun x24 k25 => ?_)
              have hM26 : TM x24 h := hM22.tw k25
              refine x_goto (μ := mu_tw_workOne) (pc := 121) (tgt := 164) dX11_workOne_121 rfl ?_
              exact x_vret (μ := mu_tw_workOne) (pc := 164) (a1 := x24) dX11_workOne_164 rfl rfl (gRel_Tw.1 _) trivial
            · refine x_iconst (μ := mu_tw_workOne) (pc := 113) dX11_workOne_113 ?_
              refine x_goto (μ := mu_tw_workOne) (pc := 114) (tgt := 118) dX11_workOne_114 rfl ?_
              refine x_callV_mv (μ := mu_tw_workOne) (pc := 118) (ok_tw_truth (ω := ω) (l := l) (d := d - 1) (by omega) hM22 hv3 (by decide)) gRel_Tw gRel_Tw (fun _ q => q) q3322 q3324 qs145 q232 q3325 dX11_workOne_118 rfl hM22.1 hy_tw_truth (by omega) (Nat.le_of_ble_eq_true rfl) rfl (Nat.le_of_ble_eq_true rfl) (fun x27 k28 => ?_)
              have hM29 : TM x27 h := hM22.tw k28
              refine x_goto (μ := mu_tw_workOne) (pc := 121) (tgt := 164) dX11_workOne_121 rfl ?_
              exact x_vret (μ := mu_tw_workOne) (pc := 164) (a1 := x27) dX11_workOne_164 rfl rfl (gRel_Tw.1 _) trivial
      · refine x_aload_n (μ := mu_tw_workOne) (pc := 65) 1 dX11_workOne_65 rfl ?_
        refine x_iload_n (μ := mu_tw_workOne) (pc := 66) 4 dX11_workOne_66 rfl ?_
        refine x_callV_mv (μ := mu_tw_workOne) (pc := 67) (ok_tw_wantsText (ω := ω) (l := l) (d := d - 1) (by omega) hM3 hv3) gRel_Tw gRel_Tw (fun _ q => q) q3370 q3372 qs156 q232 q3373 dX11_workOne_67 rfl hM3.1 hy_tw_wantsText (by omega) (Nat.le_of_ble_eq_true rfl) rfl (Nat.le_of_ble_eq_true rfl) (fun x30 k31 => ?_)
        have hM32 : TM x30 h := hM3.tw k31
        refine x_aload_n (μ := mu_tw_workOne) (pc := 70) 1 dX11_workOne_70 rfl ?_
        refine x_iload_n (μ := mu_tw_workOne) (pc := 71) 4 dX11_workOne_71 rfl ?_
        refine x_aload_n (μ := mu_tw_workOne) (pc := 72) 1 dX11_workOne_72 rfl ?_
        refine x_fgrE (μ := mu_tw_workOne) (pc := 73) fX11_68 (Or.inr ⟨_, rfl⟩) q2704 (hM32.a68).1 dX11_workOne_73 hM32.1 ?_
        refine x_iload_n (μ := mu_tw_workOne) (pc := 76) 4 dX11_workOne_76 rfl ?_
        refine x_iald (μ := mu_tw_workOne) (pc := 77) dX11_workOne_77 (hM32.a68).2.1 (hM32.a68).2.2 (fun hr33 => ?_)
        refine x_i2l (μ := mu_tw_workOne) (pc := 78) dX11_workOne_78 hr33 ?_
        refine x_callV_mv (μ := mu_tw_workOne) (pc := 79) (ok_tw_number (ω := ω) (l := l) (d := d - 1) (by omega) hM32 hv3 (g32_64 hr33)) gRel_Tw gRel_Tw (fun _ q => q) q3315 q3317 qs144 q232 q3318 dX11_workOne_79 rfl hM32.1 hy_tw_number (by omega) (Nat.le_of_ble_eq_true rfl) rfl (Nat.le_of_ble_eq_true rfl) (fun x34 k35 => ?_)
        have hM36 : TM x34 h := hM32.tw k35
        refine x_goto (μ := mu_tw_workOne) (pc := 82) (tgt := 164) dX11_workOne_82 rfl ?_
        exact x_vret (μ := mu_tw_workOne) (pc := 164) (a1 := x34) dX11_workOne_164 rfl rfl (gRel_Tw.1 _) trivial
    · exact x_vret (μ := mu_tw_workOne) (pc := 57) (a1 := x1) dX11_workOne_57 rfl rfl (gRel_Tw.1 _) trivial
  · refine x_aload_n (μ := mu_tw_workOne) (pc := 24) 1 dX11_workOne_24 rfl ?_
    refine x_iload_n (μ := mu_tw_workOne) (pc := 25) 4 dX11_workOne_25 rfl ?_
    refine x_aload_n (μ := mu_tw_workOne) (pc := 26) 1 dX11_workOne_26 rfl ?_
    refine x_fgrE (μ := mu_tw_workOne) (pc := 27) fX11_66 (Or.inr ⟨_, rfl⟩) q2702 (hM3.a66).1 dX11_workOne_27 hM3.1 ?_
    refine x_iload_n (μ := mu_tw_workOne) (pc := 30) 4 dX11_workOne_30 rfl ?_
    refine x_iald (μ := mu_tw_workOne) (pc := 31) dX11_workOne_31 (hM3.a66).2.1 (hM3.a66).2.2 (fun hr37 => ?_)
    refine x_iconst (μ := mu_tw_workOne) (pc := 32) dX11_workOne_32 ?_
    refine x_icmp_ne (μ := mu_tw_workOne) (pc := 33) (tgt := 40) dX11_workOne_33 rfl hr37 (by decide) ?_ ?_
    · refine x_iconst (μ := mu_tw_workOne) (pc := 40) dX11_workOne_40 ?_
      refine x_callV_mv (μ := mu_tw_workOne) (pc := 41) (ok_tw_truth (ω := ω) (l := l) (d := d - 1) (by omega) hM3 hv3 (by decide)) gRel_Tw gRel_Tw (fun _ q => q) q3322 q3324 qs145 q232 q3325 dX11_workOne_41 rfl hM3.1 hy_tw_truth (by omega) (Nat.le_of_ble_eq_true rfl) rfl (Nat.le_of_ble_eq_true rfl) (fun x38 k39 => ?_)
      have hM40 : TM x38 h := hM3.tw k39
      refine x_goto (μ := mu_tw_workOne) (pc := 44) (tgt := 164) dX11_workOne_44 rfl ?_
      exact x_vret (μ := mu_tw_workOne) (pc := 164) (a1 := x38) dX11_workOne_164 rfl rfl (gRel_Tw.1 _) trivial
    · refine x_iconst (μ := mu_tw_workOne) (pc := 36) dX11_workOne_36 ?_
      refine x_goto (μ := mu_tw_workOne) (pc := 37) (tgt := 41) dX11_workOne_37 rfl ?_
      refine x_callV_mv (μ := mu_tw_workOne) (pc := 41) (ok_tw_truth (ω := ω) (l := l) (d := d - 1) (by omega) hM3 hv3 (by decide)) gRel_Tw gRel_Tw (fun _ q => q) q3322 q3324 qs145 q232 q3325 dX11_workOne_41 rfl hM3.1 hy_tw_truth (by omega) (Nat.le_of_ble_eq_true rfl) rfl (Nat.le_of_ble_eq_true rfl) (fun x41 k42 => ?_)
      have hM43 : TM x41 h := hM3.tw k42
      refine x_goto (μ := mu_tw_workOne) (pc := 44) (tgt := 164) dX11_workOne_44 rfl ?_
      exact x_vret (μ := mu_tw_workOne) (pc := 164) (a1 := x41) dX11_workOne_164 rfl rfl (gRel_Tw.1 _) trivial
