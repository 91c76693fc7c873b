/-! learning: all of it, here against there -/
theorem room_iff {a b c : Int} (c0 : 0 ≤ b + c) (c1 : b + c ≤ 1000000) : ((if 800 ≤ a then (0 : Int) else if 8000 < w32 (b + c) then 0 else 1) = 0 ↔ 800 ≤ a ∨ 8000 < b + c) ∧ ((if 800 ≤ a then (0 : Int) else if 8000 < w32 (b + c) then 0 else 1) = 0 ∨ (if 800 ≤ a then (0 : Int) else if 8000 < w32 (b + c) then 0 else 1) = 1) := by
  rw [w32_of (x := b + c) (by omega) (by omega)]
  by_cases x : 800 ≤ a
  · rw [if_pos x]; omega
  · rw [if_neg x]
    by_cases y : 8000 < b + c
    · rw [if_pos y]; omega
    · rw [if_neg y]; omega
theorem M_room {e q c : Int} {h m : zH} {Q : Int → zH → Prop} (q0 : 0 ≤ q) (q1 : q ≤ 1) (R : RMs e q h m) (c0 : 0 ≤ c) (c1 : c ≤ 400) (k0 : (800 ≤ zd h e 25 ∨ 8000 < zd h e 26 + c) → Q 0 m) (k1 : ¬ (800 ≤ zd h e 25 ∨ 8000 < zd h e 26 + c) → Q 1 m) : P_M_hasRoom q c m Q := by
  obtain ⟨⟨a1, a2, a3⟩, b1, -, -, b4, -⟩ := R.2.2.2.2.1
  have w0 := (rec_le R.2.2.2.2.1 (k := zd h e 25) (l := zd h e 25) a2 (Int.le_refl _) (Int.le_refl _)).1
  unfold P_M_hasRoom
  simp only [w32_al, w32_ar, w32_sl, w32_sr, w32_ml, w32_mr]
  rw [← a1, w32_of (x := 801 * q + zd h e 25) (by omega) (by omega), ← b1]
  refine ⟨⟨by omega, by omega⟩, ?_, ?_⟩
  · by_cases x : 800 ≤ zd h e 25
    · rw [if_pos x]; trivial
    · rw [if_neg x]; exact ⟨⟨by omega, by omega⟩, ⟨by omega, by omega⟩, trivial⟩
  · obtain ⟨i1, i2⟩ := room_iff (a := zd h e 25) (b := zd h e 26) (c := c) (by omega) (by omega)
    rcases i2 with z | z
    · rw [z]; exact k0 (i1.mp z)
    · rw [z]; exact k1 (fun x => by have := i1.mpr x; omega)
def LnS (e q s : Int) (h : zH) (r : Int) (h' : zH) : Prop := ∀ m, RMs e q h m → R7 e q h m → zd m 155 q = zd h e 25 → zd m 101 98 = num s → ∀ Q' : Int → zH → Prop, (r = 0 → ∀ m', RMs e q h' m' → R7 e q h' m' → MFr q m m' → Q' (-1003) m') → (r = 1 → ∀ m', RMs e q h' m' → R7 e q h' m' → zd m' 155 q = zd h' e 25 → MFw q m m' → (q = 0 → RQ e h' m') → Q' 7 m') → P_M_learn q m Q'
theorem S_learns {e q s : Int} {h : zH} {Q : Int → zH → Prop} (he : zE e) (q0 : 0 ≤ q) (q1 : q ≤ 1) (p : SI e h) (n0 : 1 ≤ zd h e 21) (s0 : 0 ≤ s) (s1 : s < 1364) (hq : Equar e h s) (l0 : 1 ≤ zd h e 31) (l1 : zd h e 31 ≤ 2000000000) (k0 : ∀ h', SI e h' → LearnP e h h' → LnS e q s h 0 h' → Q 0 h') (k1 : ∀ h', SI e h' → zd h' e 31 = zd h e 31 - 1 → LnS e q s h 1 h' → Q 1 h') : P_E_learns e s h Q := by
  have eR : 25 ≤ e ∧ e ≤ 58 := by rcases he with z | z <;> omega
  obtain ⟨S0, tu0, tu1⟩ := id p
  obtain ⟨I, X, p3, p4, p5, p6, p7, p8⟩ := id S0
  obtain ⟨hs, hc, hT, hL, hO, t16, l16⟩ := id I
  have A3 := hs.1
  have nr := now_r I
  have T1 := hT.1
  unfold P_E_learns
  refine S_learn0 (q := q) he q0 q1 I X n0 s0 s1 hq p8.2.2.1 p8.2.2.2.1 (fun h2 lp ls => ?_)
  obtain ⟨lA, lf, lG, l50, l52, l54, l30, first, ⟨f0, f1, fm⟩, m0, m1, m2⟩ := id lp
  have S2 : SI0 e h2 := S0.cg (fun k hk => lA.f (by simp only [List.mem_cons, List.not_mem_nil, or_false] at hk ⊢; omega)) (fun k hk => lf k (by simp only [List.mem_cons, List.not_mem_nil, or_false] at hk; omega) (by simp only [List.mem_cons, List.not_mem_nil, or_false] at hk; omega) (by simp only [List.mem_cons, List.not_mem_nil, or_false] at hk; omega)) (fun b => lA.t b) (fun b => lA.l b)
  have c25 : zd h2 e 25 = zd h e 25 := lf 25 (by decide) (by decide) (by decide)
  have c26 : zd h2 e 26 = zd h e 26 := lf 26 (by decide) (by decide) (by decide)
  have c11 : zd h2 e 11 = zd h e 11 := lf 11 (by decide) (by decide) (by decide)
  have c31 : zd h2 e 31 = zd h e 31 := lf 31 (by decide) (by decide) (by decide)
  have c40 : zd h2 e 40 = zd h e 40 := lf 40 (by decide) (by decide) (by decide)
  have c20 : zd h2 e 20 = zd h e 20 := lf 20 (by decide) (by decide) (by decide)
  have c21 : zd h2 e 21 = zd h e 21 := lf 21 (by decide) (by decide) (by decide)
  have c17 : zd h2 (e + 17) = zd h (e + 17) := lA.f (by simp only [List.mem_cons, List.not_mem_nil, or_false]; omega)
  have c12 : zd h2 (e + 12) = zd h (e + 12) := lA.f (by simp only [List.mem_cons, List.not_mem_nil, or_false]; omega)
  have hit : ∀ j, 0 ≤ j → j < zd h2 e 50 → eit (zd h e 11) (zd h2 (e + 28) j) := by
    intro j j0 j1
    have ng : ∀ i, 0 ≤ i → i < zd h e 20 → eit (zd h e 11) (-(zd h (e + 17) i)) := fun i i0 i1 => by
      have := (hT.2.1 i i0 i1).1
      unfold eit at this ⊢; omega
    by_cases z : j = 0
    · rw [z, m0]; exact ng first f0 f1
    · obtain ⟨i, i0, i1, i2, -⟩ := m2 j (by omega) j1
      rw [i2]; exact ng i i0 (by omega)
  unfold P_E_hasRoom
  rw [c25, c26]
  obtain ⟨i1, i2⟩ := room_iff (a := zd h e 25) (b := zd h e 26) (c := zd h2 e 50) (by omega) (by omega)
  refine zif_i (fun c => ?_) (fun c => ?_)
  · refine k0 h2 ⟨S2, by omega, by omega⟩ lp ?_
    intro m R C rl m98 Q' kf _
    unfold P_M_learn
    rw [if_neg (show ¬ zd m 101 89 = 0 by have := C.1; omega)]
    refine ls m R C m98 Q' _ (fun m' t R' C' G' MG' u' fr' to' F' => ?_)
    refine M_room q0 q1 R' (by omega) (by omega) (fun _ => ?_) (fun z => absurd (i1.mp c) (by rw [c25, c26] at z; exact z))
    rw [if_pos rfl]
    exact kf rfl m' R' C' F'.fr
  · have room := fun z => c (i1.mpr z)
    have iz := zab_r (hT.2.1 first f0 f1).1
    have E54 := l54
    refine S_l1 (q := q) (h := h2) he q0 q1 (by omega) (by omega) S2.2.2.2.2.2.2.1 ⟨tn e h first, iz.1, by rw [c11]; exact iz.2, ?_⟩ (by omega) (by omega) l52 l54.1 l54.2 l30 (fun h12 p12 s12 => ?_)
    · have := (lG (tn e h first) iz.1 (by rw [c11]; exact iz.2)).2.2 fm
      omega
    obtain ⟨A12, f12, g31, W12⟩ := p12
    have d12 : zd h12 (e + 12) = zd h (e + 12) := by rw [A12.f (b := e + 12) (by simp only [List.mem_cons, List.not_mem_nil, or_false]; omega), c12]
    have d17 : zd h12 (e + 17) = zd h (e + 17) := by rw [A12.f (b := e + 17) (by simp only [List.mem_cons, List.not_mem_nil, or_false]; omega), c17]
    have d28 : zd h12 (e + 28) = zd h2 (e + 28) := A12.f (by simp only [List.mem_cons, List.not_mem_nil, or_false]; omega)
    have d29 : zd h12 (e + 29) = zd h2 (e + 29) := A12.f (by simp only [List.mem_cons, List.not_mem_nil, or_false]; omega)
    have d11 : zd h12 e 11 = zd h e 11 := by rw [f12 11 (by decide) (by decide) (by decide) (by decide), c11]
    have d20 : zd h12 e 20 = zd h e 20 := by rw [f12 20 (by decide) (by decide) (by decide) (by decide), c20]
    have d21 : zd h12 e 21 = zd h e 21 := by rw [f12 21 (by decide) (by decide) (by decide) (by decide), c21]
    have d25 : zd h12 e 25 = zd h e 25 := by rw [f12 25 (by decide) (by decide) (by decide) (by decide), c25]
    have d26 : zd h12 e 26 = zd h e 26 := by rw [f12 26 (by decide) (by decide) (by decide) (by decide), c26]
    have d40 : zd h12 e 40 = zd h e 40 := by rw [f12 40 (by decide) (by decide) (by decide) (by decide), c40]
    have d50 : zd h12 e 50 = zd h2 e 50 := f12 50 (by decide) (by decide) (by decide) (by decide)
    have d52 : zd h12 e 52 = zd h2 e 52 := f12 52 (by decide) (by decide) (by decide) (by decide)
    have dtn : ∀ i, tn e h12 i = tn e h i := fun i => by unfold tn; rw [d17]
    have I12 : EInv e h12 (564 + zd h e 25) := by
      have := S2.1
      rw [c25] at this
      exact this.cg (fun k hk => A12.f (by simp only [List.mem_cons, List.not_mem_nil, or_false] at hk ⊢; omega)) (fun k hk => f12 k (by simp only [List.mem_cons, List.not_mem_nil, or_false] at hk; omega) (by simp only [List.mem_cons, List.not_mem_nil, or_false] at hk; omega) (by simp only [List.mem_cons, List.not_mem_nil, or_false] at hk; omega) (by simp only [List.mem_cons, List.not_mem_nil, or_false] at hk; omega)) (A12.t _) (A12.l _)
    have X12 : EX e h12 := S2.2.1.cg (fun k hk => A12.f (by simp only [List.mem_cons, List.not_mem_nil, or_false] at hk ⊢; omega)) (f12 21 (by decide) (by decide) (by decide) (by decide))
    intro x2 e2
    rw [d21] at e2
    refine ⟨(zd h12 e 50).toNat + 1, E_to (h := h) (g := h12) (by omega) (by omega) d12 (fun j j0 j1 => by rw [d11, d28]; exact hit j (by omega) (by omega)) (fun t ht => ?_) (zd h12 e 50).toNat _ 0 1 (by omega) (by decide) (by omega) (by decide) (fun j j0 j1 => by omega) (Or.inl rfl)⟩
    have tn1 : t < zd h e 21 := by
      rcases ht.2.2 with z | ⟨j, j0, j1, j2⟩
      · omega
      · rw [d50] at j1
        obtain ⟨i, i0, i1, i2, i3, i4⟩ := m2 j j0 j1
        rw [d28, i2, zab_neg] at j2
        unfold tn at i4
        omega
    have t0 := ht.1
    refine S_l2 (q := q) (t := t) (top := 564 + zd h e 25) he q0 q1 I12 X12 t0 (by omega) (by omega) (by omega) (by omega) (fun g pg sg => ?_)
    obtain ⟨Ig, Xg, Ag, fg, n21, n40, og⟩ := pg
    have h25 : zd g e 25 = zd h e 25 := by rw [fg 25 (by decide), d25]
    have h26 : zd g e 26 = zd h e 26 := by rw [fg 26 (by decide), d26]
    have h50 : zd g e 50 = zd h2 e 50 := by rw [fg 50 (by decide), d50]
    have h52 : zd g e 52 = zd h2 e 52 := by rw [fg 52 (by decide), d52]
    have h11 : zd g e 11 = zd h e 11 := by rw [fg 11 (by decide), d11]
    have h28 : zd g (e + 28) = zd h2 (e + 28) := by rw [Ag.f (b := e + 28) (by simp only [List.mem_cons, List.not_mem_nil, or_false]; omega), d28]
    have h29 : zd g (e + 29) = zd h12 (e + 29) := Ag.f (by simp only [List.mem_cons, List.not_mem_nil, or_false]; omega)
    have h12' : zd g (e + 12) = zd h (e + 12) := by rw [Ag.f (b := e + 12) (by simp only [List.mem_cons, List.not_mem_nil, or_false]; omega), d12]
    have Sg : SI0 e g := by
      obtain ⟨-, -, q3, q4, q5, q6, -, q8⟩ := id S2
      unfold SI0
      rw [h25, h26, fg 10 (by decide), f12 10 (by decide) (by decide) (by decide) (by decide), fg 37 (by decide), f12 37 (by decide) (by decide) (by decide) (by decide), fg 36 (by decide), f12 36 (by decide) (by decide) (by decide) (by decide), Ag.f (b := e + 5) (by simp only [List.mem_cons, List.not_mem_nil, or_false]; omega), A12.f (b := e + 5) (by simp only [List.mem_cons, List.not_mem_nil, or_false]; omega), Ag.t, Ag.l, Ag.t, Ag.l, A12.t, A12.l, A12.t, A12.l]
      rw [c25] at q3 q5
      rw [c26] at q4
      refine ⟨Ig, Xg, q3, q4, q5, q6, ?_, q8.1, q8.2.1, q8.2.2.1, q8.2.2.2.1, ?_, ?_⟩
      · unfold EW at W12 ⊢
        rw [h11, ← d11, fg 22 (by decide), Ag.f (b := e + 15) (by simp only [List.mem_cons, List.not_mem_nil, or_false]; omega)]; exact W12
      · rw [Ag.f (b := e + 18) (by simp only [List.mem_cons, List.not_mem_nil, or_false]; omega), A12.f (b := e + 18) (by simp only [List.mem_cons, List.not_mem_nil, or_false]; omega)]; exact q8.2.2.2.2.1
      · have z := q8.2.2.2.2.2
        unfold EAs at z ⊢
        rw [h11, ← c11, fg 28 (by decide), f12 28 (by decide) (by decide) (by decide) (by decide), Ag.f (b := e + 21) (by simp only [List.mem_cons, List.not_mem_nil, or_false]; omega), A12.f (b := e + 21) (by simp only [List.mem_cons, List.not_mem_nil, or_false]; omega)]; exact z
    refine S_fin (q := q) he q0 q1 Sg s0 s1 (by omega) (by omega) (by omega) (by omega) (fun j j0 j1 => by rw [h11, h28]; exact hit j j0 (by omega)) (fun z => ?_) (fun h' S' r25 fr' fs => ?_)
    · have e21 : zd g e 21 = t := by omega
      rw [h28, h50, h12', e21]
      constructor
      · have o := og first f0 (by rw [d20]; exact f1) (by rw [d12, dtn, m1]; exact tn1)
        rw [dtn] at o
        have it := hit 0 (by decide) (by omega)
        rw [est_ab e g it, m0, zab_neg]
        unfold tn at o
        rw [o]; split <;> rfl
      · rcases ht.2.2 with z' | ⟨j, j0, j1, j2⟩
        · omega
        · refine ⟨j, j0, by omega, ?_⟩
          rw [d28] at j2; omega
    · have v31 : zd h' e 31 = zd h e 31 - 1 := by rw [fr' 31 (by decide), fg 31 (by decide), g31, c31]
      have v40 : zd h' e 40 = zd g e 40 := fr' 40 (by decide)
      refine k1 h' ⟨S', by omega, by omega⟩ v31 ?_
      intro m R C rl m98 Q' _ kq
      unfold P_M_learn
      rw [if_neg (show ¬ zd m 101 89 = 0 by have := C.1; omega)]
      refine ls m R C m98 Q' _ (fun m' t' R' C' G' MG' u' fr'' to' F' => ?_)
      have to12 : toOf e h h12 t' := by
        unfold toOf at to' ⊢
        rw [d50, d28]; exact to'
      have et : t' = t := toOf_u to12 ht
      subst et
      refine M_room q0 q1 R' (by omega) (by omega) (fun z => absurd z (by rw [c25, c26]; exact room)) (fun _ => ?_)
      rw [if_neg (by decide)]
      refine s12 m' R' C' G' (by rw [c11]; exact MG') u' _ _ _ _ Q' _ (fun m7 R7' C7 F7 a167 a155 src => ?_)
      refine sg m7 R7' C7 _ (fun m8 R8 C8 F8 b167 b155 b160 => ?_)
      have F8' : MFr q m m8 := (F'.fr.tr F7).tr F8
      rw [← h50, ← h52, ← e2]
      refine fs m8 R8 C8 ?_ (fun j j0 j1 => ?_) (fun w b w0 w1 bb => ?_) Q' (fun m9 R9 C9 l9 F9 Q9 => kq rfl m9 R9 C9 l9 (F8'.wk.tr F9) Q9)
      · rw [b155, a155, F'.1.f (b := 155) (by decide), rl, h25]
      · rw [b167, a167, h28]; exact fr'' j j0 (by omega)
      · rw [b160, h29]; exact src w b w0 w1 bb
