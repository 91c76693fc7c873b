/-! an engine begins; the model prepares -/
def EB (e : Int) (h : zH) : Prop := (zd h e 20 = 0 ∧ zd h e 21 = 0 ∧ zd h e 22 = 64 ∧ zd h e 25 = 0 ∧ zd h e 26 = 0) ∧ (zd h e 30 = 0 ∧ zd h e 32 = 0 ∧ zd h e 33 = 0 ∧ zd h e 34 = 0 ∧ zd h e 35 = 0 ∧ zd h e 36 = 0 ∧ zd h e 37 = 0 ∧ zd h e 38 = 0 ∧ zd h e 39 = 0 ∧ zd h e 40 = 1 ∧ zd h e 42 = 0) ∧ ∀ n, 1 ≤ n → n ≤ zd h e 11 → zd h (e + 11) n = 0 ∧ zd h (e + 14) n = 0
def MB (q : Int) (m : zH) : Prop := (∀ n, 0 ≤ n → n ≤ 300 → zd m 143 (301 * q + n) = 2 ∧ zd m 146 (301 * q + n) = 0) ∧ zd m 148 q = 64 ∧ zd m 150 q = 0 ∧ zd m 151 q = 0 ∧ zd m 152 (801 * q) = 0 ∧ zd m 154 q = 0 ∧ zd m 155 q = 0 ∧ zd m 161 q = 0 ∧ zd m 162 q = 1 ∧ ∀ k, 0 ≤ k → k < 10 → zd m 163 (10 * q + k) = 0
theorem R3_of {e q : Int} {h m : zH} {P : Int → Prop} {len : Int → Int} {itm : Int → Int → Int} (L : LR e h P len itm) (h1 : ∀ s, 0 ≤ s → s < 1364 → (P s ↔ mlive m q (num s))) (h2 : ∀ r, mlive m q r → ∃ s, 0 ≤ s ∧ s < 1364 ∧ num s = r) (h3 : ∀ s, 0 ≤ s → s < 1364 → P s → len s = msz m q (num s) ∧ ∀ i, 0 ≤ i → i < len s → itm s i = mit m q (num s) i) : R3 e q h m := by
  refine ⟨fun s s0 s1 ht => ?_, fun r hr => ?_⟩
  · obtain ⟨a, b⟩ := L s s0 s1
    have p := a.mp ht
    obtain ⟨b1, b2⟩ := b p
    obtain ⟨c1, c2⟩ := h3 s s0 s1 p
    refine ⟨(h1 s s0 s1).mp p, by rw [b1]; exact c1, fun i i0 i1 => ?_⟩
    rw [b1] at i1
    rw [b2 i i0 i1]; exact c2 i i0 i1
  · obtain ⟨s, s0, s1, s2⟩ := h2 r hr
    rw [← s2] at hr
    exact ⟨s, s0, s1, (L s s0 s1).1.mpr ((h1 s s0 s1).mpr hr), s2⟩
theorem rel_begin {e q : Int} {h m : zH} (eb : EB e h) (mb : MB q m) (A0 : 0 ≤ zd h e 11) (A3 : zd h e 11 ≤ 300) (hA : zd h e 11 = zd m 137 q) (wt : ∀ n, 1 ≤ n → n ≤ zd h e 11 → zd h (e + 15) n = zd m 147 (301 * q + n) ∧ 0 ≤ zd h (e + 15) n ∧ zd h (e + 15) n ≤ 1000) (r3 : R3 e q h m) (m1 : 0 ≤ zd m 138 q ∧ zd m 138 q ≤ 500) (m2 : 0 ≤ zd m 101 67 ∧ zd m 101 67 ≤ 64) (mr : ∀ r, mlive m q r → MR m q (zd h e 11) r) (r8 : R8 e q h m) (r9 : R9 e q h m) (lf : zd h e 31 = zd m 101 89) : RMs e q h m ∧ R7 e q h m ∧ zd m 155 q = zd h e 25 := by
  obtain ⟨⟨e20, e21, e22, e25, e26⟩, ⟨e30, e32, e33, e34, e35, e36, e37, e38, e39, e40, e42⟩, ev⟩ := eb
  obtain ⟨b1, b148, b150, b151, b152, b154, b155, b161, b162, b163⟩ := mb
  have z := b1 0 (by decide) (by decide)
  rw [Int.add_zero] at z
  refine ⟨⟨⟨⟨⟨A0, A3⟩, fun n n0 n1 => Or.inr (Or.inr (b1 n (by omega) (by omega)).1)⟩, m1, m2, by omega, mr⟩, ⟨fun n n0 n1 => Or.inl ⟨(ev n n0 n1).1, (b1 n (by omega) (by omega)).1⟩, fun n n0 n1 n2 => absurd (ev n n0 n1).1 n2, by omega, fun i i0 i1 => by omega, by omega, hA⟩, r3, ?_, ?_, ?_, r8, r9⟩, ?_, by omega⟩
  · refine ⟨fun n n0 n1 => ⟨by rw [(ev n n0 n1).2, (b1 n (by omega) (by omega)).2], (wt n n0 n1).1, (wt n n0 n1).2.1, by have := (wt n n0 n1).2.2; omega⟩, z.2, by omega, by omega⟩
  · refine ⟨by omega, ?_, b152, fun k k0 k1 => by omega, ?_, by omega, fun k k0 k1 => by omega, fun k k0 k1 => by omega, ?_⟩
    · rw [e25, Int.add_zero, b152]; exact e26
    · rw [e25, Int.add_zero, b152]; decide
    · rw [e37, b155]; rfl
  · exact ⟨fun n n0 n1 n2 => absurd (ev n n0 n1).1 n2, fun k k0 k1 => by omega⟩
  · have c := fun k k0 k1 => b163 k k0 k1
    refine ⟨lf, ?_, ?_, ?_, ?_, ?_, ?_, ?_, by omega, by omega⟩
    · rw [e30, c 1 (by decide) (by decide)]
    · rw [e32, c 2 (by decide) (by decide)]
    · rw [e33, c 3 (by decide) (by decide)]
    · rw [e34, c 4 (by decide) (by decide)]
    · rw [e35, c 5 (by decide) (by decide)]
    · rw [e36, c 6 (by decide) (by decide)]
    · rw [e38, c 9 (by decide) (by decide)]
/-- what clear and layCase leave -/
def BgP (e w : Int) (h h' : zH) : Prop := yA [e, e + 1, e + 2, e + 3, e + 4, e + 5, e + 6, e + 7, e + 8, e + 9, e + 10, e + 11, e + 14, e + 15] h h' ∧ EB e h' ∧ SI e h' ∧ (zd h' e 11 = zd h 14 2 ∧ zd h' e 28 = 0 ∧ zd h' e 29 = -1005 ∧ zd h' e 45 = 0 ∧ zd h' e 31 = zd h e 31) ∧ (0 ≤ zd h' e 10 ∧ zd h' e 10 ≤ 2500) ∧ (ES e h' 500 ∧ EC e h') ∧ (∀ n, 1 ≤ n → n ≤ zd h 14 2 → zd h' (e + 15) n = zd h (zd h 15 (n - 1)) 1) ∧ LR e h' (fun s => s < zd h 14 18 ∧ (w = 0 ∨ zd h w s = 0)) (fun s => zd h 23 (s + 1) - zd h 23 s) (fun s i => zd h 22 (zd h 23 s + i))
theorem SI_begin {e : Int} {h : zH} (he : zE e) (st : TG h) (hs : ES e h 564) (hc : EC e h) (eb : EB e h) (c10 : zd h e 10 ≤ 3780) (wt : ∀ n, 1 ≤ n → n ≤ zd h e 11 → 0 ≤ zd h (e + 15) n ∧ zd h (e + 15) n ≤ 1000) (z18 : zd h (e + 18) 0 = 0) (ea : EAs e h) : SI e h := by
  obtain ⟨⟨e20, e21, e22, e25, e26⟩, ⟨e30, e32, e33, e34, e35, e36, e37, e38, e39, e40, e42⟩, ev⟩ := id eb
  have tg : zt h (e + 16) = 53 ∧ zl h (e + 16) = 2408 ∧ zt h (e + 28) = 50 ∧ zl h (e + 28) = 300 ∧ zt h (e + 29) = 53 ∧ zl h (e + 29) = 8 := by
    rcases he with z | z
    · rw [z]
      have a := st_t st (a := 41) (by decide) (by decide)
      have b := st_t st (a := 53) (by decide) (by decide)
      have c := st_t st (a := 54) (by decide) (by decide)
      exact ⟨a.1, a.2, b.1, b.2, c.1, c.2⟩
    · rw [z]
      have a := st_t st (a := 74) (by decide) (by decide)
      have b := st_t st (a := 86) (by decide) (by decide)
      have c := st_t st (a := 87) (by decide) (by decide)
      exact ⟨a.1, a.2, b.1, b.2, c.1, c.2⟩
  obtain ⟨I, X⟩ := E_empty hs hc e20 e21 (fun n n0 n1 => (ev n n0 n1).1) tg.1 tg.2.1
  refine ⟨⟨by rw [e25]; exact I, X, by omega, by omega, by rw [e37, e25]; rfl, by rw [e36]; exact w32_of (by decide) (by decide), ⟨fun n n0 n1 => by have := wt n n0 n1; omega, by omega, by omega⟩, tg.2.2.1, tg.2.2.2.1, tg.2.2.2.2.1, tg.2.2.2.2.2, z18, ea⟩, by omega, by omega⟩
theorem E_begin {e w : Int} {h : zH} {K : Int → zH → Prop} (he : zE e) (st : TG h) (cs : CaseE h) (ep : EP e h) (z18 : zd h (e + 18) 0 = 0) (hw : w = 0 ∨ w = 96) (k : ∀ h', BgP e w h h' → K 0 h') : P_E_clear e h (fun _ h2 => P_E_layCase e w h2 K) := by
  have eR : 25 ≤ e ∧ e ≤ 58 := by rcases he with z | z <;> omega
  obtain ⟨N1, N2, N3, N4, N5, N6, N7, N8⟩ := id cs
  refine L_clear he ep N1.1 N1.2 (fun n n0 n1 => (N7 n n0 n1).1) (fun h2 pc hs2 hc2 hT2 => ?_)
  obtain ⟨cA, cf, c5, cn⟩ := pc
  have st2 : TG h2 := st.y cA
  have c14 : zd h2 14 = zd h 14 := cA.f (by simp only [List.mem_cons, List.not_mem_nil, or_false]; omega)
  have c15 : zd h2 15 = zd h 15 := cA.f (by simp only [List.mem_cons, List.not_mem_nil, or_false]; omega)
  have c22 : zd h2 22 = zd h 22 := cA.f (by simp only [List.mem_cons, List.not_mem_nil, or_false]; omega)
  have c23 : zd h2 23 = zd h 23 := cA.f (by simp only [List.mem_cons, List.not_mem_nil, or_false]; omega)
  have dyn : ∀ n, 1 ≤ n → n ≤ zd h 14 2 → zd h2 (zd h 15 (n - 1)) = zd h (zd h 15 (n - 1)) := fun n n0 n1 => by
    have := (N7 n n0 n1).1.2
    exact cA.f (by simp only [List.mem_cons, List.not_mem_nil, or_false]; omega)
  have cs2 : CaseE h2 := by
    unfold CaseE
    rw [c14, c15, c22, c23]
    refine ⟨N1, N2, N3, N4, N5, N6, fun n n0 n1 => ?_, N8⟩
    rw [cA.t, dyn n n0 n1, show zn h2 = zn h from by unfold zn; rw [cA.1]]; exact N7 n n0 n1
  have f11 : zd h2 e 11 = zd h 14 2 := by rw [cf, if_pos rfl]
  have clr : ∀ j, j ≠ 11 → j ≠ 22 → j ≠ 29 → j ≠ 40 → eclr j = true → zd h2 e j = 0 := fun j n1 n2 n3 n4 n5 => by rw [cf, if_neg n1, if_neg n2, if_neg n3, if_neg n4, if_pos n5]
  have oth : ∀ j, j ≠ 11 → j ≠ 22 → j ≠ 29 → j ≠ 40 → eclr j = false → zd h2 e j = zd h e j := fun j n1 n2 n3 n4 n5 => by rw [cf, if_neg n1, if_neg n2, if_neg n3, if_neg n4, if_neg (by rw [n5]; decide)]
  refine E_layCase he st2 cs2 hs2 hc2 (clr 10 (by decide) (by decide) (by decide) (by decide) (by decide)) (by rw [f11, c14]) hw c5 (fun h' a' f' c10 hs' hc' L' => ?_)
  have g : ∀ j, j ≠ 10 → zd h' e j = zd h2 e j := f'
  have v11 : zd h' e 11 = zd h 14 2 := by rw [g 11 (by decide), f11]
  have eb : EB e h' := by
    refine ⟨⟨?_, ?_, ?_, ?_, ?_⟩, ⟨?_, ?_, ?_, ?_, ?_, ?_, ?_, ?_, ?_, ?_, ?_⟩, fun n n0 n1 => ?_⟩
    · rw [g 20 (by decide)]; exact clr 20 (by decide) (by decide) (by decide) (by decide) (by decide)
    · rw [g 21 (by decide)]; exact clr 21 (by decide) (by decide) (by decide) (by decide) (by decide)
    · rw [g 22 (by decide), cf]; rfl
    · rw [g 25 (by decide)]; exact clr 25 (by decide) (by decide) (by decide) (by decide) (by decide)
    · rw [g 26 (by decide)]; exact clr 26 (by decide) (by decide) (by decide) (by decide) (by decide)
    · rw [g 30 (by decide)]; exact clr 30 (by decide) (by decide) (by decide) (by decide) (by decide)
    · rw [g 32 (by decide)]; exact clr 32 (by decide) (by decide) (by decide) (by decide) (by decide)
    · rw [g 33 (by decide)]; exact clr 33 (by decide) (by decide) (by decide) (by decide) (by decide)
    · rw [g 34 (by decide)]; exact clr 34 (by decide) (by decide) (by decide) (by decide) (by decide)
    · rw [g 35 (by decide)]; exact clr 35 (by decide) (by decide) (by decide) (by decide) (by decide)
    · rw [g 36 (by decide)]; exact clr 36 (by decide) (by decide) (by decide) (by decide) (by decide)
    · rw [g 37 (by decide)]; exact clr 37 (by decide) (by decide) (by decide) (by decide) (by decide)
    · rw [g 38 (by decide)]; exact clr 38 (by decide) (by decide) (by decide) (by decide) (by decide)
    · rw [g 39 (by decide)]; exact clr 39 (by decide) (by decide) (by decide) (by decide) (by decide)
    · rw [g 40 (by decide), cf]; rfl
    · rw [g 42 (by decide)]; exact clr 42 (by decide) (by decide) (by decide) (by decide) (by decide)
    · rw [v11] at n1
      rw [a'.f (b := e + 11) (by simp only [List.mem_cons, List.not_mem_nil, or_false]; omega), a'.f (b := e + 14) (by simp only [List.mem_cons, List.not_mem_nil, or_false]; omega)]
      exact ⟨(cn n n0 n1).1, (cn n n0 n1).2.1⟩
  have wt : ∀ n, 1 ≤ n → n ≤ zd h 14 2 → zd h' (e + 15) n = zd h (zd h 15 (n - 1)) 1 := fun n n0 n1 => by
    rw [a'.f (b := e + 15) (by simp only [List.mem_cons, List.not_mem_nil, or_false]; omega)]; exact (cn n n0 n1).2.2
  have v28 : zd h' e 28 = 0 := by rw [g 28 (by decide)]; exact clr 28 (by decide) (by decide) (by decide) (by decide) (by decide)
  have bigA : yA [e, e + 1, e + 2, e + 3, e + 4, e + 5, e + 6, e + 7, e + 8, e + 9, e + 10, e + 11, e + 14, e + 15] h h' := (cA.mono (by simp)).tr (a'.mono (by simp))
  refine k h' ⟨bigA, eb, ?_, ⟨v11, v28, ?_, ?_, ?_⟩, c10, ⟨hs', hc'⟩, wt, ?_⟩
  · refine SI_begin he (st2.y a') (hs'.up (by decide) (by decide)) hc' eb (by omega) (fun n n0 n1 => ?_) ?_ ⟨by omega, fun k k0 k1 => by omega⟩
    · rw [v11] at n1
      rw [wt n n0 n1]; exact (N7 n n0 n1).2.1
    · rw [bigA.f (b := e + 18) (by simp only [List.mem_cons, List.not_mem_nil, or_false]; omega)]; exact z18
  · rw [g 29 (by decide), cf]; rfl
  · rw [g 45 (by decide)]; exact clr 45 (by decide) (by decide) (by decide) (by decide) (by decide)
  · rw [g 31 (by decide)]; exact oth 31 (by decide) (by decide) (by decide) (by decide) (by decide)
  · rw [c14, c22, c23] at L'
    refine L'.imp (fun s s0 s1 => ⟨fun z => ⟨z.1, z.2.imp id (fun y => ?_)⟩, fun z => ⟨z.1, z.2.imp id (fun y => ?_)⟩⟩)
    · rcases hw with w0 | w0
      · rw [w0] at y ⊢; rw [cA.d (b := 0) (by simp only [List.mem_cons, List.not_mem_nil, or_false]; omega)] at y; exact y
      · rw [w0] at y ⊢; rw [cA.d (b := 96) (by simp only [List.mem_cons, List.not_mem_nil, or_false]; omega)] at y; exact y
    · rcases hw with w0 | w0
      · rw [w0] at y ⊢; rw [cA.d (b := 0) (by simp only [List.mem_cons, List.not_mem_nil, or_false]; omega)]; exact y
      · rw [w0] at y ⊢; rw [cA.d (b := 96) (by simp only [List.mem_cons, List.not_mem_nil, or_false]; omega)]; exact y
