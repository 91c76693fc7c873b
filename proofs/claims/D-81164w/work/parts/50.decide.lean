/-! deciding, here and there -/
theorem zct_1 {f : Int → Int} {v a : Int} {n : Nat} (h : zct f v a n < n) : ∃ i, a ≤ i ∧ i < a + n ∧ f i ≠ v := by
  apply Classical.byContradiction
  intro q
  have := (zct_all (f := f) (v := v) (a := a) (n := n)).mpr (fun i i0 i1 => Classical.byContradiction (fun c => q ⟨i, i0, i1, c⟩))
  omega
theorem zct_2 {f : Int → Int} {v a : Int} {n : Nat} (h : zct f v a n + 2 ≤ n) : ∃ i j, a ≤ i ∧ i < j ∧ j < a + n ∧ f i ≠ v ∧ f j ≠ v := by
  induction n with
  | zero => have := zct_le f v a 0; omega
  | succ n ih =>
    unfold zct at h
    by_cases c : f (a + (n : Int)) = v
    · rw [if_pos c] at h
      obtain ⟨i, j, h1, h2, h3, h4⟩ := ih (by omega)
      exact ⟨i, j, h1, h2, by omega, h4⟩
    · rw [if_neg c] at h
      obtain ⟨i, h1, h2, h3⟩ := zct_1 (f := f) (v := v) (a := a) (n := n) (by omega)
      exact ⟨i, a + n, h1, h2, by omega, h3, c⟩
/-- no row forces: a row is true, or two of its items are open -/
theorem cold_row {e top s : Int} {h : zH} (p : EInv e h top) (s0 : 0 ≤ s) (s1 : s < 1364) (ht : zd h (e + 5) s = 1) (nh : ¬ Ehot e h s) : (∃ c, zd h (e + 1) s ≤ c ∧ c < zd h (e + 1) s + zd h (e + 2) s ∧ est e h (zd h (e + 7) c) = 1 ∧ zd h (e + 12) (zab (zd h (e + 7) c)) ≤ zd h e 21) ∨ (∃ c c', zd h (e + 1) s ≤ c ∧ c < c' ∧ c' < zd h (e + 1) s + zd h (e + 2) s ∧ est e h (zd h (e + 7) c) = 0 ∧ est e h (zd h (e + 7) c') = 0) := by
  obtain ⟨hs, hc, hT, hL, -, -, -⟩ := p
  have ls : elaid e h s := Or.inl ⟨s0, s1, ht⟩
  obtain ⟨-, ⟨f0, z0, f1⟩, -⟩ := hs.2.2.2.2.2.1 s ls
  obtain ⟨c1, c2⟩ := hc.1 s ls
  have it : ∀ c, zd h (e + 1) s ≤ c → c < zd h (e + 1) s + zd h (e + 2) s → eit (zd h e 11) (zd h (e + 7) c) := fun c k0 k1 => (hs.2.2.2.2.1 c (by omega) (by omega)).1
  have vr : ∀ c, zd h (e + 1) s ≤ c → c < zd h (e + 1) s + zd h (e + 2) s → est e h (zd h (e + 7) c) = 0 ∨ est e h (zd h (e + 7) c) = 1 ∨ est e h (zd h (e + 7) c) = -1 := by
    intro c k0 k1
    have i := it c k0 k1
    have v := hc.2.2 (zab (zd h (e + 7) c)) (zab_r i).1 (zab_r i).2
    rw [est_ab e h i]; split <;> omega
  by_cases z : zd h (e + 4) s = 0
  · right
    have fl : zd h (e + 3) s + 2 ≤ zd h (e + 2) s := by
      rcases Int.lt_or_le (zd h (e + 3) s) (zd h (e + 2) s - 1) with q | q
      · omega
      · exact absurd ⟨by omega, z, q⟩ nh
    rw [c1] at z
    rw [c2] at fl
    unfold ecnt at z fl
    have nt := zct_0.mp z
    obtain ⟨i, j, h1, h2, h3, h4, h5⟩ := zct_2 (f := fun c => est e h (zd h (e + 7) c)) (v := -1) (a := zd h (e + 1) s) (n := (zd h (e + 2) s).toNat) (by omega)
    refine ⟨i, j, h1, h2, by omega, ?_, ?_⟩
    · have a1 := nt i h1 (by omega)
      have a2 := vr i h1 (by omega)
      have a1 : est e h (zd h (e + 7) i) ≠ 1 := a1
      have h4 : est e h (zd h (e + 7) i) ≠ -1 := h4
      omega
    · have a1 := nt j (by omega) h3
      have a2 := vr j (by omega) (by omega)
      have a1 : est e h (zd h (e + 7) j) ≠ 1 := a1
      have h5 : est e h (zd h (e + 7) j) ≠ -1 := h5
      omega
  · left
    rw [c1] at z
    unfold ecnt at z
    have : ¬ ∀ i, zd h (e + 1) s ≤ i → i < zd h (e + 1) s + (zd h (e + 2) s).toNat → est e h (zd h (e + 7) i) ≠ 1 := fun q => z (zct_0.mpr q)
    apply Classical.byContradiction
    intro q
    apply this
    intro i i0 i1 c
    refine q ⟨i, i0, by omega, c, ?_⟩
    have ii := it i i0 (by omega)
    have zr := zab_r ii
    have vn : zd h (e + 11) (zab (zd h (e + 7) i)) ≠ 0 := by rw [est_ab e h ii] at c; split at c <;> omega
    obtain ⟨j, j0, j1, j2⟩ := hL.1.2.2.2 _ zr.1 zr.2 vn
    have := hL.1.2.1 j j0 j1
    rw [j2] at this; exact this.2
theorem now_r {e top : Int} {h : zH} (p : EInv e h top) : 0 ≤ zd h e 21 ∧ zd h e 21 ≤ zd h e 20 := by
  obtain ⟨-, -, hT, hL, -, -, -⟩ := p
  have := hL.1.1
  refine ⟨this.1, ?_⟩
  by_cases c : zd h e 21 = 0
  · have := hT.1; omega
  · have a := (hL.1.2.2.1 (zd h e 21) (by omega) (Int.le_refl _)).1
    have b := (hL.2 (zd h e 21) (by omega) (Int.le_refl _)).1
    omega
theorem E_dec {e top x : Int} {h : zH} {K : Int → zH → Prop} (p : EInv e h top) (hX : EX e h) (nh : ∀ s, 0 ≤ s → s < 1364 → ¬ Ehot e h s) (hx : eit (zd h e 11) x) (ho : est e h x = 0)
    (k : ∀ h3 h', h3 = zw (zw (zw h e 21 (zd h e 21 + 1)) (e + 18) (zd h e 21 + 1) (zd h e 20)) e 38 (zmax (zd h e 38) (zd h e 21 + 1)) → EsetP e x (-1005) h3 h' → EInv e h' top → EX e h' → K 0 h') : P_E_up e h (fun _ h2 => P_E_set e x (-1005) h2 K) := by
  have nr := now_r p
  obtain ⟨hs, hc, hT, hL, hO, t16, l16⟩ := id p
  have T1 := hT.1
  unfold P_E_up
  rw [w32_of (x := zd h e 21 + 1) (by omega) (by omega)]
  intro h1 e1
  have a1 : zd h1 e 21 = zd h e 21 + 1 := by rw [e1, zd_s]
  have a2 : zd h1 e 20 = zd h e 20 := by rw [e1, zd_i (by decide)]
  rw [a1, a2]
  refine ⟨⟨by omega, by omega⟩, ?_⟩
  intro h2 e2
  have a3 : zd h2 e 38 = zd h e 38 := by rw [e2, zd_a (by omega), e1, zd_i (by decide)]
  have a4 : zd h2 e 21 = zd h e 21 + 1 := by rw [e2, zd_a (by omega), a1]
  rw [a3, a4]
  intro h3 e3
  have ek : h3 = zw (zw (zw h e 21 (zd h e 21 + 1)) (e + 18) (zd h e 21 + 1) (zd h e 20)) e 38 (zmax (zd h e 38) (zd h e 21 + 1)) := by rw [e3, e2, e1]
  clear e3 e2 e1 a1 a2 a3 a4 h1 h2
  have k3 : ∀ b, b ≠ e → b ≠ e + 18 → zd h3 b = zd h b := fun b n1 n2 => by rw [ek, zw_f n1, zw_f n2, zw_f n1]
  have f3 : ∀ j, j ≠ 21 → j ≠ 38 → zd h3 e j = zd h e j := fun j n1 n2 => by rw [ek, zd_i n2, zd_a (by omega), zd_i n1]
  have f21 : zd h3 e 21 = zd h e 21 + 1 := by rw [ek, zd_i (by decide), zd_a (by omega), zd_s]
  have l3 : ∀ j, zd h3 (e + 18) j = if j = zd h e 21 + 1 then zd h e 20 else zd h (e + 18) j := by
    intro j
    rw [ek, zd_a (by omega)]
    by_cases c : j = zd h e 21 + 1
    · rw [if_pos c, c, zd_s]
    · rw [if_neg c, zd_i c, zd_a (by omega)]
  have hs3 : ES e h3 top := hs.cg (f3 10 (by decide) (by decide)) (f3 11 (by decide) (by decide)) (k3 _ (by omega) (by omega)) (k3 _ (by omega) (by omega)) (k3 _ (by omega) (by omega)) (k3 _ (by omega) (by omega)) (k3 _ (by omega) (by omega)) (k3 _ (by omega) (by omega)) (k3 _ (by omega) (by omega))
  have es3 : ∀ z, est e h3 z = est e h z := fun z => by unfold est; rw [k3 _ (by omega) (by omega)]
  have hc3 : EC e h3 := by
    refine ⟨fun s ls => ?_, hc.2.1.cg (k3 _ (by omega) (by omega)) (k3 _ (by omega) (by omega)) (k3 _ (by omega) (by omega)) (k3 _ (by omega) (by omega)) (k3 _ (by omega) (by omega)), ?_⟩
    · have := hc.1 s ((elaid.cg (f3 10 (by decide) (by decide)) (k3 _ (by omega) (by omega)) (k3 _ (by omega) (by omega))).mp ls)
      unfold ecnt est at this ⊢
      rw [k3 (e + 4) (by omega) (by omega), k3 (e + 3) (by omega) (by omega), k3 (e + 11) (by omega) (by omega), k3 (e + 7) (by omega) (by omega), k3 (e + 1) (by omega) (by omega), k3 (e + 2) (by omega) (by omega)]
      exact this
    · rw [f3 11 (by decide) (by decide), k3 (e + 11) (by omega) (by omega)]; exact hc.2.2
  have hT3 : ET e h3 := by
    unfold ET est at hT ⊢
    rw [f3 20 (by decide) (by decide), f3 11 (by decide) (by decide), k3 (e + 17) (by omega) (by omega), k3 (e + 11) (by omega) (by omega)]; exact hT
  have tn3 : ∀ i, tn e h3 i = tn e h i := fun i => by unfold tn; rw [k3 _ (by omega) (by omega)]
  obtain ⟨⟨L1, L2, L3, L4⟩, L5⟩ := hL
  have hL3 : ELg e h3 := by
    refine ⟨by rw [f21]; omega, fun i i0 i1 => ?_, fun l l0 l1 => ?_, fun n n0 n1 n2 => ?_⟩
    · rw [f3 20 (by decide) (by decide)] at i1
      have := L2 i i0 i1
      rw [tn3, k3 (e + 12) (by omega) (by omega), f21]; omega
    · rw [f21] at l1
      rw [f3 20 (by decide) (by decide), l3]
      by_cases c : l = zd h e 21 + 1
      · rw [if_pos c]
        refine ⟨by omega, fun i i0 i1 => ?_⟩
        have := L2 i i0 i1
        rw [tn3, k3 (e + 12) (by omega) (by omega)]; omega
      · rw [if_neg c]
        obtain ⟨b1, b2⟩ := L3 l l0 (by omega)
        refine ⟨b1, fun i i0 i1 => ?_⟩
        rw [tn3, k3 (e + 12) (by omega) (by omega)]; exact b2 i i0 i1
    · rw [f3 11 (by decide) (by decide)] at n1
      rw [k3 (e + 11) (by omega) (by omega)] at n2
      obtain ⟨i, i0, i1, i2⟩ := L4 n n0 n1 n2
      exact ⟨i, i0, by rw [f3 20 (by decide) (by decide)]; exact i1, by rw [tn3]; exact i2⟩
  have hO3 : EO e h3 := by
    intro i i0 i1
    rw [f3 20 (by decide) (by decide)] at i1
    have o := hO i i0 i1
    have lv := L2 i i0 i1
    unfold EOi at o ⊢
    rw [tn3, k3 (e + 13) (by omega) (by omega), k3 (e + 12) (by omega) (by omega), k3 (e + 5) (by omega) (by omega), k3 (e + 1) (by omega) (by omega), k3 (e + 2) (by omega) (by omega), k3 (e + 7) (by omega) (by omega), k3 (e + 17) (by omega) (by omega), l3, if_neg (show ¬ zd h (e + 12) (tn e h i) = zd h e 21 + 1 by omega)]
    exact o
  have hX3 : EX e h3 := by
    intro L M0 M1 s s0 s1 ht
    rw [f21] at M1
    rw [k3 (e + 5) (by omega) (by omega)] at ht
    simp only [es3]
    rw [k3 (e + 1) (by omega) (by omega), k3 (e + 2) (by omega) (by omega), k3 (e + 7) (by omega) (by omega), k3 (e + 12) (by omega) (by omega)]
    by_cases c : L = zd h e 21 + 1
    · rcases cold_row p s0 s1 ht (nh s s0 s1) with ⟨c', b0, b1, b2, b3⟩ | ⟨c', c'', b0, b1, b2, b3, b4⟩
      · exact Or.inl ⟨c', b0, b1, b2, by omega⟩
      · exact Or.inr ⟨c', c'', b0, b1, b2, Or.inl b3, Or.inl b4⟩
    · exact hX L M0 (by omega) s s0 s1 ht
  have hx3 : eit (zd h3 e 11) x := by rw [f3 11 (by decide) (by decide)]; exact hx
  have ho3 : est e h3 x = 0 := by rw [es3]; exact ho
  have room := tr_room hs hT hx ho
  have A3 := hs.1
  refine L_set hs3 hc3 hx3 ho3 (by rw [f3 20 (by decide) (by decide)]; exact T1.1) (by rw [f3 20 (by decide) (by decide)]; omega) (fun q => by rw [f21] at q; omega) (fun h' q1 q2 q3 => k h3 h' ek q1 ⟨q2, q3, set_ET q1 hs3 hT3 hx3 ho3 (by rw [f3 20 (by decide) (by decide)]; omega), set_EL q1 hs3 hT3 hx3 ho3 hL3 (fun l l0 l1 => ?_), set_EO q1 hs3 hT3 hx3 ho3 hO3 (Or.inl ⟨rfl, by rw [f21]; omega, ?_⟩), by rw [q1.1.t, ek]; exact t16, by rw [q1.1.l, ek]; exact l16⟩ (set_EX q1 hs3 hx3 ho3 hX3))
  · rw [f21] at l1
    rw [f3 20 (by decide) (by decide), f21, l3]
    by_cases c : l = zd h e 21 + 1
    · rw [if_pos c]; exact Or.inr ⟨c, rfl⟩
    · rw [if_neg c]
      refine Or.inl ?_
      rw [tn3, k3 (e + 12) (by omega) (by omega)]; exact L5 l l0 (by omega)
  · rw [f21, l3, if_pos rfl, f3 20 (by decide) (by decide)]
/-- the model's part -/
theorem S_dec {e q top x v w : Int} {h h1 h3 h' m : zH} {Q : Int → zH → Prop} (he : zE e) (q0 : 0 ≤ q) (q1 : q ≤ 1) (p : EInv e h top) (hx : eit (zd h e 11) x) (hx0 : x ≠ 0) (ho : est e h x = 0) (r : RMs e q h m) (r7 : R7 e q h m) (hl : zd h e 31 ≠ 0)
    (e1 : h1 = zw (zw (zw h e 31 (w32 (zd h e 31 - 1))) e 30 (w32 (zd h e 30 + 1))) e 33 (w32 (zd h e 33 + 1)))
    (e3 : h3 = zw (zw (zw h1 e 21 (zd h1 e 21 + 1)) (e + 18) (zd h1 e 21 + 1) (zd h1 e 20)) e 38 (zmax (zd h1 e 38) (zd h1 e 21 + 1))) (pe : EsetP e x (-1005) h3 h')
    (k : ∀ m', RMs e q h' m' → R7 e q h' m' → MFr q m m' → Q 7 m') : P_M_oneTurn_J168 q x m Q := by
  have eR : 25 ≤ e ∧ e ≤ 58 := by rcases he with z | z <;> omega
  have nr := now_r p
  obtain ⟨hs, hc, hT, hL, hO, t16, l16⟩ := id p
  have A3 := hs.1
  have T1 := hT.1
  have room := tr_room hs hT hx ho
  unfold P_M_oneTurn_J168
  simp only [w32_al, w32_ar, w32_sl, w32_sr, w32_ml, w32_mr]
  rw [if_neg hx0, w32_of (x := 10 * q + 3) (by omega) (by omega), w32_of (x := 10 * q + 9) (by omega) (by omega)]
  refine M_takes q0 q1 (fun z => absurd (r7.1.trans z) hl) (fun z m4 e4 => ?_)
  rw [if_neg (by decide)]
  refine ⟨⟨by omega, by omega⟩, ⟨by omega, by omega⟩, ?_⟩
  intro m5 e5
  refine ⟨⟨by omega, by omega⟩, ⟨by omega, by omega⟩, ?_⟩
  have n5 : zd m5 151 q = zd h e 21 := by rw [e5, zd_a (by decide), e4, zd_a (by decide), zd_a (by decide)]; exact r.2.1.2.2.2.2.1.symm
  rw [n5, w32_of (x := zd h e 21 + 1) (by omega) (by omega)]
  intro m6 e6
  have n6 : zd m6 151 q = zd h e 21 + 1 := by rw [e6, zd_s]
  have g6 : zd m6 163 (10 * q + 9) = zd h e 38 := by rw [e6, zd_a (by decide), e5, zd_i (by omega), e4, zd_i (by omega), zd_a (by decide)]; exact r7.2.2.2.2.2.2.2.1.symm
  rw [n6, g6]
  refine ⟨⟨by omega, by omega⟩, ⟨by omega, by omega⟩, zif_i (fun _ => ⟨⟨by omega, by omega⟩, trivial⟩) (fun _ => ⟨⟨by omega, by omega⟩, trivial⟩), ⟨by omega, by omega⟩, ?_⟩
  intro m7 e7
  have k1 : ∀ b, b ≠ e → zd h1 b = zd h b := fun b hb => by rw [e1, zw_f hb, zw_f hb, zw_f hb]
  have f1 : ∀ j, j ≠ 30 → j ≠ 31 → j ≠ 33 → zd h1 e j = zd h e j := fun j a b c => by rw [e1, zd_i c, zd_i a, zd_i b]
  have n1 : zd h1 e 21 = zd h e 21 := f1 21 (by decide) (by decide) (by decide)
  have k3 : ∀ b, b ≠ e → b ≠ e + 18 → zd h3 b = zd h b := fun b a b' => by rw [e3, zw_f a, zw_f b', zw_f a, k1 b a]
  have f3 : ∀ j, j ≠ 21 → j ≠ 30 → j ≠ 31 → j ≠ 33 → j ≠ 38 → zd h3 e j = zd h e j := fun j a b c d f => by rw [e3, zd_i f, zd_a (by omega), zd_i a, f1 j b c d]
  have f21 : zd h3 e 21 = zd h e 21 + 1 := by rw [e3, zd_i (by decide), zd_a (by omega), zd_s, n1]
  have f38 : zd h3 e 38 = zmax (zd h e 38) (zd h e 21 + 1) := by rw [e3, zd_s, n1, f1 38 (by decide) (by decide) (by decide)]
  have mk : ∀ b, b ≠ 101 → b ≠ 151 → b ≠ 163 → zd m7 b = zd m b := fun b a b' c => by rw [e7, zw_f c, e6, zw_f b', e5, zw_f c, e4, zw_f c, zw_f a]
  have mf : ∀ j, j ≠ 89 → zd m7 101 j = zd m 101 j := fun j a => by rw [e7, zd_a (by decide), e6, zd_a (by decide), e5, zd_a (by decide), e4, zd_a (by decide), zd_i a]
  have m151 : ∀ j, zd m7 151 j = if j = q then zd h e 21 + 1 else zd m 151 j := by
    intro j
    rw [e7, zd_a (by decide), e6]
    by_cases c : j = q
    · rw [if_pos c, c, zd_s]
    · rw [if_neg c, zd_i c, e5, zd_a (by decide), e4, zd_a (by decide), zd_a (by decide)]
  have m163 : ∀ j, zd m7 163 j = if j = 10 * q + 9 then (if zd h e 38 ≤ zd h e 21 + 1 then zd h e 21 + 1 else zd h e 38) else if j = 10 * q + 3 then w32 (zd m 163 (10 * q + 3) + 1) else if j = 10 * q + 1 then w32 (zd m 163 (10 * q + 1) + 1) else zd m 163 j := by
    intro j
    rw [e7]
    by_cases c : j = 10 * q + 9
    · rw [if_pos c, c, zd_s]
    · rw [if_neg c, zd_i c, e6, zd_a (by decide), e5]
      by_cases c2 : j = 10 * q + 3
      · rw [if_pos c2, c2, zd_s, e4, zd_i (by omega), zd_a (by decide)]
      · rw [if_neg c2, zd_i c2, e4]
        by_cases c3 : j = 10 * q + 1
        · rw [if_pos c3, c3, zd_s]
        · rw [if_neg c3, zd_i c3, zd_a (by decide)]
  have l7 : zd m7 101 89 = w32 (zd m 101 89 - 1) := by rw [e7, zd_a (by decide), e6, zd_a (by decide), e5, zd_a (by decide), e4, zd_a (by decide), zd_s]
  obtain ⟨r1, r2, r3, r4, r5, r6, r8, r9⟩ := r
  have ca : ∀ k, k ∈ ([1, 2, 5, 7, 11, 12, 13, 14, 15, 16, 17, 19, 20, 21] : List Int) → zd h3 (e + k) = zd h (e + k) := fun k hk => k3 _ (by simp only [List.mem_cons, List.not_mem_nil, or_false] at hk; omega) (by simp only [List.mem_cons, List.not_mem_nil, or_false] at hk; omega)
  have cf : ∀ k, k ∈ ([10, 11, 20, 22, 25, 26, 28, 34, 37] : List Int) → zd h3 e k = zd h e k := fun k hk => by
    simp only [List.mem_cons, List.not_mem_nil, or_false] at hk
    exact f3 k (by omega) (by omega) (by omega) (by omega) (by omega)
  have cb : ∀ k, k ∈ ([119, 120, 123, 124, 137, 138, 139, 140, 141, 143, 144, 145, 146, 147, 148, 149, 150, 152, 153, 154, 155, 156, 157, 158, 159] : List Int) → zd m7 k = zd m k := fun k hk => by
    simp only [List.mem_cons, List.not_mem_nil, or_false] at hk
    exact mk k (by omega) (by omega) (by omega)
  have cc : ∀ k, k ∈ ([30, 31, 58, 66, 67] : List Int) → zd m7 101 k = zd m 101 k := fun k hk => mf k (by simp only [List.mem_cons, List.not_mem_nil, or_false] at hk; omega)
  have R2' : R2 e q h3 m7 := by
    obtain ⟨v1, v2, v3, v4, v5, v6⟩ := r2
    unfold R2
    rw [cf 11 (by decide), ca 11 (by decide), ca 12 (by decide), ca 13 (by decide), ca 17 (by decide), cf 20 (by decide), f21, cb 143 (by decide), cb 144 (by decide), cb 145 (by decide), cb 150 (by decide), cb 149 (by decide), cb 137 (by decide), m151, if_pos rfl]
    exact ⟨v1, v2, v3, v4, rfl, v6⟩
  have R3' : R3 e q h3 m7 := r3.cg (fun k hk => ca k (by simp only [List.mem_cons, List.not_mem_nil, or_false] at hk ⊢; omega)) (fun k hk => cb k (by simp only [List.mem_cons, List.not_mem_nil, or_false] at hk ⊢; omega)) (fun k hk => cc k (by simp only [List.mem_cons, List.not_mem_nil, or_false] at hk ⊢; omega))
  have R5' : R5 e q h3 m7 := r5.cg (fun k hk => ca k (by simp only [List.mem_cons, List.not_mem_nil, or_false] at hk ⊢; omega)) (fun k hk => cf k (by simp only [List.mem_cons, List.not_mem_nil, or_false] at hk ⊢; omega)) (fun k hk => cb k (by simp only [List.mem_cons, List.not_mem_nil, or_false] at hk ⊢; omega))
  have R6' : R6 e q h3 m7 := r6.cg (fun k hk => ca k (by simp only [List.mem_cons, List.not_mem_nil, or_false] at hk ⊢; omega)) (fun k hk => cf k (by simp only [List.mem_cons, List.not_mem_nil, or_false] at hk ⊢; omega)) (fun k hk => cb k (by simp only [List.mem_cons, List.not_mem_nil, or_false] at hk ⊢; omega))
  have R1' : MRows m7 q (zd h3 e 11) := by
    rw [cf 11 (by decide)]
    refine r1.cg ?_ (fun k hk => cb k (by simp only [List.mem_cons, List.not_mem_nil, or_false] at hk ⊢; omega)) (fun k hk => cc k (by simp only [List.mem_cons, List.not_mem_nil, or_false] at hk ⊢; omega))
    unfold MV; rw [cb 143 (by decide)]; exact r1.1
  have hs3 : ES e h3 top := hs.cg (f3 10 (by decide) (by decide) (by decide) (by decide) (by decide)) (cf 11 (by decide)) (ca 1 (by decide)) (ca 2 (by decide)) (ca 5 (by decide)) (ca 7 (by decide)) (k3 _ (by omega) (by omega)) (k3 _ (by omega) (by omega)) (k3 _ (by omega) (by omega))
  have hT3 : ET e h3 := by
    unfold ET est at hT ⊢
    rw [cf 20 (by decide), cf 11 (by decide), ca 17 (by decide), ca 11 (by decide)]; exact hT
  have hx3 : eit (zd h3 e 11) x := by rw [cf 11 (by decide)]; exact hx
  have ho3 : est e h3 x = 0 := by unfold est at ho ⊢; rw [ca 11 (by decide)]; exact ho
  have tm : zd m7 150 q = zd h e 20 := by rw [cb 150 (by decide)]; exact r2.2.2.1.symm
  refine M_become q0 q1 A3.2 hx (by omega) (by omega) (fun z => by rw [m151, if_pos rfl] at z; omega) (fun m8 pm => ?_)
  have both := S_set q0 q1 hs3 hT3 hx3 ho3 pe pm (Or.inl ⟨rfl, rfl⟩) (fun z => by rw [f21] at z; omega) R1' R2' R3' R5' R6'
  have da : ∀ k, k ∈ ([1, 2, 5, 7, 14, 15, 19, 20, 21] : List Int) → zd h' (e + k) = zd h (e + k) := fun k hk => (pe.1.f (by simp only [List.mem_cons, List.not_mem_nil, or_false] at hk ⊢; omega)).trans (ca k (by simp only [List.mem_cons, List.not_mem_nil, or_false] at hk ⊢; omega))
  have df : ∀ k, k ∈ ([10, 11, 22, 25, 26, 28, 34, 37] : List Int) → zd h' e k = zd h e k := fun k hk => by
    rw [pe.2.2.2.2.2.1, if_neg (by simp only [List.mem_cons, List.not_mem_nil, or_false] at hk; omega)]; exact cf k (by simp only [List.mem_cons, List.not_mem_nil, or_false] at hk ⊢; omega)
  have db : ∀ k, k ∈ ([119, 120, 123, 124, 137, 138, 139, 140, 141, 146, 147, 148, 152, 153, 154, 155, 156, 157, 158] : List Int) → zd m8 k = zd m k := fun k hk => (pm.1.f (by simp only [List.mem_cons, List.not_mem_nil, or_false] at hk ⊢; omega)).trans (cb k (by simp only [List.mem_cons, List.not_mem_nil, or_false] at hk ⊢; omega))
  have dc : ∀ k, k ∈ ([30, 31, 58, 66, 67] : List Int) → zd m8 101 k = zd m 101 k := fun k hk => (pm.1.d (by decide) k).trans (cc k hk)
  have dg : ∀ k, zd h' 14 k = zd h 14 k := fun k => by rw [pe.1.d (by simp only [List.mem_cons, List.not_mem_nil, or_false]; omega) k, k3 14 (by omega) (by omega)]
  refine k m8 ⟨?_, both.1, r3.cg (fun k hk => da k (by simp only [List.mem_cons, List.not_mem_nil, or_false] at hk ⊢; omega)) (fun k hk => db k (by simp only [List.mem_cons, List.not_mem_nil, or_false] at hk ⊢; omega)) (fun k hk => dc k (by simp only [List.mem_cons, List.not_mem_nil, or_false] at hk ⊢; omega)), r4.cg (fun k hk => da k (by simp only [List.mem_cons, List.not_mem_nil, or_false] at hk ⊢; omega)) (fun k hk => df k (by simp only [List.mem_cons, List.not_mem_nil, or_false] at hk ⊢; omega)) (fun k hk => db k (by simp only [List.mem_cons, List.not_mem_nil, or_false] at hk ⊢; omega)), r5.cg (fun k hk => da k (by simp only [List.mem_cons, List.not_mem_nil, or_false] at hk ⊢; omega)) (fun k hk => df k (by simp only [List.mem_cons, List.not_mem_nil, or_false] at hk ⊢; omega)) (fun k hk => db k (by simp only [List.mem_cons, List.not_mem_nil, or_false] at hk ⊢; omega)), both.2, r8.cg (fun k hk => da k (by simp only [List.mem_cons, List.not_mem_nil, or_false] at hk ⊢; omega)) (fun k hk => df k (by simp only [List.mem_cons, List.not_mem_nil, or_false] at hk ⊢; omega)) (fun k hk => db k (by simp only [List.mem_cons, List.not_mem_nil, or_false] at hk ⊢; omega)), r9.cg (fun k hk => dc k (by simp only [List.mem_cons, List.not_mem_nil, or_false] at hk ⊢; omega)) (fun k _ => dg k)⟩ ?_ ?_
  · rw [df 11 (by decide)]
    refine r1.cg ⟨A3, fun n n0 n1 => ?_⟩ (fun k hk => db k (by simp only [List.mem_cons, List.not_mem_nil, or_false] at hk ⊢; omega)) (fun k hk => dc k (by simp only [List.mem_cons, List.not_mem_nil, or_false] at hk ⊢; omega))
    have := both.1.1 n n0 (by rw [df 11 (by decide)]; exact n1)
    unfold vrel at this; omega
  · have C3 : R7 e q h3 m7 := by
      obtain ⟨b1, b2, b3, b4, b5, b6, b7, b8, b9, b10⟩ := r7
      have g30 : zd h3 e 30 = w32 (zd h e 30 + 1) := by rw [e3, zd_i (by decide), zd_a (by omega), zd_i (by decide), e1, zd_i (by decide), zd_s]
      have g31 : zd h3 e 31 = w32 (zd h e 31 - 1) := by rw [e3, zd_i (by decide), zd_a (by omega), zd_i (by decide), e1, zd_i (by decide), zd_i (by decide), zd_s]
      have g33 : zd h3 e 33 = w32 (zd h e 33 + 1) := by rw [e3, zd_i (by decide), zd_a (by omega), zd_i (by decide), e1, zd_s]
      refine ⟨by rw [g31, l7, b1], ?_, ?_, ?_, ?_, ?_, ?_, ?_, ?_, ?_⟩
      · rw [g30, m163, if_neg (by omega), if_neg (by omega), if_pos rfl, b2]
      · rw [f3 32 (by decide) (by decide) (by decide) (by decide) (by decide), m163, if_neg (by omega), if_neg (by omega), if_neg (by omega)]; exact b3
      · rw [g33, m163, if_neg (by omega), if_pos rfl, b4]
      · rw [f3 34 (by decide) (by decide) (by decide) (by decide) (by decide), m163, if_neg (by omega), if_neg (by omega), if_neg (by omega)]; exact b5
      · rw [f3 35 (by decide) (by decide) (by decide) (by decide) (by decide), m163, if_neg (by omega), if_neg (by omega), if_neg (by omega)]; exact b6
      · rw [f3 36 (by decide) (by decide) (by decide) (by decide) (by decide), m163, if_neg (by omega), if_neg (by omega), if_neg (by omega)]; exact b7
      · rw [f38, m163, if_pos rfl]; unfold zmax; split <;> split <;> omega
      · rw [f3 39 (by decide) (by decide) (by decide) (by decide) (by decide), mk 161 (by decide) (by decide) (by decide)]; exact b9
      · rw [f3 40 (by decide) (by decide) (by decide) (by decide) (by decide), mk 162 (by decide) (by decide) (by decide)]; exact b10
    exact C3.cg (fun k hk => by rw [pe.2.2.2.2.2.1, if_neg (by simp only [List.mem_cons, List.not_mem_nil, or_false] at hk; omega)]) (fun k hk => pm.1.f (by simp only [List.mem_cons, List.not_mem_nil, or_false] at hk ⊢; omega)) (fun k hk => pm.1.d (by decide) k)
  · have z1 : MFr q m m7 := by
      refine ⟨?_, fun b hb => mk b (by simp only [List.mem_cons, List.not_mem_nil, or_false] at hb; omega) (by simp only [List.mem_cons, List.not_mem_nil, or_false] at hb; omega) (by simp only [List.mem_cons, List.not_mem_nil, or_false] at hb; omega), fun j hj => mf j (by simp only [List.mem_cons, List.not_mem_nil, or_false] at hj; omega), fun _ => ⟨mf _ (by decide), mf _ (by decide), mf _ (by decide), mk _ (by decide) (by decide) (by decide), mk _ (by decide) (by decide) (by decide), mk _ (by decide) (by decide) (by decide), mk _ (by decide) (by decide) (by decide)⟩, fun b n hb j hj => ?_⟩
      · rw [e7, e6, e5, e4]
        exact (((((zF.rf _ _ m).w rfl (by decide) (by decide)).w rfl (by decide) (by decide)).w rfl (by decide) (by decide)).w rfl (by decide) (by decide)).w rfl (by decide) (by decide)
      · by_cases c : b = 151
        · have en : n = 1 := by simp only [List.mem_cons, List.not_mem_nil, or_false, Prod.mk.injEq] at hb; omega
          rw [c, m151, if_neg (by rw [en] at hj; omega)]
        · by_cases c2 : b = 163
          · have en : n = 10 := by simp only [List.mem_cons, List.not_mem_nil, or_false, Prod.mk.injEq] at hb; omega
            rw [en] at hj
            rw [c2, m163, if_neg (by omega), if_neg (by omega), if_neg (by omega)]
          · rw [mk b (by simp only [List.mem_cons, List.not_mem_nil, or_false, Prod.mk.injEq] at hb; omega) c c2]
    exact z1.tr (Mbec.fr q0 q1 A3.2 hx (by omega) (by omega) pm)
