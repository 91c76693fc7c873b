/-! learning, the steps behind the list: weights, uses -/
theorem MFr.of {q : Int} {l : List Int} {m m' : zH} (mA : yA l m m') (hl : ∀ b, b ∈ l → b ∈ ([143, 144, 145, 146, 147, 148, 149, 150, 151, 152, 153, 154, 156, 157, 158, 159, 160, 161, 162, 163, 167, 168, 169, 170, 171] : List Int))
    (hb : ∀ b n, b ∈ l → (b, n) ∈ ([(143, 301), (144, 301), (145, 301), (146, 301), (147, 301), (148, 1), (149, 300), (150, 1), (151, 1), (152, 801), (153, 8050), (154, 1), (155, 1), (156, 800), (157, 800), (158, 6400), (159, 2408), (161, 1), (162, 1), (163, 10)] : List (Int × Int)) → ∀ j, (j < n * q ∨ n * q + n ≤ j) → zd m' b j = zd m b j) : MFr q m m' := by
  have out : ∀ b, b ∉ ([143, 144, 145, 146, 147, 148, 149, 150, 151, 152, 153, 154, 156, 157, 158, 159, 160, 161, 162, 163, 167, 168, 169, 170, 171] : List Int) → zd m' b = zd m b := fun b n => mA.f (fun x => n (hl b x))
  refine ⟨⟨mA.1, mA.2.1, mA.2.2.1, fun b j hb => by rw [out b (by simp only [List.mem_cons, List.not_mem_nil, or_false]; omega)]⟩, fun b hb => out b (by simp only [List.mem_cons, List.not_mem_nil, or_false] at hb ⊢; omega), fun j _ => by rw [out 101 (by decide)], fun _ => ⟨by rw [out 101 (by decide)], by rw [out 101 (by decide)], by rw [out 101 (by decide)], out 164 (by decide), out 165 (by decide), out 166 (by decide), out 155 (by decide)⟩, fun b n hbn j hj => ?_⟩
  by_cases c : b ∈ l
  · exact hb b n c hbn j hj
  · exact mA.d c j
theorem MlF.fr {q : Int} {m m' : zH} (p : MlF m m') : MFr q m m' := by
  obtain ⟨mA, p2⟩ := p
  refine ⟨⟨mA.1, mA.2.1, mA.2.2.1, fun b j hb => mA.d (by simp only [List.mem_cons, List.not_mem_nil, or_false]; omega) j⟩, fun b hb => mA.f (by simp only [List.mem_cons, List.not_mem_nil, or_false] at hb ⊢; omega), fun j hj => p2 j (by simp only [List.mem_cons, List.not_mem_nil, or_false] at hj; omega) (by simp only [List.mem_cons, List.not_mem_nil, or_false] at hj; omega), fun _ => ⟨p2 _ (by decide) (by decide), p2 _ (by decide) (by decide), p2 _ (by decide) (by decide), mA.f (by decide), mA.f (by decide), mA.f (by decide), mA.f (by decide)⟩, fun b n hbn j hj => mA.d (by simp only [List.mem_cons, List.not_mem_nil, or_false, Prod.mk.injEq] at hbn ⊢; omega) j⟩
def EW (e : Int) (h : zH) : Prop := (∀ n, 1 ≤ n → n ≤ zd h e 11 → 0 ≤ zd h (e + 15) n ∧ zd h (e + 15) n ≤ 1000000000000) ∧ 1 ≤ zd h e 22 ∧ zd h e 22 ≤ 1200000000000
theorem zz (h : zH) (a i v b j : Int) : zd (zw h a i v) b j = if b = a ∧ j = i then v else zd h b j := by
  by_cases c : b = a ∧ j = i
  · rw [zd_zw, if_pos c]
  · rw [zd_zw, if_neg c]
theorem R7_step {e q j i : Int} {h m : zH} (hj : (j = 32 ∧ i = 2) ∨ (j = 33 ∧ i = 3) ∨ (j = 34 ∧ i = 4)) (r : R7 e q h m) : R7 e q (zw (zw (zw h e 31 (w32 (zd h e 31 - 1))) e 30 (w32 (zd h e 30 + 1))) e j (w32 (zd h e j + 1))) (zw (zw (zw m 101 89 (w32 (zd m 101 89 - 1))) 163 (10 * q + 1) (w32 (zd m 163 (10 * q + 1) + 1))) 163 (10 * q + i) (w32 (zd m 163 (10 * q + i) + 1))) := by
  obtain ⟨a1, a2, a3, a4, a5, a6, a7, a8, a9, a10⟩ := r
  rcases hj with ⟨rfl, rfl⟩ | ⟨rfl, rfl⟩ | ⟨rfl, rfl⟩ <;> (unfold R7; simp only [zz, true_and, and_true, ite_true]; refine ⟨?_, ?_, ?_, ?_, ?_, ?_, ?_, ?_, ?_, ?_⟩ <;> (repeat (first | rw [if_pos (by omega)] | rw [if_neg (by omega)])) <;> simp only [a1, a2, a3, a4, a5, a6, a7, a8, a9, a10])
def L1P (e : Int) (h g : zH) : Prop := yA [e, e + 15, e + 20] h g ∧ (∀ j, j ≠ 22 → j ≠ 30 → j ≠ 31 → j ≠ 34 → zd g e j = zd h e j) ∧ zd g e 31 = zd h e 31 - 1 ∧ EW e g
def L1S (e q : Int) (h g : zH) : Prop := ∀ m, RMs e q h m → R7 e q h m → GLr e q h m → MG (zd h e 11) m → (0 ≤ zd m 101 106 ∧ zd m 101 106 ≤ 301) → ∀ (x2 x3 u5 u6 : Int) (Q' : Int → zH → Prop) (K' : Int → zH → Prop), (∀ m', RMs e q g m' → R7 e q g m' → MFr q m m' → zd m' 167 = zd m 167 → zd m' 155 = zd m 155 → (∀ w b, 0 ≤ w → w < 8 → b < 64 → hb (zd g (e + 29) w) b = hb (zd m' 160 w) b) → K' (zd h e 52) m') →
  P_M_takesStep q m (fun _ h23 => (0 ≤ w32 ((w32 (10 * q)) + 4) ∧ w32 ((w32 (10 * q)) + 4) < 20) ∧ (0 ≤ w32 ((w32 (10 * q)) + 4) ∧ w32 ((w32 (10 * q)) + 4) < 20) ∧ ∀ h24 : zH, h24 = zw h23 163 (w32 ((w32 (10 * q)) + 4)) (w32 ((zd h23 163 (w32 ((w32 (10 * q)) + 4))) + 1)) →
    P_M_raise q h24 (fun r25 h26 => P_M_clearSources h26 (fun _ h28 => ∃ n227, P_M_learn_L227 q x2 x3 u5 u6 r25 Q' (K' r25) n227 0 h28)))
theorem S_l1 {e q a1 : Int} {h : zH} {Q : Int → zH → Prop} {K : zH → Prop} (he : zE e) (q0 : 0 ≤ q) (q1 : q ≤ 1) (A0 : 0 ≤ zd h e 11) (A3 : zd h e 11 ≤ 300) (w : EW e h) (hx : ∃ n, 1 ≤ n ∧ n ≤ zd h e 11 ∧ zd h (e + 26) n ≠ 0) (l0 : 1 ≤ zd h e 31) (l1 : zd h e 31 ≤ 2000000000) (h52 : zd h e 52 = cwas e h) (c0 : 0 ≤ zd h e 54) (c1 : zd h e 54 ≤ 301) (hr : ∀ i, 0 ≤ i → i < zd h e 54 → 0 ≤ zd h (e + 30) i ∧ zd h (e + 30) i < 800) (kk : ∀ g, L1P e h g → L1S e q h g → K g) :
    P_E_step e h (fun _ h6 => ∀ h7 : zH, h7 = zw h6 e 34 (w32 ((zd h6 e 34) + 1)) → P_E_heavier e h7 (fun _ h9 => ∃ n38, P_E_learns_L38 e a1 Q K n38 0 h9)) := by
  have eR : 25 ≤ e ∧ e ≤ 58 := by rcases he with z | z <;> omega
  refine E_step (fun h6 e6 => ?_)
  intro h7 e7
  have e7' : h7 = zw (zw (zw h e 31 (w32 (zd h e 31 - 1))) e 30 (w32 (zd h e 30 + 1))) e 34 (w32 (zd h e 34 + 1)) := by
    rw [e7, show zd h6 e 34 = zd h e 34 from by rw [e6, zd_i (by decide), zd_i (by decide)], e6]
  have k7 : ∀ b, b ≠ e → zd h7 b = zd h b := fun b hb => by rw [e7', zw_f hb, zw_f hb, zw_f hb]
  have f7 : ∀ j, j ≠ 30 → j ≠ 31 → j ≠ 34 → zd h7 e j = zd h e j := fun j n0 n1 n2 => by rw [e7', zd_i n2, zd_i n0, zd_i n1]
  have f31 : zd h7 e 31 = zd h e 31 - 1 := by rw [e7', zd_i (by decide), zd_i (by decide), zd_s, w32_of (by omega) (by omega)]
  have A7 : yA [e, e + 15, e + 20] h h7 := by rw [e7']; exact (((yA.rf _ h).w (by simp)).w (by simp)).w (by simp)
  have i11 : zd h7 e 11 = zd h e 11 := f7 11 (by decide) (by decide) (by decide)
  have i22 : zd h7 e 22 = zd h e 22 := f7 22 (by decide) (by decide) (by decide)
  obtain ⟨w1, w2, w3⟩ := w
  refine E_heavier (by omega) (by omega) (by rw [i11, k7 (e + 15) (by omega)]; exact w1) (by omega) (by omega) (fun h9 a9 b9 c9 => ?_)
  rw [k7 (e + 26) (by omega), k7 (e + 15) (by omega), i22, i11] at c9
  have f54 : zd h9 e 54 = zd h e 54 := by rw [b9 54 (by decide), f7 54 (by decide) (by decide) (by decide)]
  have g30 : zd h9 (e + 30) = zd h (e + 30) := by rw [a9.f (b := e + 30) (by simp only [List.mem_cons, List.not_mem_nil, or_false]; omega), k7 (e + 30) (by omega)]
  refine ⟨(zd h e 54).toNat + 1, E_use (h := h9) he (by omega) (by rw [f54, g30]; exact hr) (fun g gA gu => ?_) (zd h e 54).toNat _ 0 h9 (by omega) (by decide) (by omega) (yA.rf _ _) (fun k => (if_pos rfl).symm)⟩
  have fg : zd g e = zd h9 e := gA.f (by simp only [List.mem_cons, List.not_mem_nil, or_false]; omega)
  have Ag : yA [e, e + 15, e + 20] h g := (A7.tr (a9.mono (by simp))).tr (gA.mono (by simp))
  have nb := hv_b w1 w2 w3 hx c9
  have g15 : zd g (e + 15) = zd h9 (e + 15) := gA.f (by simp only [List.mem_cons, List.not_mem_nil, or_false]; omega)
  have EWg : EW e g := by
    unfold EW
    rw [fg, g15, b9 11 (by decide), i11]; exact ⟨nb.1, nb.2.1, nb.2.2⟩
  refine kk g ⟨Ag, fun j n1 n2 n3 n4 => by rw [fg, b9 j n1, f7 j n2 n3 n4], by rw [fg, b9 31 (by decide)]; exact f31, EWg⟩ ?_
  intro m R C G Mg u0 x2 x3 u5 u6 Q' K' k'
  simp only [w32_al, w32_ar, w32_sl, w32_sr, w32_ml, w32_mr]
  rw [w32_of (x := 10 * q + 4) (by omega) (by omega)]
  refine M_takes q0 q1 (fun z => absurd z (by rw [← C.1]; omega)) (fun _ m3 e3 => ?_)
  refine ⟨⟨by omega, by omega⟩, ⟨by omega, by omega⟩, ?_⟩
  intro m4 e4
  have e4' : m4 = zw (zw (zw m 101 89 (w32 (zd m 101 89 - 1))) 163 (10 * q + 1) (w32 (zd m 163 (10 * q + 1) + 1))) 163 (10 * q + 4) (w32 (zd m 163 (10 * q + 4) + 1)) := by
    rw [e4, show zd m3 163 (10 * q + 4) = zd m 163 (10 * q + 4) from by rw [e3, zd_i (by omega), zd_a (by decide)], e3]
  have R4' : RMs e q h7 m4 := by
    rw [e7', e4']
    exact ((R.left (by omega)).cnt (by omega) (by decide)).cnt (by omega) (by decide)
  have C4 : R7 e q h7 m4 := by
    rw [e7', e4']
    exact R7_step (Or.inr (Or.inr ⟨rfl, rfl⟩)) C
  have km4 : ∀ b, b ≠ 101 → b ≠ 163 → zd m4 b = zd m b := fun b n1 n2 => by rw [e4', zw_f n2, zw_f n2, zw_f n1]
  have kf4 : ∀ j, j ≠ 89 → zd m4 101 j = zd m 101 j := fun j n1 => by rw [e4', zd_a (by decide), zd_a (by decide), zd_i n1]
  have Fr4 : MFr q m m4 := by
    rw [e4']
    exact (((MFr.rf q m).w (Or.inl rfl)).w163 q0 q1 (by omega) (by omega)).w163 q0 q1 (by omega) (by omega)
  obtain ⟨r41, r42, r43, r44⟩ := R.2.2.2.1
  refine M_raise (A := zd h e 11) q0 q1 A0 A3 (by rw [km4 137 (by decide) (by decide)]; exact R.2.1.2.2.2.2.2.symm) (fun n n0 n1 => by rw [km4 169 (by decide) (by decide)]; exact (Mg n n0 n1).2.1) (fun n n0 n1 => by rw [km4 147 (by decide) (by decide), ← (r41 n n0 n1).2.1]; exact (r41 n n0 n1).2.2) (by rw [km4 148 (by decide) (by decide), ← r43]; omega) (by rw [km4 148 (by decide) (by decide), ← r43]; omega) (fun m5 p1 p2 p3 p4 => ?_)
  rw [km4 169 (by decide) (by decide), km4 147 (by decide) (by decide), km4 148 (by decide) (by decide), ← r43] at p4
  have cnt : zct (zd m4 169) 1 1 (zd h e 11).toNat = zd h e 52 := by
    rw [h52, km4 169 (by decide) (by decide)]
    exact zct_congr (fun i i0 i1 => by rw [(G.1 i i0 (by omega)).2])
  rw [cnt]
  have hvu := hv_u (fun n n0 n1 => (G.1 n n0 n1).2) (fun n n0 n1 => (r41 n n0 n1).2.1) c9 p4
  have R9' : RMs e q h9 m5 := by
    obtain ⟨s1, s2, s3, s4, s5, s6, s8, s9⟩ := R4'
    have c11 : zd h9 e 11 = zd h7 e 11 := b9 11 (by decide)
    refine ⟨?_, s2.cg (fun k hk => a9.f (by simp only [List.mem_cons, List.not_mem_nil, or_false] at hk ⊢; omega)) (fun k hk => b9 k (by simp only [List.mem_cons, List.not_mem_nil, or_false] at hk; omega)) (fun k hk => p1.f (by simp only [List.mem_cons, List.not_mem_nil, or_false] at hk ⊢; omega)), s3.cg (fun k hk => a9.f (by simp only [List.mem_cons, List.not_mem_nil, or_false] at hk ⊢; omega)) (fun k hk => p1.f (by simp only [List.mem_cons, List.not_mem_nil, or_false] at hk ⊢; omega)) (fun k hk => by rw [p1.f (b := 101) (by decide)]), ?_, s5.cg (fun k hk => a9.f (by simp only [List.mem_cons, List.not_mem_nil, or_false] at hk ⊢; omega)) (fun k hk => b9 k (by simp only [List.mem_cons, List.not_mem_nil, or_false] at hk; omega)) (fun k hk => p1.f (by simp only [List.mem_cons, List.not_mem_nil, or_false] at hk ⊢; omega)), s6.cg (fun k hk => a9.f (by simp only [List.mem_cons, List.not_mem_nil, or_false] at hk ⊢; omega)) (fun k hk => b9 k (by simp only [List.mem_cons, List.not_mem_nil, or_false] at hk; omega)) (fun k hk => p1.f (by simp only [List.mem_cons, List.not_mem_nil, or_false] at hk ⊢; omega)), s8.cg (fun k hk => a9.f (by simp only [List.mem_cons, List.not_mem_nil, or_false] at hk ⊢; omega)) (fun k hk => b9 k (by simp only [List.mem_cons, List.not_mem_nil, or_false] at hk; omega)) (fun k hk => p1.f (by simp only [List.mem_cons, List.not_mem_nil, or_false] at hk ⊢; omega)), s9.cg (fun k hk => p1.d (by decide) k) (fun k hk => a9.d (by simp only [List.mem_cons, List.not_mem_nil, or_false]; omega) k)⟩
    · rw [c11]
      refine s1.cg ?_ (fun k hk => p1.f (by simp only [List.mem_cons, List.not_mem_nil, or_false] at hk ⊢; omega)) (fun k hk => by rw [p1.f (b := 101) (by decide)])
      unfold MV
      rw [p1.f (b := 143) (by decide)]; exact s1.1
    · unfold R4
      rw [c11, i11, p1.f (b := 146) (by decide), km4 146 (by decide) (by decide), a9.f (b := e + 14) (by simp only [List.mem_cons, List.not_mem_nil, or_false]; omega), k7 (e + 14) (by omega)]
      refine ⟨fun n n0 n1 => ⟨(r41 n n0 n1).1, hvu.1 n n0 n1, nb.1 n n0 n1⟩, r42, hvu.2, nb.2.1, nb.2.2⟩
  have C9 : R7 e q h9 m5 := C4.cg (fun k hk => b9 k (by simp only [List.mem_cons, List.not_mem_nil, or_false] at hk; omega)) (fun k hk => p1.f (by simp only [List.mem_cons, List.not_mem_nil, or_false] at hk ⊢; omega)) (fun k hk => p1.d (by decide) k)
  have Fr5 : MFr q m4 m5 := by
    refine MFr.of p1 (fun b hb => (by simp only [List.mem_cons, List.not_mem_nil, or_false] at hb ⊢; omega)) (fun b n hb hn j hj => ?_)
    simp only [List.mem_cons, List.not_mem_nil, or_false] at hb
    simp only [List.mem_cons, List.not_mem_nil, or_false, Prod.mk.injEq] at hn
    rcases hb with rfl | rfl
    · have : n = 301 := by omega
      subst this
      exact p3 j (by omega)
    · have : n = 1 := by omega
      subst this
      exact p2 j (by omega)
  refine M_clearSources (fun m6 t1 t2 => ?_)
  have R6' : RMs e q h9 m6 := R9'.cg (fun _ _ => rfl) (fun _ _ => rfl) (fun _ _ => rfl) (fun k hk => t1.f (by simp only [List.mem_cons, List.not_mem_nil, or_false] at hk ⊢; omega)) (fun k hk => t1.d (by decide) k)
  have C6 : R7 e q h9 m6 := C9.cg (fun _ _ => rfl) (fun k hk => t1.f (by simp only [List.mem_cons, List.not_mem_nil, or_false] at hk ⊢; omega)) (fun k hk => t1.d (by decide) k)
  have Fr6 : MFr q m5 m6 := MFr.of t1 (fun b hb => (by simp only [List.mem_cons, List.not_mem_nil, or_false] at hb ⊢; omega)) (fun b n hb hn j hj => by
    simp only [List.mem_cons, List.not_mem_nil, or_false, Prod.mk.injEq] at hb hn; omega)
  have km6 : ∀ b, b ≠ 101 → b ≠ 163 → b ≠ 147 → b ≠ 148 → b ≠ 160 → zd m6 b = zd m b := fun b n1 n2 n3 n4 n5 => by rw [t1.f (b := b) (by simp only [List.mem_cons, List.not_mem_nil, or_false]; omega), p1.f (b := b) (by simp only [List.mem_cons, List.not_mem_nil, or_false]; omega), km4 b n1 n2]
  have kf6 : ∀ j, j ≠ 89 → zd m6 101 j = zd m 101 j := fun j n1 => by rw [t1.d (b := 101) (by decide), p1.d (b := 101) (by decide), kf4 j n1]
  have c170 : zd m6 170 = zd m 170 := km6 170 (by decide) (by decide) (by decide) (by decide) (by decide)
  have c106 : zd m6 101 106 = zd m 101 106 := kf6 106 (by decide)
  have live : ∀ i, 0 ≤ i → i < zd m 101 106 → ∃ s, 0 ≤ s ∧ s < 1364 ∧ zd h9 (e + 5) s = 1 ∧ zd m 170 i = num s := by
    rw [a9.f (b := e + 5) (by simp only [List.mem_cons, List.not_mem_nil, or_false]; omega), k7 (e + 5) (by omega)]; exact G.2.2.2.1
  have G6 : GLr e q h9 m6 := by
    obtain ⟨g1, g2, g3, g4, g5⟩ := G
    unfold GLr
    rw [b9 11 (by decide), i11, f54, g30, c170, c106, km6 168 (by decide) (by decide) (by decide) (by decide) (by decide), km6 169 (by decide) (by decide) (by decide) (by decide) (by decide), a9.f (b := e + 25) (by simp only [List.mem_cons, List.not_mem_nil, or_false]; omega), k7 (e + 25) (by omega), a9.f (b := e + 26) (by simp only [List.mem_cons, List.not_mem_nil, or_false]; omega), k7 (e + 26) (by omega), a9.f (b := e + 29) (by simp only [List.mem_cons, List.not_mem_nil, or_false]; omega), k7 (e + 29) (by omega)]
    refine ⟨g1, fun w b w0 w1 b1 => ?_, g3, live, g5⟩
    rw [g2 w b w0 w1 b1]
    have lc : ∀ r, lowM m6 q r 0 w b ↔ lowM m q r 0 w b := fun r => lowM_cg (fun k hk => km6 k (by simp only [List.mem_cons, List.not_mem_nil, or_false] at hk; omega) (by simp only [List.mem_cons, List.not_mem_nil, or_false] at hk; omega) (by simp only [List.mem_cons, List.not_mem_nil, or_false] at hk; omega) (by simp only [List.mem_cons, List.not_mem_nil, or_false] at hk; omega) (by simp only [List.mem_cons, List.not_mem_nil, or_false] at hk; omega)) (kf6 66 (by decide))
    have sc : ∀ r, srcM m6 q r w b = srcM m q r w b := fun r => by unfold srcM; rw [km6 158 (by decide) (by decide) (by decide) (by decide) (by decide)]
    exact ⟨fun ⟨i, i0, i1, i2⟩ => ⟨i, i0, i1, by rw [sc, lc]; exact i2⟩, fun ⟨i, i0, i1, i2⟩ => ⟨i, i0, i1, by rw [sc, lc] at i2; exact i2⟩⟩
  refine ⟨(zd m 101 106).toNat + 1, M_use (A := zd h e 11) (c := zd m 101 106) (m := m6) q0 q1 A3 c106 u0.2 (fun i i0 i1 => ?_) (fun m7 up => ?_) (zd m 101 106).toNat _ 0 m6 (by omega) (by decide) (by omega) ?_⟩
  · rw [c170]
    obtain ⟨s, s0, s1, s2, s3⟩ := live i i0 i1
    rw [s3]
    have := R6'.1.2.2.2.2 _ (R6'.2.2.1.1 s s0 s1 s2).1
    rw [b9 11 (by decide), i11] at this
    exact this
  · obtain ⟨v1, v2, v3⟩ := S_use he q0 q1 R6' G6 c106 gA gu up
    have C7 : R7 e q g m7 := C6.cg (fun k _ => by rw [fg]) (fun k hk => up.1.f (by simp only [List.mem_cons, List.not_mem_nil, or_false] at hk ⊢; omega)) (fun k hk => up.1.d (by decide) k)
    refine k' m7 v1 C7 (((Fr4.tr Fr5).tr Fr6).tr v2) ?_ ?_ ?_
    · rw [up.1.f (b := 167) (by decide)]; exact km6 167 (by decide) (by decide) (by decide) (by decide) (by decide)
    · rw [up.1.f (b := 155) (by decide)]; exact km6 155 (by decide) (by decide) (by decide) (by decide) (by decide)
    · intro w b w0 w1 b1
      rw [gA.f (b := e + 29) (by simp only [List.mem_cons, List.not_mem_nil, or_false]; omega)]; exact v3 t2 w b w0 w1 b1
  · refine ⟨yA.rf _ _, fun _ _ => rfl, fun k k0 k1 => (if_pos rfl).symm, fun w b w0 w1 b1 => ⟨fun x => Or.inl x, fun x => x.elim id (fun ⟨i, i0, i1, _⟩ => by omega)⟩⟩
