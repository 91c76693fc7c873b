/-! solve: whole -/
theorem RR0_rest {h m h1 m1 : zH} (R : RR0 h m) (tt : h1.1 = h.1 ∧ h1.2.1 = h.2.1 ∧ h1.2.2.1 = h.2.2.1) (ce : ∀ b, b ≠ 14 → ¬ (25 ≤ b ∧ b < 58) → b ≠ 91 → b ≠ 92 → zd h1 b = zd h b) (cf : ∀ j, j ∉ ([28, 29, 30] : List Int) → zd h1 14 j = zd h 14 j) (cm : ∀ b, b ∈ ([102, 119, 120, 122, 123, 124] : List Int) → zd m1 b = zd m b) (cn : ∀ j, j ∈ ([0, 1, 11, 23, 29, 30, 31, 32, 66, 67] : List Int) → zd m1 101 j = zd m 101 j) : (zd h1 14 0 = zd m1 101 0 ∧ zd h1 14 20 = zd m1 101 11) ∧ TG h1 ∧ CaseE h1 ∧ CaseM h1 m1 ∧ RA h1 m1 ∧ R9 25 0 h1 m1 ∧ RBr h1 m1 ∧ RD h1 := by
  obtain ⟨r0, r1, r2, r3, r4, r5, r6, r7, r8, r9, r10⟩ := R
  have n7 := r2.2.2.2.2.2.2.1
  have dy : ∀ n, 1 ≤ n → n ≤ zd h 14 2 → zd h1 (zd h 15 (n - 1)) = zd h (zd h 15 (n - 1)) := fun n n0 n1 => by
    have := (n7 n n0 n1).1.2
    exact ce _ (by omega) (by omega) (by omega) (by omega)
  have t : ∀ b, zt h1 b = zt h b := fun b => by unfold zt; rw [tt.2.1]
  have l : ∀ b, zl h1 b = zl h b := fun b => by unfold zl; rw [tt.2.2]
  have z : zn h1 = zn h := by unfold zn; rw [tt.1]
  refine ⟨⟨by rw [cf 0 (by decide), cn 0 (by decide)]; exact r0.1, by rw [cf 20 (by decide), cn 11 (by decide)]; exact r0.2⟩, fun a a0 a1 => by rw [t, l]; exact r1 a a0 a1, ?_, ?_, ?_, r5.cg (fun k hk => cn k (by simp only [List.mem_cons, List.not_mem_nil, or_false] at hk ⊢; omega)) (fun k hk => cf k (by simp only [List.mem_cons, List.not_mem_nil, or_false] at hk ⊢; omega)), ?_, ?_⟩
  · obtain ⟨n1, n2, n3, n4, n5, n6, n7', n8⟩ := r2
    unfold CaseE
    rw [cf 2 (by decide), cf 18 (by decide), ce 23 (by decide) (by decide) (by decide) (by decide), ce 22 (by decide) (by decide) (by decide) (by decide), ce 15 (by decide) (by decide) (by decide) (by decide)]
    refine ⟨n1, n2, n3, n4, n5, n6, fun n n0 n1' => ?_, n8⟩
    rw [dy n n0 n1', t, z]; exact n7' n n0 n1'
  · obtain ⟨n1, n2, n3, n4, n5⟩ := r3
    unfold CaseM
    rw [cf 2 (by decide), cf 18 (by decide), ce 23 (by decide) (by decide) (by decide) (by decide), ce 22 (by decide) (by decide) (by decide) (by decide), ce 15 (by decide) (by decide) (by decide) (by decide), cn 1 (by decide), cn 23 (by decide), cm 119 (by decide), cm 120 (by decide), cm 102 (by decide)]
    refine ⟨n1, n2, n3, n4, fun n n0 n1' => ?_⟩
    rw [dy n n0 n1']; exact n5 n n0 n1'
  · unfold RA at r4 ⊢
    rw [cf 25 (by decide), cf 2 (by decide), ce 93 (by decide) (by decide) (by decide) (by decide), cn 29 (by decide), cm 122 (by decide)]; exact r4
  · unfold RBr at r6 ⊢
    rw [cf 33 (by decide), cf 2 (by decide), ce 95 (by decide) (by decide) (by decide) (by decide), ce 94 (by decide) (by decide) (by decide) (by decide), cn 32 (by decide), cn 66 (by decide), cn 67 (by decide), cm 123 (by decide), cm 124 (by decide)]; exact r6
  · unfold RD EP at r10 ⊢
    rw [ce (58 + 6) (by decide) (by decide) (by decide) (by decide), ce (58 + 2) (by decide) (by decide) (by decide) (by decide), ce 76 (by decide) (by decide) (by decide) (by decide)]; exact r10
theorem ebw_42 {e : Int} {h : zH} (p : EB e h) : zd h e 42 = 0 := p.2.1.2.2.2.2.2.2.2.2.2.2
theorem S_solve {a : Int} {h m0 : zH} {Q : Int → zH → Prop} (R0 : RR0 h m0) (k : ∀ r h1, FrC [91, 92] [0, 28, 29, 30] h h1 → (∀ m, RR0 h m → ∀ Q' : Int → zH → Prop, (∀ m', RR0 h1 m' → FrM [] [0] m m' → Q' r m') → P_M_solve a m Q') → Q r h1) : P_C_solve a h Q := by
  obtain ⟨r0, r1, r2, r3, r4, r5, r6, r7, r8, r9, r10⟩ := id R0
  obtain ⟨N1, N2, N3, N4, N5, N6, N7, N8⟩ := id r2
  unfold P_C_solve
  refine C_isIn (fun ha => ?_) (fun ha => ?_)
  · rw [if_neg (by decide)]
    unfold P_C_beginMain
    refine E_begin (Or.inl rfl) r1 r2 r9.1.1 r9.1.2 (Or.inl rfl) (fun h4 bg => ?_)
    obtain ⟨bA, bE, bS, ⟨b11, b28, b29, b45, b31⟩, b10, ⟨bes, bec⟩, bw, bL⟩ := bg
    intro h5 e5 h6 e6 h7 e7
    intro h8 e8 h9 e9
    have c14 : zd h4 14 = zd h 14 := bA.f (by decide)
    have k7 : ∀ b, b ≠ 91 → zd h7 b = zd h4 b := fun b n => by rw [e7, zw_f n, e6, zw_f n, e5, zw_f n]
    have k9 : ∀ b, b ≠ 14 → b ≠ 25 → b ≠ 91 → zd h9 b = zd h4 b := fun b n1 n2 n3 => by rw [e9, zw_f n2, e8, zw_f n1, k7 b n3]
    have f9 : ∀ j, zd h9 14 j = if j = 29 then 0 else zd h 14 j := fun j => by rw [e9, zd_a (by decide), e8, zup, k7 14 (by decide), c14]
    have g9 : ∀ j, zd h9 25 j = if j = 28 then zd h 14 25 else zd h4 25 j := fun j => by rw [e9, zup, e8, zd_i (by decide), zd_a (by decide), k7 25 (by decide), k7 14 (by decide), c14]
    have v91 : ∀ j, zd h9 91 j = if j = 2 then zd h 14 20 else if j = 1 then zd h 14 2 else if j = 3 then 0 else zd h 91 j := fun j => by
      rw [e9, zd_a (by decide), e8, zd_a (by decide), e7, zup, show zd h6 14 20 = zd h 14 20 from by rw [e6, zd_a (by decide), e5, zd_a (by decide), c14], e6, zup, show zd h5 14 2 = zd h 14 2 from by rw [e5, zd_a (by decide), c14], e5, zup, bA.d (b := 91) (by decide)]
    have t9 : h9.1 = h.1 ∧ h9.2.1 = h.2.1 ∧ h9.2.2.1 = h.2.2.1 := by
      rw [e9, e8, e7, e6, e5]; exact ⟨bA.1, bA.2.1, bA.2.2.1⟩
    have n25 := r4.1
    have tg9 : TG h9 := fun b b0 b1 => by unfold zt zl; rw [t9.2.1, t9.2.2]; exact r1 b b0 b1
    have t93 := st_t tg9 (a := 93) (by decide) (by decide)
    have t46 := st_t tg9 (a := 46) (by decide) (by decide)
    rw [f9, if_neg (by decide)]
    refine ⟨⟨t93.1, t46.1, by decide, by decide, n25.2.1, by rw [t93.2, Int.zero_add]; exact n25.2.2, by rw [t46.2, Int.zero_add]; exact n25.2.2⟩, ?_⟩
    intro h10 e10
    have k10 : ∀ b, b ≠ 14 → b ≠ 25 → b ≠ 46 → b ≠ 91 → zd h10 b = zd h4 b := fun b n1 n2 n3 n4 => by
      rw [← k9 b n1 n2 n4, e10]; funext j; rw [zd_zcp, if_neg (by exact fun x => n3 x.1)]
    have f10 : ∀ j, zd h10 14 j = if j = 29 then 0 else zd h 14 j := fun j => by rw [e10, zd_zcp, if_neg (by exact fun x => absurd x.1 (by decide)), f9]
    have g10 : ∀ j, zd h10 25 j = if j = 28 then zd h 14 25 else zd h4 25 j := fun j => by rw [e10, zd_zcp, if_neg (by exact fun x => absurd x.1 (by decide)), g9]
    have w10 : ∀ j, zd h10 91 j = zd h9 91 j := fun j => by rw [e10, zd_zcp, if_neg (by exact fun x => absurd x.1 (by decide))]
    have v46 : ∀ j, 0 ≤ j → j < zd h 14 25 → zd h10 46 j = zd h 93 j := fun j j0 j1 => by
      rw [e10, zd_zcp, if_pos ⟨rfl, j0, by omega⟩, k9 93 (by decide) (by decide) (by decide), bA.d (b := 93) (by decide), show 0 + (j - 0) = j by omega]
    have t10 : h10.1 = h.1 ∧ h10.2.1 = h.2.1 ∧ h10.2.2.1 = h.2.2.1 := by rw [e10]; exact t9
    have tg10 : TG h10 := fun b b0 b1 => by unfold zt zl; rw [t10.2.1, t10.2.2]; exact r1 b b0 b1
    have c4 : ∀ kk, kk ∈ ([1, 2, 3, 4, 5, 6, 7, 8, 9, 10, 11, 12, 13, 14, 15, 16, 17, 18] : List Int) → zd h10 (25 + kk) = zd h4 (25 + kk) := fun kk hk => k10 _ (by simp only [List.mem_cons, List.not_mem_nil, or_false] at hk; omega) (by simp only [List.mem_cons, List.not_mem_nil, or_false] at hk; omega) (by simp only [List.mem_cons, List.not_mem_nil, or_false] at hk; omega) (by simp only [List.mem_cons, List.not_mem_nil, or_false] at hk; omega)
    have f4 : ∀ j, j ≠ 28 → zd h10 25 j = zd h4 25 j := fun j n => by rw [g10, if_neg n]
    have v11 : zd h10 25 11 = zd h 14 2 := by rw [f4 11 (by decide), b11]
    have v28 : zd h10 25 28 = zd h 14 25 := by rw [g10, if_pos rfl]
    have es : ES 25 h10 500 := bes.cg (f4 10 (by decide)) (f4 11 (by decide)) (c4 1 (by decide)) (c4 2 (by decide)) (c4 5 (by decide)) (c4 7 (by decide)) (c4 8 (by decide)) (c4 9 (by decide)) (c4 10 (by decide))
    have ec : EC 25 h10 := (E3.cg (h := h4) ⟨⟨_, bes⟩, bec, bS.1.1.2.2.1⟩ (fun kk hk => c4 kk (by simp only [List.mem_cons, List.not_mem_nil, or_false] at hk ⊢; omega)) (fun kk hk => f4 kk (by simp only [List.mem_cons, List.not_mem_nil, or_false] at hk; omega))).2.1
    have eb : EB 25 h10 := by
      obtain ⟨⟨a1, a2, a3, a4, a5⟩, ⟨a6, a7, a8, a9, a10, a11, a12, a13, a14, a15, a16⟩, av⟩ := bE
      refine ⟨⟨by rw [f4 20 (by decide)]; exact a1, by rw [f4 21 (by decide)]; exact a2, by rw [f4 22 (by decide)]; exact a3, by rw [f4 25 (by decide)]; exact a4, by rw [f4 26 (by decide)]; exact a5⟩, ⟨by rw [f4 30 (by decide)]; exact a6, by rw [f4 32 (by decide)]; exact a7, by rw [f4 33 (by decide)]; exact a8, by rw [f4 34 (by decide)]; exact a9, by rw [f4 35 (by decide)]; exact a10, by rw [f4 36 (by decide)]; exact a11, by rw [f4 37 (by decide)]; exact a12, by rw [f4 38 (by decide)]; exact a13, by rw [f4 39 (by decide)]; exact a14, by rw [f4 40 (by decide)]; exact a15, by rw [f4 42 (by decide)]; exact a16⟩, ?_⟩
      rw [f4 11 (by decide), c4 11 (by decide), c4 14 (by decide)]; exact av
    have wt : ∀ n, 1 ≤ n → n ≤ zd h 14 2 → zd h10 (25 + 15) n = zd h (zd h 15 (n - 1)) 1 := fun n n0 n1 => by rw [c4 15 (by decide)]; exact bw n n0 n1
    have ea : EAs 25 h10 := by
      unfold EAs
      rw [v28, v11]
      exact ⟨n25.2, fun kk k0 k1 => by rw [show (25 : Int) + 21 = 46 by decide, v46 kk k0 k1]; exact (r4.2 kk k0 k1).2⟩
    have S10 : SI 25 h10 := SI_begin (Or.inl rfl) tg10 (es.up (by decide) (by decide)) ec eb (by rw [f4 10 (by decide)]; omega) (fun n n0 n1 => by rw [v11] at n1; rw [wt n n0 n1]; exact (N7 n n0 n1).2.1) (by rw [c4 18 (by decide), bA.f (b := 25 + 18) (by decide)]; exact r9.1.2) ea
    refine C_searched S10 (by omega) (by omega) (by rw [f10, if_neg (by decide)]; exact N1.1) (by rw [f10, if_neg (by decide)]; exact N1.2) (fun r h' hr mp srs => ?_)
    obtain ⟨mt, mc, m91, m92, m92', m29, msi, m43, mep⟩ := mp
    intro h11 e11 h12 e12
    have c12 : ∀ b, b ≠ 14 → zd h12 b = zd h' b := fun b n => by rw [e12, zw_f n, e11, zw_f n]
    have s' : zd h' 14 = zd h10 14 := mc 14 (by decide) (by decide) (by decide)
    have f12 : ∀ j, zd h12 14 j = if j = 30 then zd h 14 3 else if j = 28 then (if r = -1004 then 1 else 0) else if j = 29 then 0 else zd h 14 j := fun j => by
      rw [e12, zup, show zd h11 14 3 = zd h 14 3 from by rw [e11, zd_i (by decide), s', f10, if_neg (by decide)], e11, zup, s', f10]
    have ce12 : ∀ b, b ≠ 14 → ¬ (25 ≤ b ∧ b < 58) → b ≠ 91 → b ≠ 92 → zd h12 b = zd h b := fun b n1 n2 n3 n4 => by
      rw [c12 b n1, mc b n2 n3 n4, k10 b n1 (by omega) (by omega) n3, bA.f (b := b) (by simp only [List.mem_cons, List.not_mem_nil, or_false]; omega)]
    have cf12 : ∀ j, j ∉ ([28, 29, 30] : List Int) → zd h12 14 j = zd h 14 j := fun j hj => by
      simp only [List.mem_cons, List.not_mem_nil, or_false] at hj
      rw [f12, if_neg (by omega), if_neg (by omega), if_neg (by omega)]
    have t12 : h12.1 = h.1 ∧ h12.2.1 = h.2.1 ∧ h12.2.2.1 = h.2.2.1 := by
      rw [e12, e11]; exact ⟨mt.1.trans t10.1, mt.2.1.trans t10.2.1, mt.2.2.trans t10.2.2⟩
    have cE : ∀ b, 25 ≤ b → b < 58 → zd h12 b = zd h' b := fun b b0 b1 => c12 b (by omega)
    refine k r h12 ⟨t12, fun b n1 n2 n3 => ?_, fun j hj => cf12 j (fun x => hj (by simp only [List.mem_cons, List.not_mem_nil, or_false] at x ⊢; omega))⟩ (fun m R Q' kq => ?_)
    · simp only [List.mem_cons, List.not_mem_nil, or_false] at n3
      exact ce12 b n1 (by omega) (by omega) (by omega)
    obtain ⟨q0, q1, q2, q3, q4, q5, q6, q7, q8, q9, q10⟩ := id R
    unfold P_M_solve
    refine M_steps (fun _ => ?_) (fun z => absurd ha z)
    rw [if_neg (by decide)]
    refine M_prepare (by decide) (by decide) (fun m1 pp => ?_)
    obtain ⟨pA, p101, p137, p138, p139, p141, p147, pB, pf1, pf2, pf3, pf4⟩ := pp
    have p101' : ∀ j, zd m1 101 j = zd m 101 j := fun j => by rw [p101, if_neg (by exact fun x => absurd x.1 (by decide))]
    refine M_askAll (by decide) (by decide) (by rw [p101', ← q4.1.1]; exact q4.1.2.1) (by rw [p101', ← q4.1.1]; exact q4.1.2.2) (fun m2 aA a140 a140' a141 => ?_)
    rw [p101', ← q4.1.1] at a140 a141
    intro m3 f3 m4 f4' m5 f5 m6 f6
    have km6 : ∀ b, b ≠ 101 → zd m6 b = zd m2 b := fun b n => by rw [f6, zw_f n, f5, zw_f n, f4', zw_f n, f3, zw_f n]
    have jm6 : ∀ j, zd m6 101 j = if j = 89 then a else if j = 91 then 0 else if j = 59 then zd m 101 11 else if j = 58 then 0 else zd m 101 j := fun j => by
      rw [f6, zup, f5, zup, f4', zup, show zd m3 101 11 = zd m 101 11 from by rw [f3, zd_i (by decide), aA.d (b := 101) (by decide), p101'], f3, zup, aA.d (b := 101) (by decide), p101']
    have km : ∀ b, b ∉ ([101, 137, 138, 139, 140, 141, 143, 146, 147, 148, 150, 151, 152, 154, 155, 161, 162, 163] : List Int) → zd m6 b = zd m b := fun b hb => by
      simp only [List.mem_cons, List.not_mem_nil, or_false] at hb
      rw [km6 b (by omega), aA.f (b := b) (by simp only [List.mem_cons, List.not_mem_nil, or_false]; omega), pA.f (b := b) (by simp only [List.mem_cons, List.not_mem_nil, or_false]; omega)]
    have k1 : ∀ b, b ≠ 101 → b ≠ 140 → b ≠ 141 → zd m6 b = zd m1 b := fun b n1 n2 n3 => by rw [km6 b n1, aA.f (b := b) (by simp only [List.mem_cons, List.not_mem_nil, or_false]; omega)]
    have mb : MB 0 m6 := by
      unfold MB at pB ⊢
      rw [k1 143 (by decide) (by decide) (by decide), k1 146 (by decide) (by decide) (by decide), k1 148 (by decide) (by decide) (by decide), k1 150 (by decide) (by decide) (by decide), k1 151 (by decide) (by decide) (by decide), k1 152 (by decide) (by decide) (by decide), k1 154 (by decide) (by decide) (by decide), k1 155 (by decide) (by decide) (by decide), k1 161 (by decide) (by decide) (by decide), k1 162 (by decide) (by decide) (by decide), k1 163 (by decide) (by decide) (by decide)]; exact pB
    have v137 : zd m6 137 0 = zd h 14 2 := by rw [k1 137 (by decide) (by decide) (by decide), p137, if_pos rfl]; exact q3.1.symm
    have v138 : zd m6 138 0 = zd h 14 18 := by rw [k1 138 (by decide) (by decide) (by decide), p138, if_pos rfl]; exact q3.2.1.symm
    have v139 : ∀ r, 0 ≤ r → r < 500 → zd m6 139 (500 * 0 + r) = 1 := fun r r0 r1 => by rw [k1 139 (by decide) (by decide) (by decide), p139, if_pos (by omega)]
    have v147 : ∀ n, 1 ≤ n → n ≤ zd h 14 2 → zd m6 147 (301 * 0 + n) = zd h (zd h 15 (n - 1)) 1 := fun n n0 n1 => by rw [k1 147 (by decide) (by decide) (by decide), p147 n (by omega) (by omega)]; exact (q3.2.2.2.2 n n0 n1).symm
    have v155 : zd m6 155 0 = 0 := mb.2.2.2.2.2.2.1
    have v58 : zd m6 101 58 = 0 := by rw [jm6]; rfl
    have m119 : zd m6 119 = zd m 119 := km 119 (by decide)
    have m120 : zd m6 120 = zd m 120 := km 120 (by decide)
    have j66 : zd m6 101 66 = zd m 101 66 := by rw [jm6]; rfl
    have j67 : zd m6 101 67 = zd m 101 67 := by rw [jm6]; rfl
    have h31 : ∀ j, j ≠ 31 → zd (zw h10 25 31 a) 25 j = zd h10 25 j := fun j n => zd_i n
    have b31' : ∀ b, b ≠ 25 → zd (zw h10 25 31 a) b = zd h10 b := fun b n => zw_f n
    have ebw : EB 25 (zw h10 25 31 a) := by
      unfold EB at eb ⊢
      rw [h31 20 (by decide), h31 21 (by decide), h31 22 (by decide), h31 25 (by decide), h31 26 (by decide), h31 30 (by decide), h31 32 (by decide), h31 33 (by decide), h31 34 (by decide), h31 35 (by decide), h31 36 (by decide), h31 37 (by decide), h31 38 (by decide), h31 39 (by decide), h31 40 (by decide), h31 42 (by decide), h31 11 (by decide), b31' _ (by decide), b31' _ (by decide)]; exact eb
    have w11 : zd (zw h10 25 31 a) 25 11 = zd h 14 2 := by rw [h31 11 (by decide), v11]
    have L10 : LR 25 (zw h10 25 31 a) (fun s => s < zd h 14 18 ∧ ((0 : Int) = 0 ∨ zd h 0 s = 0)) (fun s => zd h 23 (s + 1) - zd h 23 s) (fun s i => zd h 22 (zd h 23 s + i)) := bL.cg (fun kk hk => by
      rw [b31' _ (by simp only [List.mem_cons, List.not_mem_nil, or_false] at hk; omega)]
      exact c4 kk (by simp only [List.mem_cons, List.not_mem_nil, or_false] at hk ⊢; omega))
    have R3' : R3 25 0 (zw h10 25 31 a) m6 := by
      refine R3_case (B := 0) (I := fun _ => True) L10 v155 (by rw [v138]; exact N2) (by decide) (fun kk k0 => ?_) (fun r r0 r1' => ?_) (fun s s0 s1 => ?_) (fun s s0 s1 => ?_) (fun kk k0 k1' => by omega)
      · rw [v58]
        exact ⟨fun x => by omega, fun x => x.2.elim (fun y => absurd y (by decide)) (fun y => absurd rfl y)⟩
      · rw [v138] at r1'
        rw [v139 r r0 (by omega)]; exact ⟨fun _ => trivial, fun _ => by decide⟩
      · rw [v138]
        exact ⟨fun x => Or.inl ⟨x.1, trivial⟩, fun x => x.elim (fun y => ⟨y.1, Or.inl rfl⟩) (fun y => by omega)⟩
      · rw [v138] at s1
        rw [m119, m120, ← q3.2.2.1 s s0 (by omega), ← q3.2.2.1 (s + 1) (by omega) (by omega)]
        refine ⟨rfl, fun i i0 i1 => ?_⟩
        have e1 := case_le r2 (r := s) (s := s + 1) s0 (by omega) (by omega)
        have e2 := case_le r2 (r := s + 1) (s := zd h 14 18) (by omega) (by omega) (Int.le_refl _)
        exact q3.2.2.2.1 _ (by omega) (by omega)
    have MRs : ∀ r, mlive m6 0 r → MR m6 0 (zd (zw h10 25 31 a) 25 11) r := by
      rw [w11]
      refine mr_case v155 (by rw [v138]; exact N2.2) (fun r r0 r1' => ?_) (fun r r0 r1' i i0 i1 => ?_) (by rw [j66]; exact q6.2.2.2.2.1) (by rw [j67]; exact q6.2.2.2.2.2.2) (fun kk k0 k1' z => ?_)
      · rw [v138] at r1'
        rw [m119, ← q3.2.2.1 r r0 (by omega), ← q3.2.2.1 (r + 1) (by omega) (by omega)]
        have e1 := case_le r2 (r := r) (s := r + 1) r0 (by omega) (by omega)
        have e2 := case_le r2 (r := r + 1) (s := zd h 14 18) (by omega) (by omega) (Int.le_refl _)
        omega
      · rw [v138] at r1'
        rw [m119, ← q3.2.2.1 r r0 (by omega), ← q3.2.2.1 (r + 1) (by omega) (by omega)] at i1
        rw [m119, m120, ← q3.2.2.1 r r0 (by omega)]
        have e1 := case_le r2 (r := r) (s := r + 1) r0 (by omega) (by omega)
        have e2 := case_le r2 (r := r + 1) (s := zd h 14 18) (by omega) (by omega) (Int.le_refl _)
        rw [← q3.2.2.2.1 _ (by omega) (by omega)]
        exact N6 _ (by omega) (by omega)
      · rw [v58] at z
        exact z.elim (fun y => absurd y (by decide)) (fun y => absurd rfl y)
    have R8' : R8 25 0 (zw h10 25 31 a) m6 := by
      unfold R8
      rw [h31 28 (by decide), v28, w11, b31' _ (by decide), km6 141 (by decide), a141, if_pos rfl]
      refine ⟨⟨rfl, n25.2⟩, fun kk k0 k1' => ?_⟩
      rw [show (25 : Int) + 21 = 46 by decide, v46 kk k0 k1', km6 140 (by decide), a140 kk k0 k1', pA.d (b := 122) (by decide)]
      exact ⟨(q4.2 kk k0 k1').1, (r4.2 kk k0 k1').2⟩
    have R9' : R9 25 0 (zw h10 25 31 a) m6 := q5.cg (fun kk hk => by simp only [List.mem_cons, List.not_mem_nil, or_false] at hk; rw [jm6, if_neg (by omega), if_neg (by omega), if_neg (by omega), if_neg (by omega)]) (fun kk hk => by simp only [List.mem_cons, List.not_mem_nil, or_false] at hk; rw [zd_a (by decide), f10, if_neg (by omega)])
    obtain ⟨RM, C7, L7⟩ := rel_begin (e := 25) (q := 0) ebw mb (by rw [w11]; exact N1.1) (by rw [w11]; exact N1.2) (by rw [w11, v137]) (fun n n0 n1 => by
      rw [w11] at n1
      rw [b31' _ (by decide), wt n n0 n1, v147 n n0 n1]
      exact ⟨rfl, (N7 n n0 n1).2.1⟩) R3' (by rw [v138]; exact N2) (by rw [j67]; exact q6.2.2.2.2.2) MRs R8' R9' (by rw [zd_s, jm6]; rfl)
    have RQ6 : RQ 25 (zw h10 25 31 a) m6 := by
      refine ⟨by rw [h31 42 (by decide), ebw_42 eb, jm6]; rfl, fun kk k0 k1' => ?_⟩
      rw [b31' _ (by decide), k10 (25 + 22) (by decide) (by decide) (by decide) (by decide), bA.d (b := 25 + 22) (by decide), km 164 (by decide)]
      exact q9.2.2.2.1.2 kk k0 k1'
    refine srs m6 ⟨RM, C7, L7, fun _ => RQ6⟩ _ (fun m7 sp fw => ?_)
    have a7 : zd m7 137 0 = zd h 14 2 := by rw [fw.2.1 137 (by decide)]; exact v137
    refine M_ended (by rw [a7]; exact N1.1) (by rw [a7]; exact N1.2) (fun m8 yE y101 y142 y136 y136' => ?_)
    have f8 : ∀ j, j ≠ 57 → zd m8 101 j = zd m7 101 j := fun j n => by rw [y101, if_neg n]
    have sp12 : SrP 25 0 r h12 m7 := sp.cgE cE (fun kk hk => by
      simp only [List.mem_cons, List.not_mem_nil, or_false] at hk
      rw [f12, if_neg (by omega), if_neg (by omega), if_neg (by omega), s', f10, if_neg (by omega)])
    obtain ⟨u1, u2, u3, u4⟩ := M_fin sp12 yE f8
    have j8 : ∀ j, j ∉ ([57, 58, 59, 89, 91, 94, 96, 97, 98, 99, 100, 104, 106] : List Int) → zd m8 101 j = zd m 101 j := fun j hj => by
      simp only [List.mem_cons, List.not_mem_nil, or_false] at hj
      rw [f8 j (by omega), fw.2.2.1 j (by simp only [List.mem_cons, List.not_mem_nil, or_false]; omega), jm6, if_neg (by omega), if_neg (by omega), if_neg (by omega), if_neg (by omega)]
    have c8 : ∀ b, b ∈ ([102, 103, 104, 105, 106, 107, 108, 109, 110, 111, 112, 113, 114, 115, 116, 117, 118, 119, 120, 121, 122, 123, 124, 125, 126, 127, 128, 129, 130, 131, 132, 133, 134, 135, 172, 173, 174] : List Int) → zd m8 b = zd m b := fun b hb => by
      rw [yE.f (b := b) (by simp only [List.mem_cons, List.not_mem_nil, or_false] at hb ⊢; omega), fw.2.1 b (by simp only [List.mem_cons, List.not_mem_nil, or_false] at hb ⊢; omega)]
      exact km b (by simp only [List.mem_cons, List.not_mem_nil, or_false] at hb ⊢; omega)
    have j59 : zd m8 101 59 = zd m 101 11 := by rw [f8 59 (by decide), fw.2.2.1 59 (by decide), jm6]; rfl
    have j58 : zd m8 101 58 = 0 := by rw [f8 58 (by decide), fw.2.2.1 58 (by decide)]; exact v58
    have v142 : zd m8 142 0 = r := by rw [y142, if_pos rfl]
    have v25 : zd h12 25 29 = r := by rw [c12 25 (by decide)]; exact m29
    obtain ⟨g0, g1, g2, g3, g4, g5, g6, g10'⟩ := RR0_rest R t12 ce12 cf12 (fun b hb => c8 b (by simp only [List.mem_cons, List.not_mem_nil, or_false] at hb ⊢; omega)) (fun j hj => j8 j (by simp only [List.mem_cons, List.not_mem_nil, or_false] at hj ⊢; omega))
    have v12_2 : zd h12 14 2 = zd h 14 2 := cf12 2 (by decide)
    have w91 : ∀ j, zd h12 91 j = if j = 3 ∧ r = 1 then 1 else zd h9 91 j := fun j => by rw [c12 91 (by decide), m91, w10]
    refine kq m8 ⟨g0, g1, g2, g3, g4, g5, g6, ?_, ?_, ?_, g10'⟩ ?_
    · -- the truth
      have x3 : zd h12 91 3 = if r = 1 then 1 else 0 := by
        rw [w91, v91]
        by_cases c : r = 1
        · rw [if_pos ⟨rfl, c⟩, if_pos c]
        · rw [if_neg (by exact fun x => c x.2), if_neg c]; rfl
      refine ⟨by rw [x3]; split <;> omega, by rw [x3, v142]; split <;> omega, fun z => ?_⟩
      have r1' : r = 1 := by rw [x3] at z; split at z <;> omega
      have x1 : zd h12 91 1 = zd h 14 2 := by rw [w91, if_neg (by exact fun x => absurd x.1 (by decide)), v91]; rfl
      have x2 : zd h12 91 2 = zd h 14 20 := by rw [w91, if_neg (by exact fun x => absurd x.1 (by decide)), v91]; rfl
      rw [x1, x2, yE.d (b := 137) (by decide), a7, j59, v12_2]
      refine ⟨rfl, q0.2, ⟨N1.1, Int.le_refl _⟩, fun n n0 n1 => ?_⟩
      have vv := sp.2.2.2.2 r1' n n0 (by rw [show zd h' 25 11 = zd m7 137 0 from sp.2.1.1.1, a7]; exact n1)
      rw [c12 92 (by decide), m92 r1' n n0 (by rw [f10, if_neg (by decide)]; exact n1), y136 r1' n n0 (by rw [a7]; exact n1)]
      rw [show (25 : Int) + 32 = 57 by decide, show 301 * (0 : Int) + n = n by omega] at vv
      rcases vv with ⟨v1, v2⟩ | ⟨v1, v2⟩
      · rw [v1, v2]; decide
      · rw [v1, v2]; decide
    · -- going on
      have x28 : zd h12 14 28 = if r = -1004 then 1 else 0 := by rw [f12]; rfl
      have x30 : zd h12 14 30 = zd h 14 3 := by rw [f12]; rfl
      have x3 : zd h12 14 3 = zd h 14 3 := cf12 3 (by decide)
      have y57 : zd m8 101 57 = if r = -1004 then 1 else 0 := by rw [y101, if_pos rfl]
      refine ⟨by rw [x28]; split <;> omega, by rw [y57]; split <;> omega, by omega, by rw [x28, x30, x3, y57]; exact ⟨fun z => z.1, fun z => ⟨z, rfl⟩⟩, fun z => ?_⟩
      have rs : r = -1004 := by rw [y57] at z; split at z <;> omega
      have tE : ∀ b, zt h12 b = zt h' b ∧ zl h12 b = zl h' b := fun b => by rw [e12, e11]; exact ⟨rfl, rfl⟩
      refine ⟨(msi rs).cgE cE (fun b => (tE b).1) (fun b => (tE b).2), u1 rs, j58, ?_, ?_, ?_, by rw [v142]; exact rs⟩
      · rw [c12 25 (by decide), v12_2, show zd h' 25 11 = zd m7 137 0 from sp.2.1.1.1, a7]
      · rw [w91, if_neg (by exact fun x => absurd x.1 (by decide)), v91, v12_2]; rfl
      · rw [w91, if_neg (by exact fun x => absurd x.1 (by decide)), v91, j59]; exact q0.2
    · refine ⟨⟨?_, ?_⟩, by rw [v25, v142], u2, u3, ⟨?_, Or.inl ?_⟩, fun z1 z2 => u4 (by omega)⟩
      · unfold EP at mep ⊢
        rw [cE _ (by decide) (by decide), cE _ (by decide) (by decide)]; exact mep
      · rw [cE 43 (by decide) (by decide)]; exact m43
      · rw [f12, j58]; rfl
      · rw [f12]; rfl
    · refine ⟨?_, fun b hb => ?_, fun b hb _ => c8 b hb, fun j hj hj' => j8 j (fun x => hj (by simp only [List.mem_cons, List.not_mem_nil, or_false] at x ⊢; omega))⟩
      · have e6 : m6.1 = m.1 ∧ m6.2.1 = m.2.1 ∧ m6.2.2.1 = m.2.2.1 := by
          rw [f6, f5, f4', f3]; exact ⟨aA.1.trans pA.1, aA.2.1.trans pA.2.1, aA.2.2.1.trans pA.2.2.1⟩
        exact ⟨(yE.1.trans fw.1.1).trans e6.1, (yE.2.1.trans fw.1.2.1).trans e6.2.1, (yE.2.2.1.trans fw.1.2.2.1).trans e6.2.2⟩
      · rw [yE.f (b := b) (by simp only [List.mem_cons, List.not_mem_nil, or_false]; omega)]
        refine (funext (fun j => fw.1.2.2.2 b j hb)).trans ?_
        exact km b (by simp only [List.mem_cons, List.not_mem_nil, or_false]; omega)
  · rw [if_pos rfl]
    unfold P_C_refused
    intro h1 e1
    refine k (-1001) h1 ⟨by rw [e1]; exact ⟨rfl, rfl, rfl⟩, fun b n1 n2 n3 => by rw [e1, zw_f n1], fun j hj => by rw [e1, zd_i (fun x => hj (by rw [x]; decide))]⟩ (fun m R Q' kq => ?_)
    unfold P_M_solve
    refine M_steps (fun z => absurd z ha) (fun _ => ?_)
    rw [if_pos rfl]
    unfold P_M_fail
    intro m1 f1
    refine kq m1 (by rw [e1, f1]; exact RR0_st R) ⟨by rw [f1]; exact ⟨rfl, rfl, rfl⟩, fun b hb => by rw [f1, zw_f (by omega)], fun b hb _ => by rw [f1, zw_f (by simp only [List.mem_cons, List.not_mem_nil, or_false] at hb; omega)], fun j _ hj => by rw [f1, zd_i (fun x => hj (by rw [x]; decide))]⟩
