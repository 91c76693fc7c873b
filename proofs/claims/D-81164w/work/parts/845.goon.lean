/-! goOn -/
theorem Rel_left {a : Int} {h m : zH} (p : Rel 25 0 h m) : Rel 25 0 (zw h 25 31 a) (zw m 101 89 a) := by
  obtain ⟨R, C, l, rq⟩ := p
  obtain ⟨c1, c2, c3, c4, c5, c6, c7, c8, c9, c10⟩ := C
  have e : ∀ j, j ≠ 31 → zd (zw h 25 31 a) 25 j = zd h 25 j := fun j n => zd_i n
  have d : ∀ b, b ≠ 101 → zd (zw m 101 89 a) b = zd m b := fun b n => zw_f n
  refine ⟨R.left (by decide), ⟨by rw [zd_s, zd_s], ?_, ?_, ?_, ?_, ?_, ?_, ?_, ?_, ?_⟩, by rw [d 155 (by decide), e 25 (by decide)]; exact l, fun z => (rq z).cg (zw_f (by decide)) (e 42 (by decide)) (d 164 (by decide)) (zd_i (by decide))⟩
  · rw [e 30 (by decide), d 163 (by decide)]; exact c2
  · rw [e 32 (by decide), d 163 (by decide)]; exact c3
  · rw [e 33 (by decide), d 163 (by decide)]; exact c4
  · rw [e 34 (by decide), d 163 (by decide)]; exact c5
  · rw [e 35 (by decide), d 163 (by decide)]; exact c6
  · rw [e 36 (by decide), d 163 (by decide)]; exact c7
  · rw [e 38 (by decide), d 163 (by decide)]; exact c8
  · rw [e 39 (by decide), d 161 (by decide)]; exact c9
  · rw [e 40 (by decide), d 162 (by decide)]; exact c10
/-- a refusal -/
theorem S_ref {v : Int} {h : zH} {Q : Int → zH → Prop} {PM : zH → (Int → zH → Prop) → Prop} (hM : ∀ m, RR0 h m → ∀ Q' : Int → zH → Prop, P_M_fail v m Q' → PM m Q') (k : ∀ r h1, FrC [91, 92] [0, 28, 29, 30] h h1 → (∀ m, RR0 h m → ∀ Q' : Int → zH → Prop, (∀ m', RR0 h1 m' → FrM [] [0] m m' → Q' r m') → PM m Q') → Q r h1) : P_C_refused v h Q := by
  unfold P_C_refused
  intro h1 e1
  refine k v h1 ⟨by rw [e1]; exact ⟨rfl, rfl, rfl⟩, fun b n1 n2 n3 => by rw [e1, zw_f n1], fun j hj => by rw [e1, zd_i (fun x => hj (by rw [x]; decide))]⟩ (fun m R Q' kq => hM m R Q' ?_)
  unfold P_M_fail
  intro m1 f1
  refine kq m1 (by rw [e1, f1]; exact RR0_st R) ⟨by rw [f1]; exact ⟨rfl, rfl, rfl⟩, fun b hb => by rw [f1, zw_f (by omega)], fun b hb _ => by rw [f1, zw_f (by simp only [List.mem_cons, List.not_mem_nil, or_false] at hb; omega)], fun j _ hj => by rw [f1, zd_i (fun x => hj (by rw [x]; decide))]⟩
theorem S_goOn {a : Int} {h m0 : zH} {Q : Int → zH → Prop} (R0 : RR0 h m0) (k : ∀ r h1, FrC [91, 92] [0, 28, 29, 30] h h1 → (∀ m, RR0 h m → ∀ Q' : Int → zH → Prop, (∀ m', RR0 h1 m' → FrM [] [0] m m' → Q' r m') → P_M_goOn a m Q') → Q r h1) : P_C_goOn a h Q := by
  obtain ⟨r0, r1, r2, r3, r4, r5, r6, r7, r8, r9, r10⟩ := id R0
  obtain ⟨N1, N2, N3, N4, N5, N6, N7, N8⟩ := id r2
  unfold P_C_goOn
  refine C_isIn (fun ha => ?_) (fun ha => ?_)
  · rw [if_neg (by decide)]
    have stop : ¬ (zd h 14 28 = 1 ∧ zd h 14 30 = zd h 14 3) → P_C_refused (-1002) h (fun r3 h4 => Q r3 h4) := by
      intro no
      refine S_ref (PM := fun m Q' => P_M_goOn a m Q') (fun m R Q' H => ?_) k
      unfold P_M_goOn
      refine M_steps (fun _ => ?_) (fun z => absurd ha z)
      obtain ⟨x1, x2, x3, x4, x5⟩ := R.2.2.2.2.2.2.2.2.1
      rw [if_neg (by decide), if_pos (by have := mt x4.mpr no; omega)]
      exact H
    refine zif_i (fun c => stop (fun x => by omega)) (fun c => zif_i (fun c2 => ?_) (fun c2 => stop (fun x => c2 x.2)))
    have c28 : zd h 14 28 = 1 := by have := r8.1; omega
    have go0 : zd m0 101 57 = 1 := r8.2.2.2.1.mp ⟨c28, c2⟩
    obtain ⟨S, -, -, w11, w1, -, -⟩ := r8.2.2.2.2 go0
    refine C_searched S (by omega) (by omega) N1.1 N1.2 (fun r h' hr mp srs => ?_)
    obtain ⟨mt', mc, m91, m92, m92', m29, msi, m43, mep⟩ := mp
    intro h11 e11
    have c12 : ∀ b, b ≠ 14 → zd h11 b = zd h' b := fun b n => by rw [e11, zw_f n]
    have s' : zd h' 14 = zd h 14 := mc 14 (by decide) (by decide) (by decide)
    have f12 : ∀ j, zd h11 14 j = if j = 28 then (if r = -1004 then 1 else 0) else zd h 14 j := fun j => by rw [e11, zup, s']
    have ce12 : ∀ b, b ≠ 14 → ¬ (25 ≤ b ∧ b < 58) → b ≠ 91 → b ≠ 92 → zd h11 b = zd h b := fun b n1 n2 n3 n4 => by rw [c12 b n1, mc b n2 n3 n4]
    have cf12 : ∀ j, j ∉ ([28, 29, 30] : List Int) → zd h11 14 j = zd h 14 j := fun j hj => by
      simp only [List.mem_cons, List.not_mem_nil, or_false] at hj
      rw [f12, if_neg (by omega)]
    have t12 : h11.1 = h.1 ∧ h11.2.1 = h.2.1 ∧ h11.2.2.1 = h.2.2.1 := by rw [e11]; exact mt'
    have cE : ∀ b, 25 ≤ b → b < 58 → zd h11 b = zd h' b := fun b b0 b1 => c12 b (by omega)
    refine k r h11 ⟨t12, fun b n1 n2 n3 => ?_, fun j hj => cf12 j (fun x => hj (by simp only [List.mem_cons, List.not_mem_nil, or_false] at x ⊢; omega))⟩ (fun m R Q' kq => ?_)
    · simp only [List.mem_cons, List.not_mem_nil, or_false] at n3
      exact ce12 b n1 (by omega) (by omega) (by omega)
    obtain ⟨q0, q1, q2, q3, q4, q5, q6, q7, q8, q9, q10⟩ := id R
    have go1 : zd m 101 57 = 1 := q8.2.2.2.1.mp ⟨c28, c2⟩
    obtain ⟨-, RL, j58', -, -, w2, sd⟩ := q8.2.2.2.2 go1
    unfold P_M_goOn
    refine M_steps (fun _ => ?_) (fun z => absurd ha z)
    rw [if_neg (by decide), if_neg (by omega)]
    intro m6 f6
    have km6 : ∀ b, b ≠ 101 → zd m6 b = zd m b := fun b n => by rw [f6, zw_f n]
    have jm6 : ∀ j, j ≠ 89 → zd m6 101 j = zd m 101 j := fun j n => by rw [f6, zd_i n]
    refine srs m6 (by rw [f6]; exact Rel_left RL) _ (fun m7 sp fw => ?_)
    have a7 : zd m7 137 0 = zd h 14 2 := by rw [fw.2.1 137 (by decide), km6 137 (by decide), ← w11]; exact RL.1.2.1.2.2.2.2.2.symm
    refine M_ended (by rw [a7]; exact N1.1) (by rw [a7]; exact N1.2) (fun m8 yE y101 y142 y136 y136' => ?_)
    have f8 : ∀ j, j ≠ 57 → zd m8 101 j = zd m7 101 j := fun j n => by rw [y101, if_neg n]
    have sp12 : SrP 25 0 r h11 m7 := sp.cgE cE (fun kk hk => by
      simp only [List.mem_cons, List.not_mem_nil, or_false] at hk
      rw [f12, if_neg (by omega), s'])
    obtain ⟨u1, u2, u3, u4⟩ := M_fin sp12 yE f8
    have j8 : ∀ j, j ∉ ([57, 89, 91, 94, 96, 97, 98, 99, 100, 104, 106] : List Int) → zd m8 101 j = zd m 101 j := fun j hj => by
      simp only [List.mem_cons, List.not_mem_nil, or_false] at hj
      rw [f8 j (by omega), fw.2.2.1 j (by simp only [List.mem_cons, List.not_mem_nil, or_false]; omega), jm6 j (by omega)]
    have c8 : ∀ b, b ∈ ([102, 103, 104, 105, 106, 107, 108, 109, 110, 111, 112, 113, 114, 115, 116, 117, 118, 119, 120, 121, 122, 123, 124, 125, 126, 127, 128, 129, 130, 131, 132, 133, 134, 135, 172, 173, 174] : List Int) → zd m8 b = zd m b := fun b hb => by
      rw [yE.f (b := b) (by simp only [List.mem_cons, List.not_mem_nil, or_false] at hb ⊢; omega), fw.2.1 b (by simp only [List.mem_cons, List.not_mem_nil, or_false] at hb ⊢; omega)]
      exact km6 b (by simp only [List.mem_cons, List.not_mem_nil, or_false] at hb; omega)
    have j59 : zd m8 101 59 = zd m 101 59 := j8 59 (by decide)
    have j58 : zd m8 101 58 = 0 := by rw [j8 58 (by decide)]; exact j58'
    have v142 : zd m8 142 0 = r := by rw [y142, if_pos rfl]
    have v25 : zd h11 25 29 = r := by rw [c12 25 (by decide)]; exact m29
    obtain ⟨g0, g1, g2, g3, g4, g5, g6, g10'⟩ := RR0_rest R t12 ce12 cf12 (fun b hb => c8 b (by simp only [List.mem_cons, List.not_mem_nil, or_false] at hb ⊢; omega)) (fun j hj => j8 j (by simp only [List.mem_cons, List.not_mem_nil, or_false] at hj ⊢; omega))
    have v12_2 : zd h11 14 2 = zd h 14 2 := cf12 2 (by decide)
    have w91 : ∀ j, zd h11 91 j = if j = 3 ∧ r = 1 then 1 else zd h 91 j := fun j => by rw [c12 91 (by decide), m91]
    have x1 : zd h11 91 1 = zd h 14 2 := by rw [w91, if_neg (by exact fun x => absurd x.1 (by decide))]; exact w1
    have x2 : zd h11 91 2 = zd m 101 59 := by rw [w91, if_neg (by exact fun x => absurd x.1 (by decide))]; exact w2
    -- before it goes on nothing was found
    have nt : zd h 91 3 = 0 := by
      have z := q7.2.1
      have y := q9.2.1
      have x := q7.1
      rcases x with x | x
      · exact x
      · have := z.mp x; omega
    refine kq m8 ⟨g0, g1, g2, g3, g4, g5, g6, ?_, ?_, ?_, g10'⟩ ?_
    · have x3 : zd h11 91 3 = if r = 1 then 1 else 0 := by
        rw [w91]
        by_cases c : r = 1
        · rw [if_pos ⟨rfl, c⟩, if_pos c]
        · rw [if_neg (by exact fun x => c x.2), if_neg c]; exact nt
      refine ⟨by rw [x3]; split <;> omega, by rw [x3, v142]; split <;> omega, fun z => ?_⟩
      have r1' : r = 1 := by rw [x3] at z; split at z <;> omega
      rw [x1, x2, yE.d (b := 137) (by decide), a7, j59, v12_2]
      refine ⟨rfl, rfl, ⟨N1.1, Int.le_refl _⟩, fun n n0 n1 => ?_⟩
      have vv := sp.2.2.2.2 r1' n n0 (by rw [show zd h' 25 11 = zd m7 137 0 from sp.2.1.1.1, a7]; exact n1)
      rw [c12 92 (by decide), m92 r1' n n0 n1, y136 r1' n n0 (by rw [a7]; exact n1)]
      rw [show (25 : Int) + 32 = 57 by decide, show 301 * (0 : Int) + n = n by omega] at vv
      rcases vv with ⟨v1, v2⟩ | ⟨v1, v2⟩
      · rw [v1, v2]; decide
      · rw [v1, v2]; decide
    · have x28 : zd h11 14 28 = if r = -1004 then 1 else 0 := by rw [f12]; rfl
      have x30 : zd h11 14 30 = zd h 14 30 := by rw [f12]; rfl
      have x3 : zd h11 14 3 = zd h 14 3 := cf12 3 (by decide)
      have y57 : zd m8 101 57 = if r = -1004 then 1 else 0 := by rw [y101, if_pos rfl]
      refine ⟨by rw [x28]; split <;> omega, by rw [y57]; split <;> omega, by omega, by rw [x28, x30, x3, y57]; exact ⟨fun z => z.1, fun z => ⟨z, c2⟩⟩, fun z => ?_⟩
      have rs : r = -1004 := by rw [y57] at z; split at z <;> omega
      have tE : ∀ b, zt h11 b = zt h' b ∧ zl h11 b = zl h' b := fun b => by rw [e11]; exact ⟨rfl, rfl⟩
      refine ⟨(msi rs).cgE cE (fun b => (tE b).1) (fun b => (tE b).2), u1 rs, j58, ?_, by rw [x1, v12_2], by rw [x2, j59], by rw [v142]; exact rs⟩
      rw [c12 25 (by decide), v12_2, show zd h' 25 11 = zd m7 137 0 from sp.2.1.1.1, a7]
    · refine ⟨⟨?_, ?_⟩, by rw [v25, v142], u2, u3, ⟨?_, ?_⟩, fun z1 z2 => u4 (by omega)⟩
      · unfold EP at mep ⊢
        rw [cE _ (by decide) (by decide), cE _ (by decide) (by decide)]; exact mep
      · rw [cE 43 (by decide) (by decide)]; exact m43
      · rw [f12, j58, if_neg (by decide)]; exact q9.2.2.2.2.1.1.trans j58'
      · rw [f12, if_neg (by decide)]; exact q9.2.2.2.2.1.2
    · refine ⟨?_, fun b hb => ?_, fun b hb _ => c8 b hb, fun j hj hj' => j8 j (fun x => hj (by simp only [List.mem_cons, List.not_mem_nil, or_false] at x ⊢; omega))⟩
      · have e6 : m6.1 = m.1 ∧ m6.2.1 = m.2.1 ∧ m6.2.2.1 = m.2.2.1 := by rw [f6]; exact ⟨rfl, rfl, rfl⟩
        exact ⟨(yE.1.trans fw.1.1).trans e6.1, (yE.2.1.trans fw.1.2.1).trans e6.2.1, (yE.2.2.1.trans fw.1.2.2.1).trans e6.2.2⟩
      · rw [yE.f (b := b) (by simp only [List.mem_cons, List.not_mem_nil, or_false]; omega)]
        refine (funext (fun j => fw.1.2.2.2 b j hb)).trans ?_
        exact km6 b (by omega)
  · rw [if_pos rfl]
    refine S_ref (PM := fun m Q' => P_M_goOn a m Q') (fun m R Q' H => ?_) k
    unfold P_M_goOn
    refine M_steps (fun z => absurd z ha) (fun _ => ?_)
    rw [if_pos rfl]
    exact H
