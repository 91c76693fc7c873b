/-! noBy against endAsked -/
theorem M_coreItems {q c : Int} {m : zH} {Q : Int → zH → Prop} (c0 : 0 ≤ c) (c1 : c ≤ 20) (hr : ∀ j, 0 ≤ j → j < c → -2147483647 ≤ zd m 167 j ∧ zd m 167 j ≤ 2147483647) (kq : q ≠ 0 → Q 0 m) (kk : q = 0 → ∀ m', yA [101, 166] m m' → (∀ j, j ≠ 96 → zd m' 101 j = zd m 101 j) → (1 ≤ c → zd m' 101 96 = c) → (∀ j, 0 ≤ j → j < c → zd m' 166 j = -(zd m 167 j)) → Q 0 m') : ∃ n, P_M_endAsked_L263 q c Q n 0 m := by
  by_cases hq : q = 0
  · have key : ∀ (d f : Nat) (y : Int) (g : zH), y = c - d → 0 ≤ y → d < f → yA [101, 166] m g → (∀ j, j ≠ 96 → zd g 101 j = zd m 101 j) → (1 ≤ y → zd g 101 96 = y) → (∀ j, 0 ≤ j → j < y → zd g 166 j = -(zd m 167 j)) → P_M_endAsked_L263 q c Q f y g := by
      intro d
      induction d with
      | zero =>
        intro f y g hy y0 hf gA gf g96 gl
        obtain ⟨f, rfl⟩ : ∃ m, f = m + 1 := ⟨f - 1, by omega⟩
        unfold P_M_endAsked_L263
        rw [if_pos (by omega)]
        have ey : y = c := by omega
        rw [ey] at g96 gl
        exact kk hq g gA gf g96 gl
      | succ d ih =>
        intro f y g hy y0 hf gA gf g96 gl
        obtain ⟨f, rfl⟩ : ∃ m, f = m + 1 := ⟨f - 1, by omega⟩
        have r := hr y y0 (by omega)
        unfold P_M_endAsked_L263
        rw [if_neg (by omega), if_pos hq, gA.f (b := 167) (by decide), w32_of (x := -(zd m 167 y)) (by omega) (by omega), w32_of (x := y + 1) (by omega) (by omega)]
        refine ⟨⟨by omega, by omega⟩, ⟨by omega, by omega⟩, ?_⟩
        intro h35 e35 h36 e36 x4 e4
        rw [e4]
        refine ih f (y + 1) h36 (by omega) (by omega) (by omega) (by rw [e36, e35]; exact (gA.w (by simp)).w (by simp)) (fun j hj => by rw [e36, zd_i hj, e35, zd_a (by decide)]; exact gf j hj) (fun _ => by rw [e36, zd_s]) (fun j j0 j1 => ?_)
        rw [e36, zd_a (by decide), e35, zd_zw]
        by_cases z : j = y
        · rw [if_pos ⟨rfl, z⟩, z]
        · rw [if_neg (by exact fun x => z x.2)]; exact gl j j0 (by omega)
    exact ⟨c.toNat + 1, key c.toNat _ 0 m (by omega) (by decide) (by omega) (yA.rf _ _) (fun _ _ => rfl) (fun z => absurd z (by decide)) (fun j j0 j1 => by omega)⟩
  · refine ⟨1, ?_⟩
    unfold P_M_endAsked_L263
    by_cases z : c ≤ 0
    · rw [if_pos z]; exact kq hq
    · rw [if_neg z, if_neg hq]; exact kq hq
def NyS (e q a : Int) (h : zH) (r : Int) (h' : zH) : Prop := ∀ m, RMs e q h m → R7 e q h m → zd m 155 q = zd h e 25 → (q = 0 → RQ e h m) → ∀ Q' : Int → zH → Prop, (∀ m', RE e q h' m' → MFw q m m' → (q = 0 → RQ e h' m') → (r = 0 → q = 0 → RC e h' m') → Q' r m') → P_M_endAsked q a m Q'
theorem S_noBy {e q a : Int} {h : zH} {Q : Int → zH → Prop} (he : zE e) (q0 : 0 ≤ q) (q1 : q ≤ 1) (p : SI e h) (ha : ∃ k, 0 ≤ k ∧ k < zd h e 28 ∧ zd h (e + 21) k = a) (k : ∀ r h', (r = 0 ∨ r = -1003) → E3 e h' → zd h' e 21 = zd h e 21 → zd h' (e + 18) = zd h (e + 18) → NyS e q a h r h' → Q r h') : P_E_noBy e a h Q := by
  have eR : 25 ≤ e ∧ e ≤ 58 := by rcases he with z | z <;> omega
  obtain ⟨S0, -, -⟩ := id p
  obtain ⟨I, X, p3, p4, p5, p6, p7, p8⟩ := id S0
  obtain ⟨hs, hc, hT, hL, hO, t16, l16⟩ := id I
  have A3 := hs.1
  have T1 := hT.1
  have EA := p8.2.2.2.2.2
  obtain ⟨ka, ka0, ka1, ka2⟩ := ha
  have ita : eit (zd h e 11) a := by rw [← ka2]; exact EA.2 ka ka0 ka1
  have ira := zab_r ita
  unfold P_E_noBy
  refine E_beginSet A3.1 A3.2 (fun h2 p2 => ?_)
  obtain ⟨B1, B2, B3, B4⟩ := p2
  have g2 : ∀ j, j ≠ 50 → j ≠ 52 → j ≠ 54 → zd h2 e j = zd h e j := fun j n1 n2 n3 => by rw [B2, if_neg (by omega)]
  have a2 : zd h2 e 11 = zd h e 11 := g2 11 (by decide) (by decide) (by decide)
  have L6 : ∀ (d f : Nat) (y : Int) (g : zH) (K : zH → Prop), y = zd h e 11 + 1 - d → 1 ≤ y → d < f → yA [e + 27] h2 g → (∀ n, 1 ≤ n → n < y → zd g (e + 27) n = 0) → (∀ g, yA [e + 27] h2 g → (∀ n, 1 ≤ n → n ≤ zd h e 11 → zd g (e + 27) n = 0) → K g) → P_E_noBy_L6 e a Q K f y g := by
    intro d
    induction d with
    | zero =>
      intro f y g K hy y0 hf gA gz kk
      obtain ⟨f, rfl⟩ : ∃ m, f = m + 1 := ⟨f - 1, by omega⟩
      unfold P_E_noBy_L6
      rw [gA.d (b := e) (by simp only [List.mem_cons, List.not_mem_nil, or_false]; omega), a2, if_pos (by omega)]
      exact kk g gA (fun n n0 n1 => gz n n0 (by omega))
    | succ d ih =>
      intro f y g K hy y0 hf gA gz kk
      obtain ⟨f, rfl⟩ : ∃ m, f = m + 1 := ⟨f - 1, by omega⟩
      unfold P_E_noBy_L6
      rw [gA.d (b := e) (by simp only [List.mem_cons, List.not_mem_nil, or_false]; omega), a2, if_neg (by omega), zbit_0, w32_of (x := y + 1) (by omega) (by omega)]
      refine ⟨⟨by omega, by omega⟩, ?_⟩
      intro h3 e3 x2 ex
      rw [ex]
      refine ih f (y + 1) h3 K (by omega) (by omega) (by omega) (by rw [e3]; exact gA.w (by simp)) (fun n n0 n1 => ?_) kk
      rw [e3, zd_zw]
      by_cases z : n = y
      · rw [if_pos ⟨rfl, z⟩]
      · rw [if_neg (by exact fun x => z x.2)]; exact gz n n0 (by omega)
  refine ⟨(zd h e 11).toNat + 1, L6 (zd h e 11).toNat _ 1 h2 _ (by omega) (by decide) (by omega) (yA.rf _ _) (fun n n0 n1 => by omega) (fun h5 a5 z5 => ?_)⟩
  intro x2 ex2
  rw [zabs_of ita A3.2] at ex2
  rw [ex2, zbit_1]
  refine ⟨⟨by omega, by omega⟩, ?_⟩
  intro h7 e7
  have A7 : yA [e, e + 25, e + 26, e + 27, e + 29] h h7 := by rw [e7]; exact ((B1.mono (by simp)).tr (a5.mono (by simp))).w (by simp)
  have g7 : ∀ j, j ≠ 50 → j ≠ 52 → j ≠ 54 → zd h7 e j = zd h e j := fun j n1 n2 n3 => by rw [e7, zd_a (by omega), a5.d (b := e) (by simp only [List.mem_cons, List.not_mem_nil, or_false]; omega), g2 j n1 n2 n3]
  have c50 : zd h7 e 50 = 0 := by rw [e7, zd_a (by omega), a5.d (b := e) (by simp only [List.mem_cons, List.not_mem_nil, or_false]; omega), B2, if_pos (by decide)]
  have a7 : zd h7 e 11 = zd h e 11 := g7 11 (by decide) (by decide) (by decide)
  have t7 : zd h7 e 20 = zd h e 20 := g7 20 (by decide) (by decide) (by decide)
  have m7 : ∀ n, 1 ≤ n → n ≤ zd h e 11 → zd h7 (e + 25) n = if n = zab a then 1 else 0 := by
    intro n n0 n1
    rw [e7, zd_zw]
    by_cases z : n = zab a
    · rw [if_pos ⟨rfl, z⟩, if_pos z]
    · rw [if_neg (by exact fun x => z x.2), if_neg z, a5.f (b := e + 25) (by simp only [List.mem_cons, List.not_mem_nil, or_false]; omega)]; exact (B3 n n0 n1).1
  have z7 : ∀ n, 1 ≤ n → n ≤ zd h e 11 → zd h7 (e + 27) n = 0 := fun n n0 n1 => by rw [e7, zd_a (by omega)]; exact z5 n n0 n1
  have s7 : ∀ w, 0 ≤ w → w < 8 → zd h7 (e + 29) w = 0 := fun w w0 w1 => by rw [e7, zd_a (by omega), a5.d (b := e + 29) (by simp only [List.mem_cons, List.not_mem_nil, or_false]; omega)]; exact B4 w w0 w1
  have ca7 : ∀ k, k ∈ ([1, 2, 3, 4, 5, 6, 7, 8, 9, 10, 11, 12, 13, 14, 15, 16, 17, 18, 19, 20, 21, 22] : List Int) → zd h7 (e + k) = zd h (e + k) := fun k hk => A7.f (by simp only [List.mem_cons, List.not_mem_nil, or_false] at hk ⊢; omega)
  have S7 : SI0 e h7 := S0.cg (fun k hk => ca7 k (by simp only [List.mem_cons, List.not_mem_nil, or_false] at hk ⊢; omega)) (fun k hk => g7 k (by simp only [List.mem_cons, List.not_mem_nil, or_false] at hk; omega) (by simp only [List.mem_cons, List.not_mem_nil, or_false] at hk; omega) (by simp only [List.mem_cons, List.not_mem_nil, or_false] at hk; omega)) (fun b => A7.t b) (fun b => A7.l b)
  intro x3 ex3
  rw [t7, w32_of (by omega) (by omega)] at ex3
  rw [ex3]
  refine ⟨(zd h e 20).toNat + 1, S_nb (q := q) he q0 q1 S7.1 S7.2.2.2.2.2.2.2.2.2.1 S7.2.2.2.2.2.2.2.2.2.2.1 (zd h e 20).toNat _ _ h7 (by omega) (by omega) (by omega) (yA.rf _ _) (fun n n0 n1 => by rw [a7] at n1; rw [m7 n n0 n1]; split <;> omega) (fun h16 A16 nbs => ?_)⟩
  intro h17 e17
  have A17 : yA [e, e + 25, e + 26, e + 27, e + 29] h h17 := by rw [e17]; exact (A7.tr (A16.mono (by simp))).w (by simp)
  have g17 : ∀ j, j ≠ 45 → zd h17 e j = zd h7 e j := fun j n1 => by rw [e17, zd_i n1, A16.d (b := e) (by simp only [List.mem_cons, List.not_mem_nil, or_false]; omega)]
  have c45 : zd h17 e 45 = 0 := by rw [e17, zd_s]
  have d50 : zd h17 e 50 = 0 := by rw [g17 50 (by decide), c50]
  have ca17 : ∀ k, k ∈ ([1, 2, 3, 4, 5, 6, 7, 8, 9, 10, 11, 12, 13, 14, 15, 16, 17, 18, 19, 20, 21, 22] : List Int) → zd h17 (e + k) = zd h (e + k) := fun k hk => A17.f (by simp only [List.mem_cons, List.not_mem_nil, or_false] at hk ⊢; omega)
  have f17 : ∀ j, j ≠ 45 → j ≠ 50 → j ≠ 52 → j ≠ 54 → zd h17 e j = zd h e j := fun j n0 n1 n2 n3 => by rw [g17 j n0, g7 j n1 n2 n3]
  have S17 : SI0 e h17 := S0.cg (fun k hk => ca17 k (by simp only [List.mem_cons, List.not_mem_nil, or_false] at hk ⊢; omega)) (fun k hk => f17 k (by simp only [List.mem_cons, List.not_mem_nil, or_false] at hk; omega) (by simp only [List.mem_cons, List.not_mem_nil, or_false] at hk; omega) (by simp only [List.mem_cons, List.not_mem_nil, or_false] at hk; omega) (by simp only [List.mem_cons, List.not_mem_nil, or_false] at hk; omega)) (fun b => A17.t b) (fun b => A17.l b)
  have EA17 := S17.2.2.2.2.2.2.2.2.2.2.2.2
  have u28 : zd h17 e 28 = zd h e 28 := f17 28 (by decide) (by decide) (by decide) (by decide)
  have u11 : zd h17 e 11 = zd h e 11 := f17 11 (by decide) (by decide) (by decide) (by decide)
  have a20 := EA.1
  refine ⟨(zd h e 28).toNat + 1, S_items (q := q) (h := h17) he q0 q1 S17.1.1 EA17 (zd h e 28).toNat _ 0 h17 (by omega) (by decide) (by omega) ⟨yA.rf _ _, fun _ _ _ => rfl, by omega, by omega, fun j j0 j1 => by omega⟩ (by omega) (Or.inr ⟨ka, ka0, by omega, by rw [ca17 21 (by decide)]; exact ka2⟩) (fun g ip cn its => ?_)⟩
  obtain ⟨iA, if', i45, i50, il⟩ := id ip
  have Ag : yA [e, e + 24, e + 25, e + 26, e + 27, e + 28, e + 29] h g := (A17.mono (by simp)).tr (iA.mono (by simp))
  have cag : ∀ k, k ∈ ([1, 2, 3, 4, 5, 6, 7, 8, 9, 10, 11, 12, 13, 14, 15, 16, 17, 18, 19, 20, 21, 22] : List Int) → zd g (e + k) = zd h (e + k) := fun k hk => Ag.f (by simp only [List.mem_cons, List.not_mem_nil, or_false] at hk ⊢; omega)
  have fg : ∀ j, j ≠ 45 → j ≠ 50 → j ≠ 52 → j ≠ 54 → zd g e j = zd h e j := fun j n0 n1 n2 n3 => by rw [if' j n0 n1, f17 j n0 n1 n2 n3]
  have cfg : ∀ k, k ∈ ([10, 11, 20, 21, 22, 25, 26, 28, 30, 31, 32, 33, 34, 35, 36, 37, 38, 39, 40] : List Int) → zd g e k = zd h e k := fun k hk => fg k (by simp only [List.mem_cons, List.not_mem_nil, or_false] at hk; omega) (by simp only [List.mem_cons, List.not_mem_nil, or_false] at hk; omega) (by simp only [List.mem_cons, List.not_mem_nil, or_false] at hk; omega) (by simp only [List.mem_cons, List.not_mem_nil, or_false] at hk; omega)
  have Sg : SI0 e g := S0.cg (fun k hk => cag k (by simp only [List.mem_cons, List.not_mem_nil, or_false] at hk ⊢; omega)) (fun k hk => cfg k (by simp only [List.mem_cons, List.not_mem_nil, or_false] at hk ⊢; omega)) (fun b => Ag.t b) (fun b => Ag.l b)
  obtain ⟨Ig, Xg, q3, q4, q5, q6, q7, q8⟩ := id Sg
  have c25 : zd g e 25 = zd h e 25 := cfg 25 (by decide)
  have c26 : zd g e 26 = zd h e 26 := cfg 26 (by decide)
  have c21 : zd g e 21 = zd h e 21 := cfg 21 (by decide)
  have c42 : zd g e 42 = zd h e 42 := fg 42 (by decide) (by decide) (by decide) (by decide)
  have c11 : zd g e 11 = zd h e 11 := cfg 11 (by decide)
  have hit : ∀ j, 0 ≤ j → j < zd g e 50 → eit (zd g e 11) (zd g (e + 28) j) := fun j j0 j1 => by
    obtain ⟨z1, z2⟩ := il j j0 j1
    rw [c11, z2]; rw [u11] at z1
    unfold eit at z1 ⊢; omega
  -- there, up to the room
  have there : ∀ m, RMs e q h m → R7 e q h m → ∀ (Q' : Int → zH → Prop), (∀ m5, yA [160, 167, 168, 169] m m5 → RMs e q g m5 → R7 e q g m5 → (∀ j, 0 ≤ j → j < zd g e 50 → zd m5 167 j = zd g (e + 28) j) → (∀ w b, 0 ≤ w → w < 8 → b < 64 → hb (zd g (e + 29) w) b = hb (zd m5 160 w) b) → P_M_hasRoom q (zd g e 50) m5 (fun r29 h30 => if r29 = 0 then (Q' (-1003) h30) else (P_M_record q (zd g e 50) h30 (fun _ h32 => P_M_keepCore q h32 (fun _ h34 => ∃ n263, P_M_endAsked_L263 q (zd g e 50) Q' n263 0 h34))))) → P_M_endAsked q a m Q' := by
    intro m R C Q' H
    unfold P_M_endAsked
    refine M_clearMarks (fun m1 b1 z1 => M_clearSources (fun m2 b2 z2 => M_nameOf ita A3.2 ⟨⟨by omega, by omega⟩, ?_⟩))
    intro m3 e3
    rw [zbit_1] at e3
    have D3 : yA [160, 168, 169] m m3 := by rw [e3]; exact ((b1.mono (by simp)).tr (b2.mono (by simp))).w (by simp)
    have R7' : RMs e q h7 m := R.cg (fun k hk => ca7 k (by simp only [List.mem_cons, List.not_mem_nil, or_false] at hk ⊢; omega)) (fun k hk => g7 k (by simp only [List.mem_cons, List.not_mem_nil, or_false] at hk; omega) (by simp only [List.mem_cons, List.not_mem_nil, or_false] at hk; omega) (by simp only [List.mem_cons, List.not_mem_nil, or_false] at hk; omega)) (fun k _ => A7.d (by simp only [List.mem_cons, List.not_mem_nil, or_false]; omega) k) (fun _ _ => rfl) (fun _ _ => rfl)
    refine ⟨⟨by omega, by omega⟩, ?_⟩
    intro x3 ex3'
    rw [D3.d (b := 150) (by decide), ← R.2.1.2.2.1, w32_of (by omega) (by omega)] at ex3'
    rw [ex3']
    refine ⟨(zd h e 20).toNat + 2, nbs m m3 R7' D3 ⟨fun n n0 n1 => ?_, fun w b w0 w1 bb => ?_⟩ _ Q' _ (by omega) (fun m4 D4 nb4 => ?_)⟩
    · rw [a7] at n1
      have y1 := z1 n (by omega) (by omega)
      have v := m7 n n0 n1
      have u := z7 n n0 n1
      have v168 : zd m3 168 n = if n = zab a then 1 else 0 := by
        rw [e3, zd_zw]
        by_cases z : n = zab a
        · rw [if_pos ⟨rfl, z⟩, if_pos z]
        · rw [if_neg (by exact fun x => z x.2), if_neg z, b2.f (b := 168) (by decide)]; exact y1.1
      have v169 : zd m3 169 n = 0 := by rw [e3, zd_a (by decide), b2.f (b := 169) (by decide)]; exact y1.2
      refine ⟨?_, by rw [v, v168], by rw [u, v169]⟩
      rw [v]; split <;> omega
    · rw [s7 w w0 w1, e3, zd_a (by decide), z2 w w0 w1]
    · have R17 : RMs e q h17 m := R.cg (fun k hk => ca17 k (by simp only [List.mem_cons, List.not_mem_nil, or_false] at hk ⊢; omega)) (fun k hk => f17 k (by simp only [List.mem_cons, List.not_mem_nil, or_false] at hk; omega) (by simp only [List.mem_cons, List.not_mem_nil, or_false] at hk; omega) (by simp only [List.mem_cons, List.not_mem_nil, or_false] at hk; omega) (by simp only [List.mem_cons, List.not_mem_nil, or_false] at hk; omega)) (fun k _ => A17.d (by simp only [List.mem_cons, List.not_mem_nil, or_false]; omega) k) (fun _ _ => rfl) (fun _ _ => rfl)
      have w25 : zd h17 (e + 27) = zd h16 (e + 27) := by rw [e17, zw_f (by omega)]
      have key := its m m4 R17 (D4.mono (by simp)) (fun n n0 n1 => by rw [u11, ← a7] at n1; rw [w25]; exact (nb4.1 n n0 n1).2.2) (fun j j0 j1 => by omega) ((zd h e 28).toNat + 1) Q'
      rw [d50] at key
      refine ⟨(zd h e 28).toNat + 1, key _ (by omega) (fun m5 d5 f5 => ?_)⟩
      have D5 : yA [160, 167, 168, 169] m m5 := (D4.mono (by simp)).tr (d5.mono (by simp))
      refine H m5 D5 (R.cg (fun k hk => cag k (by simp only [List.mem_cons, List.not_mem_nil, or_false] at hk ⊢; omega)) (fun k hk => cfg k (by simp only [List.mem_cons, List.not_mem_nil, or_false] at hk ⊢; omega)) (fun k _ => Ag.d (by simp only [List.mem_cons, List.not_mem_nil, or_false]; omega) k) (fun k hk => D5.f (by simp only [List.mem_cons, List.not_mem_nil, or_false] at hk ⊢; omega)) (fun k _ => D5.d (by decide) k)) (C.cg (fun k hk => cfg k (by simp only [List.mem_cons, List.not_mem_nil, or_false] at hk ⊢; omega)) (fun k hk => D5.f (by simp only [List.mem_cons, List.not_mem_nil, or_false] at hk ⊢; omega)) (fun k _ => D5.d (by decide) k)) f5 (fun w b w0 w1 bb => ?_)
      rw [iA.f (b := e + 29) (by simp only [List.mem_cons, List.not_mem_nil, or_false]; omega), e17, zd_a (by omega), d5.f (b := 160) (by decide)]; exact nb4.2 w b w0 w1 bb
  refine E_no (h := g) Ig.1 Ig.2.1 (Int.le_refl _) q3.1 i50 (by omega) q4.1.1 q4.1.2 q4.2 hit q8.1 q8.2.1 (fun full => ?_) (fun full hk h' pk hsk hck kA kw => ?_)
  · refine k (-1003) g (Or.inr rfl) ⟨⟨_, Ig.1⟩, Ig.2.1, Ig.2.2.1⟩ c21 (cag 18 (by decide)) ?_
    intro m R C rl rq Q' kq
    refine there m R C Q' (fun m5 D5 R5' C5 fr sr => ?_)
    refine M_room q0 q1 R5' i50 (by omega) (fun _ => ?_) (fun z => absurd full z)
    rw [if_pos rfl]
    have F5 : MFr q m m5 := MFr.of D5 (fun b hb => by simp only [List.mem_cons, List.not_mem_nil, or_false] at hb ⊢; omega) (fun b n hb hn j hj => by
      simp only [List.mem_cons, List.not_mem_nil, or_false, Prod.mk.injEq] at hb hn; omega)
    exact kq m5 (RE.of R5' C5) F5.wk (fun z => (rq z).cg (cag 22 (by decide)) c42 (D5.f (by decide)) (D5.d (by decide) _)) (fun z => absurd z (by decide))
  · have ck : ∀ k, k ≠ 25 → k ≠ 26 → k ≠ 10 → zd hk e k = zd g e k := fun k a b c => by rw [pk.2.1, if_neg a, if_neg b, if_neg c, if_neg (by exact fun x => x.2 rfl)]
    have c' : zd h' e = zd hk e := kA.f (by simp only [List.mem_cons, List.not_mem_nil, or_false]; omega)
    have cta : ∀ k, k ∈ ([1, 2, 3, 4, 5, 6, 7, 8, 9, 10, 11, 15, 17, 18, 19, 20, 22, 24] : List Int) → zd h' (e + k) = zd hk (e + k) := fun k hk => kA.f (by simp only [List.mem_cons, List.not_mem_nil, or_false] at hk ⊢; omega)
    have e3k : E3 e hk := ⟨⟨_, hsk⟩, hck, keep_ET pk Ig.2.2.1⟩
    have c24 : zd h' (e + 24) = zd g (e + 24) := by rw [cta 24 (by decide), pk.1.f (b := e + 24) (by simp only [List.mem_cons, List.not_mem_nil, or_false]; omega)]
    have c22 : zd h' (e + 22) = zd h (e + 22) := by rw [cta 22 (by decide), pk.1.f (b := e + 22) (by simp only [List.mem_cons, List.not_mem_nil, or_false]; omega), cag 22 (by decide)]
    have k42 : zd h' e 42 = zd h e 42 := by rw [c', ck 42 (by decide) (by decide) (by decide), c42]
    have k45 : zd h' e 45 = zd g e 50 := by rw [c', ck 45 (by decide) (by decide) (by decide), i45]
    have k11 : zd h' e 11 = zd h e 11 := by rw [c', ck 11 (by decide) (by decide) (by decide), c11]
    refine k 0 h' (Or.inl rfl) (e3k.cg (fun k hk => cta k (by simp only [List.mem_cons, List.not_mem_nil, or_false] at hk ⊢; omega)) (fun k hk => by rw [c'])) (by rw [c', ck 21 (by decide) (by decide) (by decide), c21]) (by rw [cta 18 (by decide), pk.1.f (b := e + 18) (by simp only [List.mem_cons, List.not_mem_nil, or_false]; omega), cag 18 (by decide)]) ?_
    intro m R C rl rq Q' kq
    refine there m R C Q' (fun m5 D5 R5' C5 fr sr => ?_)
    refine M_room q0 q1 R5' i50 (by omega) (fun z => absurd z full) (fun _ => ?_)
    rw [if_neg (by decide)]
    have F5 : MFr q m m5 := MFr.of D5 (fun b hb => by simp only [List.mem_cons, List.not_mem_nil, or_false] at hb ⊢; omega) (fun b n hb hn j hj => by
      simp only [List.mem_cons, List.not_mem_nil, or_false, Prod.mk.injEq] at hb hn; omega)
    have r154 : zd m5 154 q = zd g e 25 := R5'.2.2.2.2.1.1.1.symm
    have r152 : zd m5 152 (801 * q + zd m5 154 q) = zd g e 26 := by rw [r154]; exact R5'.2.2.2.2.1.2.1.symm
    refine M_record (n := zd g e 50) q0 q1 i50 (by omega) (by omega) (by omega) (by omega) (by omega) (fun m6 rp => ?_)
    obtain ⟨R6', C6, F6⟩ := S_keep0 (n := zd g e 50) he q0 q1 Ig.1 (Int.le_refl _) R5' C5 (by rw [D5.f (b := 155) (by decide), rl, c25]) (by omega) rfl i50 (by omega) hit fr sr pk rp
    have RE6 : RE e q h' m6 := (RE.of R6' C6).cg (fun k hk => cta k (by simp only [List.mem_cons, List.not_mem_nil, or_false] at hk ⊢; omega)) (fun k hk => by rw [c']) (fun _ _ => rfl) rfl
    have r167 : zd m6 167 = zd m5 167 := rp.1.f (by decide)
    have bd : ∀ j, 0 ≤ j → j < zd g e 50 → -2147483647 ≤ zd m5 167 j ∧ zd m5 167 j ≤ 2147483647 := fun j j0 j1 => by
      rw [fr j j0 j1]
      have := hit j j0 j1
      unfold eit at this; omega
    refine M_keepCore q0 q1 (fun qq => ?_) (fun qq m7 a7' b7 c7 => ?_)
    · refine M_coreItems i50 (by omega) (by rw [r167]; exact bd) (fun _ => ?_) (fun z => by omega)
      exact kq m6 RE6 (F5.tr F6).wk (fun z => by omega) (fun _ z => by omega)
    · refine M_coreItems i50 (by omega) (by rw [a7'.f (b := 167) (by decide), r167]; exact bd) (fun z => absurd qq z) (fun _ m8 a8 b8 c8 d8 => ?_)
      rw [a7'.f (b := 167) (by decide), r167] at d8
      have A68 : yA [101, 165, 166] m6 m8 := (a7'.mono (by simp)).tr (a8.mono (by simp))
      have A58 : yA [101, 152, 153, 154, 158, 165, 166] m5 m8 := (rp.1.mono (by simp)).tr (A68.mono (by simp))
      refine kq m8 (RE6.cg (fun _ _ => rfl) (fun _ _ => rfl) (fun k hk => A68.f (by simp only [List.mem_cons, List.not_mem_nil, or_false] at hk ⊢; omega)) (by rw [b8 89 (by decide), b7 89 (by decide)])) ?_ (fun z => (rq z).cg c22 k42 (by rw [A58.f (b := 164) (by decide), D5.f (b := 164) (by decide)]) (by rw [b8 91 (by decide), b7 91 (by decide), rp.1.d (b := 101) (by decide), D5.d (b := 101) (by decide)])) (fun _ _ => ⟨?_, ?_, ?_, ?_⟩)
      · subst qq
        refine MFw.tr ((F5.tr F6).wk.core a7' b7) ?_
        exact ⟨⟨a8.1, a8.2.1, a8.2.2.1, fun b j hb => a8.d (by simp only [List.mem_cons, List.not_mem_nil, or_false]; omega) j⟩, fun b hb => a8.f (by simp only [List.mem_cons, List.not_mem_nil, or_false] at hb ⊢; omega), fun j hj => b8 j (by simp only [List.mem_cons, List.not_mem_nil, or_false] at hj; omega), fun hq => absurd hq (by decide), fun b n hbn j hj => a8.d (by simp only [List.mem_cons, List.not_mem_nil, or_false, Prod.mk.injEq] at hbn ⊢; omega) j⟩
      · rw [b8 94 (by decide), a8.f (b := 165) (by decide)]
        refine c7.cg (fun r r0 r1 => ?_) (fun _ _ _ => rfl)
        unfold cbit
        rw [kw (r / 64) (by omega) (by omega), sr (r / 64) (r % 64).toNat (by omega) (by omega) (by omega), rp.1.f (b := 160) (by decide)]
      · rw [k45, c8 cn.1]
      · rw [k45]; omega
      · intro j j0 j1
        rw [k45] at j1
        obtain ⟨z1, z2⟩ := il j j0 j1
        rw [c24, k11, d8 j j0 j1, fr j j0 j1, z2]
        rw [u11] at z1
        exact ⟨by omega, z1⟩
