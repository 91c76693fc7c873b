/-! learning: all of learn, here and up to the list there -/
def LearnP (e : Int) (h h' : zH) : Prop := yA [e, e + 25, e + 26, e + 28, e + 29, e + 30] h h' ∧ (∀ j, j ≠ 50 → j ≠ 52 → j ≠ 54 → zd h' e j = zd h e j) ∧ EG e h' ∧ (1 ≤ zd h' e 50 ∧ zd h' e 50 ≤ 300) ∧ zd h' e 52 = cwas e h' ∧ (0 ≤ zd h' e 54 ∧ zd h' e 54 ≤ 301) ∧ (∀ i, 0 ≤ i → i < zd h' e 54 → 0 ≤ zd h' (e + 30) i ∧ zd h' (e + 30) i < 800) ∧
  ∃ first, (0 ≤ first ∧ first < zd h e 20 ∧ zd h' (e + 25) (tn e h first) = 1) ∧ zd h' (e + 28) 0 = -(zd h (e + 17) first) ∧ zd h (e + 12) (tn e h first) = zd h e 21 ∧ ∀ j, 1 ≤ j → j < zd h' e 50 → ∃ i, 0 ≤ i ∧ i < first ∧ zd h' (e + 28) j = -(zd h (e + 17) i) ∧ 1 ≤ zd h (e + 12) (tn e h i) ∧ zd h (e + 12) (tn e h i) < zd h e 21
def MlF (m m' : zH) : Prop := yA [101, 167, 168, 169, 170] m m' ∧ ∀ j, j ≠ 104 → j ≠ 106 → zd m' 101 j = zd m 101 j
/-- the greatest level of the made items but the first -/
def toOf (e : Int) (h h' : zH) (t : Int) : Prop := 0 ≤ t ∧ (∀ j, 1 ≤ j → j < zd h' e 50 → zd h (e + 12) (zab (zd h' (e + 28) j)) ≤ t) ∧ (t = 0 ∨ ∃ j, 1 ≤ j ∧ j < zd h' e 50 ∧ zd h (e + 12) (zab (zd h' (e + 28) j)) = t)
def LearnS (e q s : Int) (h h' : zH) : Prop := ∀ m, RMs e q h m → R7 e q h m → zd m 101 98 = num s → ∀ (Q' : Int → zH → Prop) (KK : Int → Int → Int → Int → zH → Prop), (∀ m' t, RMs e q h' m' → R7 e q h' m' → GLr e q h' m' → MG (zd h e 11) m' → (0 ≤ zd m' 101 106 ∧ zd m' 101 106 ≤ 301) → (∀ j, 0 ≤ j → j < zd h' e 50 → zd m' 167 j = zd h' (e + 28) j) → toOf e h h' t → MlF m m' → KK (num s) (zd h e 21) (zd h' e 50) t m') →
  P_M_clearMarks m (fun _ h2 => ∀ h3 : zH, h3 = zw h2 101 106 0 → ∀ h4 : zH, h4 = zw h3 101 104 0 → ∀ x2_5 : Int, x2_5 = (zd h4 101 98) → (0 ≤ q ∧ q < 2) ∧ ∀ x3_6 : Int, x3_6 = (zd h4 151 q) → P_M_useRow q x2_5 0 h4 (fun _ h8 => P_M_lastOne q h8 (fun r9 h10 => ∀ h11 : zH, h11 = zw h10 167 0 (w32 (-r9)) → (0 ≤ q ∧ q < 2) ∧ ∀ x7_12 : Int, x7_12 = (w32 ((zd h11 150 q) - 1)) → ∃ n76, P_M_learn_L76 q x2_5 x3_6 r9 Q' (KK x2_5 x3_6) n76 1 0 x7_12 h11)))
theorem M_skip {e q first top c to row here : Int} {h m : zH} {Q' : Int → zH → Prop} {K' : Int → Int → zH → Prop} (q0 : 0 ≤ q) (q1 : q ≤ 1) (hs : ES e h top) (hT : ET e h) (f0 : 0 ≤ first) (f1 : first < zd h e 20) (htr : ∀ i, 0 ≤ i → i < zd h e 20 → zd m 149 (300 * q + i) = zd h (e + 17) i) (hmk : ∀ i, first < i → i < zd h e 20 → zd m 168 (tn e h i) = 0) (H : ∀ n : Nat, first < n → P_M_learn_L76 q row here (zd h (e + 17) first) Q' K' n c to (first - 1) m) : ∀ (d n : Nat) (y : Int), y = first + d → y < zd h e 20 → y + 1 < n → P_M_learn_L76 q row here (zd h (e + 17) first) Q' K' n c to y m := by
  have A3 := hs.1
  have T1 := hT.1
  intro d
  induction d with
  | zero =>
    intro n y hy y1 hn
    obtain ⟨n, rfl⟩ : ∃ m, n = m + 1 := ⟨n - 1, by omega⟩
    have ey : y = first := by omega
    obtain ⟨it, tr⟩ := hT.2.1 first f0 f1
    unfold P_M_learn_L76 P_M_learn_J171
    simp only [w32_al, w32_ar, w32_sl, w32_sr, w32_ml, w32_mr]
    rw [ey, if_neg (by omega), w32_of (x := 300 * q + first) (by omega) (by omega), htr first f0 f1, show w32 (first + -1) = first - 1 from by rw [w32_of (by omega) (by omega)]; omega]
    refine ⟨⟨by omega, by omega⟩, ?_⟩
    intro x8 e8
    rw [e8]
    refine M_nameOf it A3.2 ?_
    rw [if_pos rfl]
    intro x7 e7
    rw [e7]
    exact H n (by omega)
  | succ d ih =>
    intro n y hy y1 hn
    obtain ⟨n, rfl⟩ : ∃ m, n = m + 1 := ⟨n - 1, by omega⟩
    obtain ⟨it, tr⟩ := hT.2.1 y (by omega) y1
    have ir := zab_r it
    unfold P_M_learn_L76 P_M_learn_J171
    simp only [w32_al, w32_ar, w32_sl, w32_sr, w32_ml, w32_mr]
    rw [if_neg (by omega), w32_of (x := 300 * q + y) (by omega) (by omega), htr y (by omega) y1, show w32 (y + -1) = y - 1 from by rw [w32_of (by omega) (by omega)]; omega]
    refine ⟨⟨by omega, by omega⟩, ?_⟩
    intro x8 e8
    rw [e8]
    refine M_nameOf it A3.2 ?_
    have go : P_M_learn_L76 q row here (zd h (e + 17) first) Q' K' n c to (y - 1) m := ih n (y - 1) (by omega) (by omega) (by omega)
    refine zif_i (fun _ => ?_) (fun _ => ⟨⟨by omega, by omega⟩, ?_⟩)
    · intro x7 e7; rw [e7]; exact go
    · rw [if_pos (show zd m 168 (zab (zd h (e + 17) y)) = 0 from hmk y (by omega) y1)]
      intro x7 e7; rw [e7]; exact go
theorem S_learn0 {e q top s : Int} {h : zH} {Q : Int → zH → Prop} (he : zE e) (q0 : 0 ≤ q) (q1 : q ≤ 1) (hE : EInv e h top) (hX : EX e h) (hn : 1 ≤ zd h e 21) (s0 : 0 ≤ s) (s1 : s < 1364) (hq : Equar e h s) (t29 : zt h (e + 29) = 53) (l29 : zl h (e + 29) = 8) (k : ∀ h', LearnP e h h' → LearnS e q s h h' → Q 0 h') : P_E_learn e s h Q := by
  have eR : 25 ≤ e ∧ e ≤ 58 := by rcases he with z | z <;> omega
  obtain ⟨hs, hc, hT, hL, hO, t16, l16⟩ := id hE
  have A3 := hs.1
  have T1 := hT.1
  have nr := now_r hE
  have ht : zd h (e + 5) s = 1 := (hs.2.2.2.2.2.2 s s0 s1).resolve_left hq.1
  have ls : elaid e h s := Or.inl ⟨s0, s1, ht⟩
  obtain ⟨-, ⟨f0, z0, f1⟩, -⟩ := hs.2.2.2.2.2.1 s ls
  obtain ⟨qc, qc0, qc1, qc2⟩ := quar_lv hE hX s0 s1 hq hn
  have allf : ∀ c, zd h (e + 1) s ≤ c → c < zd h (e + 1) s + zd h (e + 2) s → zd h (e + 11) (zab (zd h (e + 7) c)) ≠ 0 := by
    intro c k0 k1
    have it := (hs.2.2.2.2.1 c (by omega) (by omega)).1
    have q3 := hq.2.2
    rw [(hc.1 s ls).2] at q3
    unfold ecnt at q3
    have f : est e h (zd h (e + 7) c) = -1 := zct_all.mp (q3.trans (show zd h (e + 2) s = ((zd h (e + 2) s).toNat : Int) by omega)) c k0 (by omega)
    rw [est_ab e h it] at f; split at f <;> omega
  unfold P_E_learn
  refine E_beginSet A3.1 A3.2 (fun h2 p2 => ?_)
  obtain ⟨B1, B2, B3, B4⟩ := p2
  have k2 : ∀ b, b ≠ e → b ≠ e + 25 → b ≠ e + 26 → b ≠ e + 29 → zd h2 b = zd h b := fun b n1 n2 n3 n4 => B1.f (by simp only [List.mem_cons, List.not_mem_nil, or_false]; omega)
  have g2 : ∀ j, j ≠ 50 → j ≠ 52 → j ≠ 54 → zd h2 e j = zd h e j := fun j n1 n2 n3 => by rw [B2, if_neg (by omega)]
  have hE2 : EInv e h2 top := hE.cg (fun k hk => k2 _ (by simp only [List.mem_cons, List.not_mem_nil, or_false] at hk; omega) (by simp only [List.mem_cons, List.not_mem_nil, or_false] at hk; omega) (by simp only [List.mem_cons, List.not_mem_nil, or_false] at hk; omega) (by simp only [List.mem_cons, List.not_mem_nil, or_false] at hk; omega)) (fun k hk => g2 k (by simp only [List.mem_cons, List.not_mem_nil, or_false] at hk; omega) (by simp only [List.mem_cons, List.not_mem_nil, or_false] at hk; omega) (by simp only [List.mem_cons, List.not_mem_nil, or_false] at hk; omega)) (B1.t _) (B1.l _)
  have hX2 : EX e h2 := hX.cg (fun k hk => k2 _ (by simp only [List.mem_cons, List.not_mem_nil, or_false] at hk; omega) (by simp only [List.mem_cons, List.not_mem_nil, or_false] at hk; omega) (by simp only [List.mem_cons, List.not_mem_nil, or_false] at hk; omega) (by simp only [List.mem_cons, List.not_mem_nil, or_false] at hk; omega)) (g2 21 (by decide) (by decide) (by decide))
  have a2 : zd h2 e 11 = zd h e 11 := g2 11 (by decide) (by decide) (by decide)
  have n2 : zd h2 e 21 = zd h e 21 := g2 21 (by decide) (by decide) (by decide)
  have G2 : EG e h2 := fun n n0 n1 => by
    rw [a2] at n1
    have := B3 n n0 n1; omega
  have cm2 : ∀ l, cmk e h2 l = 0 := by
    intro l
    unfold cmk
    refine zct_0.mpr (fun i i0 i1 => ?_)
    have i2 : i ≤ zd h e 11 := by rw [a2] at i1; omega
    rw [if_neg (by exact fun p => by have := p.1; have := (B3 i i0 i2).1; omega)]; decide
  have cw2 : cwas e h2 = 0 := by
    unfold cwas
    refine zct_0.mpr (fun i i0 i1 => ?_)
    have i2 : i ≤ zd h e 11 := by rw [a2] at i1; omega
    have := (B3 i i0 i2).2; omega
  rw [n2]
  have ht2 : zd h2 (e + 5) s = 1 := by rw [k2 (e + 5) (by omega) (by omega) (by omega) (by omega)]; exact ht
  refine E_gather hE2.1 G2 (by rw [B1.t]; exact t29) (by rw [B1.l]; exact l29) (Or.inl ⟨s0, s1, ht2⟩) (by rw [B2, if_pos (by decide)]; decide) (by rw [B2, if_pos (by decide)]; decide) (fun r h4 pg => ?_)
  obtain ⟨E1, E2, E3, E4, E5, E6, E7, E8, E9⟩ := id pg
  have k4 : ∀ b, b ≠ e → b ≠ e + 25 → b ≠ e + 26 → b ≠ e + 29 → b ≠ e + 30 → zd h4 b = zd h b := fun b n1 n2 n3 n4 n5 => by rw [E1.f (b := b) (by simp only [List.mem_cons, List.not_mem_nil, or_false]; omega), k2 b n1 n2 n3 n4]
  have g4 : ∀ j, j ≠ 50 → j ≠ 52 → j ≠ 54 → zd h4 e j = zd h e j := fun j n1 n2 n3 => by rw [E2 j n2 n3, g2 j n1 n2 n3]
  have A4 : yA [e, e + 25, e + 26, e + 28, e + 29, e + 30] h h4 := (B1.mono (by simp)).tr (E1.mono (by simp))
  have t4 : zd h4 e 20 = zd h e 20 := g4 20 (by decide) (by decide) (by decide)
  have n4 : zd h4 e 21 = zd h e 21 := g4 21 (by decide) (by decide) (by decide)
  have a4 : zd h4 e 11 = zd h e 11 := g4 11 (by decide) (by decide) (by decide)
  have f50 : zd h4 e 50 = 0 := by rw [E2 50 (by decide) (by decide), B2]; rfl
  have b1 : zd h2 (e + 1) = zd h (e + 1) := k2 _ (by omega) (by omega) (by omega) (by omega)
  have b2 : zd h2 (e + 2) = zd h (e + 2) := k2 _ (by omega) (by omega) (by omega) (by omega)
  have b7 : zd h2 (e + 7) = zd h (e + 7) := k2 _ (by omega) (by omega) (by omega) (by omega)
  have b12 : zd h2 (e + 12) = zd h (e + 12) := k2 _ (by omega) (by omega) (by omega) (by omega)
  have mk4 : ∀ n, 1 ≤ n → n ≤ zd h e 11 → zd h4 (e + 25) n = 1 → ∃ c, zd h (e + 1) s ≤ c ∧ c < zd h (e + 1) s + zd h (e + 2) s ∧ zab (zd h (e + 7) c) = n ∧ zd h (e + 12) n ≠ 0 := by
    intro n n0 n1 n2'
    rcases ((E4 n n0 (by rw [a2]; exact n1)).1.mp n2') with w | ⟨c, c0, c1, c2, c3, c4⟩
    · have := (B3 n n0 n1).1; omega
    · rw [b1] at c0 c1; rw [b2] at c1; rw [b7] at c2; rw [b12] at c4
      exact ⟨c, c0, c1, c2, c4⟩
  have rb : r = cmk e h4 (zd h e 21) := by rw [E5, cm2]; omega
  have qit := (hs.2.2.2.2.1 qc (by omega) (by omega)).1
  have qr := zab_r qit
  have r1 : 1 ≤ r := by
    rw [rb]
    have nz : cmk e h4 (zd h e 21) ≠ 0 := by
      intro z
      unfold cmk at z
      have := zct_0.mp z (zab (zd h (e + 7) qc)) qr.1 (by rw [a4]; omega)
      apply this
      show (if zd h4 (e + 25) (zab (zd h (e + 7) qc)) = 1 ∧ zd h4 (e + 12) (zab (zd h (e + 7) qc)) = zd h e 21 then (1 : Int) else 0) = 1
      rw [if_pos]
      refine ⟨(E4 _ qr.1 (by rw [a2]; exact qr.2)).1.mpr (Or.inr ⟨qc, by rw [b1]; exact qc0, by rw [b1, b2]; exact qc1, by rw [b7], by omega, by rw [b12, qc2]; omega⟩), by rw [k4 (e + 12) (by omega) (by omega) (by omega) (by omega) (by omega)]; exact qc2⟩
    have := zct_le (fun n => if zd h4 (e + 25) n = 1 ∧ zd h4 (e + 12) n = zd h e 21 then 1 else 0) 1 1 (zd h4 e 11).toNat
    unfold cmk at nz ⊢; omega
  have hE4 : EInv e h4 top := hE.cg (fun k hk => k4 _ (by simp only [List.mem_cons, List.not_mem_nil, or_false] at hk; omega) (by simp only [List.mem_cons, List.not_mem_nil, or_false] at hk; omega) (by simp only [List.mem_cons, List.not_mem_nil, or_false] at hk; omega) (by simp only [List.mem_cons, List.not_mem_nil, or_false] at hk; omega) (by simp only [List.mem_cons, List.not_mem_nil, or_false] at hk; omega)) (fun k hk => g4 k (by simp only [List.mem_cons, List.not_mem_nil, or_false] at hk; omega) (by simp only [List.mem_cons, List.not_mem_nil, or_false] at hk; omega) (by simp only [List.mem_cons, List.not_mem_nil, or_false] at hk; omega)) (A4.t _) (A4.l _)
  have hX4 : EX e h4 := hX.cg (fun k hk => k4 _ (by simp only [List.mem_cons, List.not_mem_nil, or_false] at hk; omega) (by simp only [List.mem_cons, List.not_mem_nil, or_false] at hk; omega) (by simp only [List.mem_cons, List.not_mem_nil, or_false] at hk; omega) (by simp only [List.mem_cons, List.not_mem_nil, or_false] at hk; omega) (by simp only [List.mem_cons, List.not_mem_nil, or_false] at hk; omega)) n4
  have f54 : zd h2 e 54 = 0 := by rw [B2]; rfl
  have LI4 : LI e top h4 r (zd h e 20 - 1) := by
    refine ⟨hE4, hX4, E3, fun n n0 n1 n2' => ?_, ⟨by rw [n4]; exact rb, r1⟩, fun i i0 i1 => by rw [t4] at i1; omega, by rw [t4]; omega, by rw [n4]; exact hn, ?_, ?_, by rw [A4.t]; exact t29, by rw [A4.l]; exact l29, fun n n0 n1 n2' => ?_, fun i i0 i1 => ?_⟩
    · rw [a4] at n1
      obtain ⟨c, c0, c1, c2, _⟩ := mk4 n n0 n1 n2'
      rw [k4 (e + 11) (by omega) (by omega) (by omega) (by omega) (by omega), ← c2]; exact allf c c0 c1
    · rw [t4]
      by_cases z : s < 564
      · rw [(E8 z).1, f54]; omega
      · rw [(E9 (by omega)).1, f54]; omega
    · have : zd h2 e 52 = 0 := by rw [B2]; rfl
      omega
    · rw [a4] at n1
      obtain ⟨c, c0, c1, c2, c3⟩ := mk4 n n0 n1 n2'
      rw [k4 (e + 12) (by omega) (by omega) (by omega) (by omega) (by omega)]; exact c3
    · by_cases z : s < 564
      · rw [(E8 z).1, f54] at i1; omega
      · have E9' := E9 (by omega)
        rw [E9'.1, f54] at i1
        rw [E9'.2, f54, if_pos (by omega)]; omega
  intro x3 e3
  rw [t4, w32_of (by omega) (by omega)] at e3
  rw [e3]
  refine ⟨(zd h e 20).toNat + 2, S_last (q := q) he q0 q1 (zd h e 20).toNat _ h4 r _ Q _ (by omega) (by omega) LI4 (fun first h12 p1 p2 p3 p4 => ?_)⟩
  obtain ⟨P1, P2⟩ := p1
  have first0 := p2.at
  obtain ⟨hE12, hX12, hG12, ha12, ⟨hc12, -⟩, hJ12, ⟨-, first1⟩, -, hu12, hm12, -, -, kz12, ku12⟩ := id p2
  have g12 : ∀ j, j ≠ 50 → j ≠ 52 → j ≠ 54 → zd h12 e j = zd h e j := fun j n1 n2 n3 => by rw [P2 j n2 n3, g4 j n1 n2 n3]
  have k12 : ∀ b, b ≠ e → b ≠ e + 25 → b ≠ e + 26 → b ≠ e + 29 → b ≠ e + 30 → zd h12 b = zd h b := fun b n1 n2 n3 n4 n5 => by rw [P1.f (b := b) (by simp only [List.mem_cons, List.not_mem_nil, or_false]; omega), k4 b n1 n2 n3 n4 n5]
  have t12 : zd h12 e 20 = zd h e 20 := g12 20 (by decide) (by decide) (by decide)
  have tr12 : zd h12 (e + 17) = zd h (e + 17) := k12 _ (by omega) (by omega) (by omega) (by omega) (by omega)
  have tn12 : ∀ i, tn e h12 i = tn e h i := fun i => by unfold tn; rw [tr12]
  have n12 : zd h12 e 21 = zd h e 21 := g12 21 (by decide) (by decide) (by decide)
  have l12 : zd h12 (e + 12) = zd h (e + 12) := k12 _ (by omega) (by omega) (by omega) (by omega) (by omega)
  have a12 : zd h12 e 11 = zd h e 11 := g12 11 (by decide) (by decide) (by decide)
  have f50' : zd h12 e 50 = 0 := by rw [P2 50 (by decide) (by decide)]; exact f50
  rw [t12] at first1
  rw [tn12, l12, n12] at p3
  obtain ⟨itf, trf⟩ := hT.2.1 first first0 first1
  have irf := zab_r itf
  -- the first item
  refine ⟨first.toNat + 2, ?_⟩
  unfold P_E_learn_L121 P_E_learn_J168
  rw [if_neg (by omega), tr12, zabs_of itf A3.2, f50', show w32 (first + -1) = first - 1 from by rw [w32_of (by omega) (by omega)]; omega]
  have nz : ¬ zd h12 (e + 25) (zab (zd h (e + 17) first)) = 0 := by have := p3.1; unfold tn at this; omega
  refine ⟨⟨by omega, by omega⟩, ⟨by omega, by omega⟩, ?_⟩
  rw [if_neg nz, show w32 (0 + 1) = (1 : Int) from by decide]
  intro h14 e14
  refine ⟨⟨by omega, by omega⟩, ⟨by omega, by omega⟩, ?_⟩
  have t14 : zd h14 (e + 17) first = zd h (e + 17) first := by rw [e14, zd_a (by omega), tr12]
  rw [t14, show w32 (-(zd h (e + 17) first)) = -(zd h (e + 17) first) from by unfold eit at itf; exact w32_of (by omega) (by omega)]
  intro h15 e15 x5 e5
  rw [e5]
  have A15 : yA [e, e + 28] h12 h15 := by rw [e15, e14]; exact ((yA.rf _ h12).w (by simp)).w (by simp)
  have k15 : ∀ b, b ≠ e → b ≠ e + 28 → zd h15 b = zd h12 b := fun b n1 n2 => by rw [e15, zw_f n2, e14, zw_f n1]
  have f15 : ∀ j, j ≠ 50 → zd h15 e j = zd h12 e j := fun j nj => by rw [e15, zd_a (by omega), e14, zd_i nj]
  have c15 : zd h15 e 50 = 1 := by rw [e15, zd_a (by omega), e14, zd_s]
  have v15 : zd h15 (e + 28) 0 = -(zd h (e + 17) first) := by rw [e15, zd_s]
  have hE15 : EInv e h15 top := hE12.cg (fun k hk => k15 _ (by simp only [List.mem_cons, List.not_mem_nil, or_false] at hk; omega) (by simp only [List.mem_cons, List.not_mem_nil, or_false] at hk; omega)) (fun k hk => f15 k (by simp only [List.mem_cons, List.not_mem_nil, or_false] at hk; omega)) (A15.t _) (A15.l _)
  have hG15 : EG e h15 := by unfold EG at hG12 ⊢; rw [f15 11 (by decide), k15 (e + 25) (by omega) (by omega), k15 (e + 26) (by omega) (by omega)]; exact hG12
  have tn15 : ∀ i, tn e h15 i = tn e h i := fun i => by unfold tn; rw [k15 (e + 17) (by omega) (by omega), tr12]
  refine S_made (q := q) q0 q1 first.toNat _ h15 (first - 1) Q (by omega) (by omega) hE15.1 hE15.2.2.1 hG15 (by rw [f15 20 (by decide), t12]; omega) (by omega) (by omega) (fun h' d1 d2 => ?_)
  obtain ⟨D1, D2, D3, D4, D5⟩ := d1
  rw [c15] at D3 D4 D5
  have big : yA [e, e + 25, e + 26, e + 28, e + 29, e + 30] h h' := ((A4.tr (P1.mono (by simp))).tr (A15.mono (by simp))).tr (D1.mono (by simp))
  have F' : ∀ j, j ≠ 50 → j ≠ 52 → j ≠ 54 → zd h' e j = zd h e j := fun j n1 n2 n3 => by rw [D2 j n1, f15 j n1, g12 j n1 n2 n3]
  have k' : ∀ b, b ≠ e → b ≠ e + 28 → zd h' b = zd h12 b := fun b n1 n2 => by rw [D1.f (b := b) (by simp only [List.mem_cons, List.not_mem_nil, or_false]; omega), k15 b n1 n2]
  have i52 : zd h' e 52 = zd h12 e 52 := by rw [D2 52 (by decide), f15 52 (by decide)]
  have i54 : zd h' e 54 = zd h12 e 54 := by rw [D2 54 (by decide), f15 54 (by decide)]
  have i11 : zd h' e 11 = zd h12 e 11 := by rw [D2 11 (by decide), f15 11 (by decide)]
  refine k h' ⟨big, F', by unfold EG at hG12 ⊢; rw [i11, k' (e + 25) (by omega) (by omega), k' (e + 26) (by omega) (by omega)]; exact hG12, by omega, ?_, by rw [i54]; omega, fun i i0 i1 => by rw [i54] at i1; rw [k' (e + 30) (by omega) (by omega)]; exact ku12 i i0 i1, first, ⟨first0, first1, by rw [k' (e + 25) (by omega) (by omega)]; exact p3.1⟩, by rw [D4 0 (by decide), v15], p3.2, fun j j0 j1 => ?_⟩ ?_
  · rw [i52, hm12]; unfold cwas; rw [i11, k' (e + 26) (by omega) (by omega)]
  · obtain ⟨i, i0, i1, i2, i3⟩ := D5 j (by omega) j1
    rw [tn15, k15 (e + 25) (by omega) (by omega)] at i2
    rw [k15 (e + 17) (by omega) (by omega), tr12] at i3
    obtain ⟨iti, -⟩ := hT.2.1 i i0 (by omega)
    have iri := zab_r iti
    have lv := hL.1.2.1 i i0 (by omega)
    have kz := kz12 (tn e h i) iri.1 (by rw [a12]; exact iri.2) i2
    rw [l12] at kz
    refine ⟨i, i0, by omega, i3, by omega, ?_⟩
    rcases Int.lt_or_le (zd h (e + 12) (tn e h i)) (zd h e 21) with w | w
    · exact w
    · exfalso
      have := mk_uniq (e := e) (h := h12) (l := zd h12 e 21) hc12.symm (n := tn e h first) (n' := tn e h i) irf.1 (by rw [a12]; exact irf.2) p3.1 (by rw [l12, n12]; exact p3.2) iri.1 (by rw [a12]; exact iri.2) i2 (by rw [l12, n12]; omega)
      exact hT.2.2 i first i0 (by omega) first1 this
  · intro m R C m98 Q' KK kk
    obtain ⟨R1, R2', R3', -⟩ := id R
    refine M_clearMarks (fun m2 q2 q3 => ?_)
    intro m3 e3' m4 e4'
    have mk4' : ∀ b, b ≠ 101 → b ≠ 168 → b ≠ 169 → zd m4 b = zd m b := fun b n1 n2 n3 => by rw [e4', zw_f n1, e3', zw_f n1, q2.f (by simp only [List.mem_cons, List.not_mem_nil, or_false]; omega)]
    have mf4 : ∀ j, j ≠ 104 → j ≠ 106 → zd m4 101 j = zd m 101 j := fun j n1 n2 => by rw [e4', zd_i n1, e3', zd_i n2, q2.d (b := 101) (by decide)]
    have u106 : zd m4 101 106 = 0 := by rw [e4', zd_i (by decide), e3', zd_s]
    have u104 : zd m4 101 104 = 0 := by rw [e4', zd_s]
    have M4A : yA [101, 168, 169, 170] m m4 := by rw [e4', e3']; exact ((q2.mono (by simp)).w (by simp)).w (by simp)
    have z168 : ∀ n, 0 ≤ n → n ≤ 300 → zd m4 168 n = 0 ∧ zd m4 169 n = 0 := fun n n0 n1 => by rw [e4', zd_a (by decide), zd_a (by decide), e3', zd_a (by decide), zd_a (by decide)]; exact q3 n n0 n1
    rw [mf4 98 (by decide) (by decide), m98, mk4' 151 (by decide) (by decide) (by decide), ← R2'.2.2.2.2.1]
    intro x2 e2'
    refine ⟨⟨by omega, by omega⟩, ?_⟩
    intro x3' e3''
    rw [e2', e3'']
    have RR4 : RMs e q h2 m4 := R.cg (fun k hk => k2 _ (by simp only [List.mem_cons, List.not_mem_nil, or_false] at hk; omega) (by simp only [List.mem_cons, List.not_mem_nil, or_false] at hk; omega) (by simp only [List.mem_cons, List.not_mem_nil, or_false] at hk; omega) (by simp only [List.mem_cons, List.not_mem_nil, or_false] at hk; omega)) (fun k hk => g2 k (by simp only [List.mem_cons, List.not_mem_nil, or_false] at hk; omega) (by simp only [List.mem_cons, List.not_mem_nil, or_false] at hk; omega) (by simp only [List.mem_cons, List.not_mem_nil, or_false] at hk; omega)) (fun k _ => by rw [k2 14 (by omega) (by omega) (by omega) (by omega)]) (fun k hk => mk4' k (by simp only [List.mem_cons, List.not_mem_nil, or_false] at hk; omega) (by simp only [List.mem_cons, List.not_mem_nil, or_false] at hk; omega) (by simp only [List.mem_cons, List.not_mem_nil, or_false] at hk; omega)) (fun k hk => mf4 k (by simp only [List.mem_cons, List.not_mem_nil, or_false] at hk; omega) (by simp only [List.mem_cons, List.not_mem_nil, or_false] at hk; omega))
    have MG4 : MG (zd h2 e 11) m4 := fun n n0 n1 => by
      rw [a2] at n1
      have := z168 n (by omega) (by omega); omega
    have GL4 : GLr e q h2 m4 := by
      refine ⟨fun n n0 n1 => ?_, fun w b w0 w1 b1 => ?_, fun k k0 => ?_, fun i i0 i1 => by rw [u106] at i1; omega, by rw [u106, f54]; omega⟩
      · rw [a2] at n1
        have x := B3 n n0 n1
        have y := z168 n (by omega) (by omega)
        omega
      · rw [B4 w w0 w1, hb_0, u106]
        exact ⟨fun p => absurd p (by decide), fun ⟨i, i0, i1, _⟩ => by omega⟩
      · rw [f54, u106]; rfl
    have live := (RR4.2.2.1.1 s s0 s1 ht2).1
    refine M_useRow (A := zd h2 e 11) q0 q1 (by rw [a2]; omega) (by rw [a2]; omega) (RR4.1.2.2.2.2 _ live) MG4 (by omega) (by omega) (by omega) (by omega) (fun m8 pm => ?_)
    obtain ⟨S1, S2, S3⟩ := S_gather he q0 q1 hE2 RR4 s0 s1 ht2 (fun c c0 c1 => by
      rw [b1] at c0 c1; rw [b2] at c1; rw [b7, k2 (e + 11) (by omega) (by omega) (by omega) (by omega)]; exact allf c c0 c1) (Or.inl rfl) (fun n n0 n1 n2' => by rw [a2] at n1; have := (B3 n n0 n1).1; omega) G2 MG4 GL4 (by omega) (by rw [n2]; exact pg) pm
    have MF8 : MuF m m8 := ⟨M4A.tr pm.1, fun j n1 n2 => by rw [pm.2.1 j n1 n2, mf4 j n1 n2]⟩
    have C8 : R7 e q h4 m8 := C.cg (fun k hk => g4 k (by simp only [List.mem_cons, List.not_mem_nil, or_false] at hk; omega) (by simp only [List.mem_cons, List.not_mem_nil, or_false] at hk; omega) (by simp only [List.mem_cons, List.not_mem_nil, or_false] at hk; omega)) (fun k hk => MF8.1.f (by simp only [List.mem_cons, List.not_mem_nil, or_false] at hk ⊢; omega)) (fun k hk => MF8.2 k (by simp only [List.mem_cons, List.not_mem_nil, or_false] at hk; omega) (by simp only [List.mem_cons, List.not_mem_nil, or_false] at hk; omega))
    unfold P_M_lastOne
    have t8 : zd m8 150 q = zd h e 20 := by rw [← S1.2.1.2.2.1, t4]
    refine ⟨⟨by omega, by omega⟩, ?_⟩
    intro x9 e9
    rw [t8, w32_of (by omega) (by omega)] at e9
    rw [e9]
    refine ⟨(zd h e 20).toNat + 3, p4 m8 S1 C8 S2 (by rw [a4]; rw [a2] at pm; exact pm.2.2.1) (by rw [S3, u104]; omega) (by rw [t4, pm.2.2.2.2.2.1, u106]; omega) _ _ (by omega) (fun m10 v1 v2 v3 v4 v5 v6 => ?_)⟩
    rw [tr12, show w32 (-(zd h (e + 17) first)) = -(zd h (e + 17) first) from by unfold eit at itf; exact w32_of (by omega) (by omega)]
    intro m11 e11
    have t10 : zd m11 150 q = zd h e 20 := by rw [e11, zd_a (by decide), ← v1.2.1.2.2.1, t12]
    refine ⟨⟨by omega, by omega⟩, ?_⟩
    intro x7 e7
    rw [t10, w32_of (by omega) (by omega)] at e7
    rw [e7]
    have F11 : yA [167] m10 m11 := by rw [e11]; exact (yA.rf _ m10).w (by simp)
    rw [a4] at v4
    have mkeq : ∀ i, 0 ≤ i → i < zd h e 20 → zd m10 168 (tn e h i) = zd h12 (e + 25) (tn e h i) := by
      intro i i0 i1
      have ir := zab_r (hT.2.1 i i0 i1).1
      exact (v3.1 (tn e h i) ir.1 (by rw [a12]; exact ir.2)).1.symm
    have treq : ∀ i, 0 ≤ i → i < zd h e 20 → zd m11 149 (300 * q + i) = zd h (e + 17) i := by
      intro i i0 i1
      rw [F11.d (b := 149) (by decide), ← v1.2.1.2.2.2.1 i i0 (by rw [t12]; exact i1), tr12]
    have above : ∀ i, first < i → i < zd h e 20 → zd m11 168 (tn e h i) = 0 := by
      intro i i0 i1
      rw [F11.d (b := 168) (by decide), mkeq i (by omega) i1]
      have ir := zab_r (hT.2.1 i (by omega) i1).1
      have e01 := (hG12 (tn e h i) ir.1 (by rw [a12]; exact ir.2)).1
      have lvi : zd h (e + 12) (tn e h i) = zd h e 21 := by
        have x := hL.1.2.1 i (by omega) i1
        have y1 := (hL.1.2.2.1 (zd h e 21) hn (Int.le_refl _)).2 i (by omega) i1
        have y2 := (hL.1.2.2.1 (zd h e 21) hn (Int.le_refl _)).2 first first0 first1
        have := p3.2
        omega
      have J := hJ12 i i0 (by rw [t12]; exact i1)
      rw [tn12, l12, n12] at J
      rcases e01 with z | z
      · exact z
      · exact absurd ⟨z, lvi⟩ J
    refine ⟨(zd h e 20).toNat + 2, M_skip (e := e) (h := h) q0 q1 hs hT first0 first1 treq above (fun n hn' => ?_) (zd h e 20 - 1 - first).toNat _ _ (by omega) (by omega) (by omega)⟩
    have D2' := d2 m11 (num s) (zd h e 21) (zd h (e + 17) first) 0 (fun i i0 i1 => ?_) (fun j j0 j1 => ?_) n Q' (KK (num s) (zd h e 21)) (by omega) (fun m' t y1 y2 y3 => ?_)
    · rw [c15] at D2'; exact D2'
    · rw [tn15, k15 (e + 17) (by omega) (by omega), k15 (e + 25) (by omega) (by omega), k15 (e + 12) (by omega) (by omega), tr12, l12]
      have iti := (hT.2.1 i i0 (by omega)).1
      have ir := zab_r iti
      refine ⟨treq i i0 (by omega), by rw [F11.d (b := 168) (by decide)]; exact mkeq i i0 (by omega), ?_, fun w => ?_⟩
      · rw [F11.d (b := 144) (by decide)]
        have vn : zd h12 (e + 11) (tn e h i) ≠ 0 := by
          rw [k12 (e + 11) (by omega) (by omega) (by omega) (by omega) (by omega)]
          have tt := (hT.2.1 i i0 (by omega)).2
          rw [est_ab e h iti] at tt
          unfold tn; split at tt <;> omega
        have := (v1.2.1.2.1 (tn e h i) ir.1 (by rw [a12]; exact ir.2) vn).1
        rw [← this, l12]
      · exact hT.2.2 i first i0 (by omega) first1 (by rw [w])
    · rw [c15] at j1
      have j0' : j = 0 := by omega
      rw [j0', v15, e11, zd_s]
    · rw [c15, k15 (e + 12) (by omega) (by omega), l12] at y3
      have F' : yA [167] m10 m' := F11.tr y1
      refine kk m' t ?_ ?_ ?_ ?_ (by rw [F'.d (b := 101) (by decide)]; exact v5) y2 y3 ⟨(MF8.1.mono (by simp)).tr ((v6.1.mono (by simp)).tr (F'.mono (by simp))), fun j n1 n2 => by rw [F'.d (b := 101) (by decide), v6.2 j n1 n2, MF8.2 j n1 n2]⟩
      · exact v1.cg (fun k hk => k' _ (by simp only [List.mem_cons, List.not_mem_nil, or_false] at hk; omega) (by simp only [List.mem_cons, List.not_mem_nil, or_false] at hk; omega)) (fun k hk => by rw [D2 k (by simp only [List.mem_cons, List.not_mem_nil, or_false] at hk; omega), f15 k (by simp only [List.mem_cons, List.not_mem_nil, or_false] at hk; omega)]) (fun k _ => by rw [k' 14 (by omega) (by omega)]) (fun k hk => F'.f (by simp only [List.mem_cons, List.not_mem_nil, or_false] at hk ⊢; omega)) (fun k _ => F'.d (by decide) k)
      · exact v2.cg (fun k hk => by rw [D2 k (by simp only [List.mem_cons, List.not_mem_nil, or_false] at hk; omega), f15 k (by simp only [List.mem_cons, List.not_mem_nil, or_false] at hk; omega)]) (fun k hk => F'.f (by simp only [List.mem_cons, List.not_mem_nil, or_false] at hk ⊢; omega)) (fun k _ => F'.d (by decide) k)
      · obtain ⟨w1, w2, w3, w4, w5⟩ := v3
        refine ⟨?_, ?_, ?_, ?_, ?_⟩
        · rw [i11, k' (e + 25) (by omega) (by omega), k' (e + 26) (by omega) (by omega), F'.f (b := 168) (by decide), F'.f (b := 169) (by decide)]; exact w1
        · intro w b w0 w1' b1'
          rw [k' (e + 29) (by omega) (by omega), F'.f (b := 101) (by decide), F'.f (b := 170) (by decide), w2 w b w0 w1' b1']
          have cbl : ∀ k, k ∈ ([119, 120, 123, 124, 143, 144, 152, 153, 159] : List Int) → zd m' k = zd m10 k := fun k hk => F'.f (by simp only [List.mem_cons, List.not_mem_nil, or_false] at hk ⊢; omega)
          have s158 : ∀ r, srcM m' q r w b = srcM m10 q r w b := fun r => by unfold srcM; rw [F'.f (b := 158) (by decide)]
          have c66 : zd m' 101 66 = zd m10 101 66 := F'.d (by decide) _
          constructor
          · rintro ⟨i, i0, i1, i2⟩; exact ⟨i, i0, i1, by rw [s158, lowM_cg cbl c66]; exact i2⟩
          · rintro ⟨i, i0, i1, i2⟩; rw [s158, lowM_cg cbl c66] at i2; exact ⟨i, i0, i1, i2⟩
        · rw [k' (e + 30) (by omega) (by omega), i54, F'.f (b := 101) (by decide), F'.f (b := 170) (by decide)]; exact w3
        · rw [k' (e + 5) (by omega) (by omega), F'.f (b := 101) (by decide), F'.f (b := 170) (by decide)]; exact w4
        · rw [i54, F'.f (b := 101) (by decide)]; exact w5
      · unfold MG at v4 ⊢; rw [F'.f (b := 168) (by decide), F'.f (b := 169) (by decide)]; exact v4
