/-! learning: the row that is made -/
theorem mk_uniq {e l n n' : Int} {h : zH} (p : cmk e h l = 1) (n0 : 1 ≤ n) (n1 : n ≤ zd h e 11) (m1 : zd h (e + 25) n = 1) (l1 : zd h (e + 12) n = l) (n0' : 1 ≤ n') (n1' : n' ≤ zd h e 11) (m1' : zd h (e + 25) n' = 1) (l1' : zd h (e + 12) n' = l) : n' = n := by
  apply Classical.byContradiction
  intro ne
  have a := zct_one (f := fun i => if i = n then 0 else if zd h (e + 25) i = 1 ∧ zd h (e + 12) i = l then 1 else 0) (g := fun i => if zd h (e + 25) i = 1 ∧ zd h (e + 12) i = l then 1 else 0) (v := 1) (a := 1) (i := n) (n := (zd h e 11).toNat) n0 (by omega) (by simp) (by simp only [if_pos (show zd h (e + 25) n = 1 ∧ zd h (e + 12) n = l from ⟨m1, l1⟩)]) (fun j hj => by simp only [if_neg hj])
  unfold cmk at p
  rw [p] at a
  have z := zct_0.mp (show zct (fun i => if i = n then 0 else if zd h (e + 25) i = 1 ∧ zd h (e + 12) i = l then 1 else 0) 1 1 (zd h e 11).toNat = 0 by omega) n' n0' (by omega)
  apply z
  show (if n' = n then (0 : Int) else if zd h (e + 25) n' = 1 ∧ zd h (e + 12) n' = l then 1 else 0) = 1
  rw [if_neg ne, if_pos ⟨m1', l1'⟩]
/-- what the list of items holds: from c on, of places up to y -/
def MdP (e y : Int) (h h' : zH) : Prop := yA [e, e + 28] h h' ∧ (∀ j, j ≠ 50 → zd h' e j = zd h e j) ∧ (zd h e 50 ≤ zd h' e 50 ∧ zd h' e 50 ≤ zd h e 50 + y + 1) ∧ (∀ j, j < zd h e 50 → zd h' (e + 28) j = zd h (e + 28) j) ∧ ∀ j, zd h e 50 ≤ j → j < zd h' e 50 → ∃ i, 0 ≤ i ∧ i ≤ y ∧ zd h (e + 25) (tn e h i) = 1 ∧ zd h' (e + 28) j = -(zd h (e + 17) i)
def MdS (e q y : Int) (h h' : zH) : Prop := ∀ m (row here t to : Int), (∀ i, 0 ≤ i → i ≤ y → zd m 149 (300 * q + i) = zd h (e + 17) i ∧ zd m 168 (tn e h i) = zd h (e + 25) (tn e h i) ∧ zd m 144 (301 * q + tn e h i) = zd h (e + 12) (tn e h i) ∧ zd h (e + 17) i ≠ t) → (∀ j, 0 ≤ j → j < zd h e 50 → zd m 167 j = zd h (e + 28) j) → ∀ (n : Nat) (Q' : Int → zH → Prop) (K' : Int → Int → zH → Prop), y + 1 < n →
  (∀ m' to', yA [167] m m' → (∀ j, 0 ≤ j → j < zd h' e 50 → zd m' 167 j = zd h' (e + 28) j) → (to ≤ to' ∧ (∀ j, zd h e 50 ≤ j → j < zd h' e 50 → zd h (e + 12) (zab (zd h' (e + 28) j)) ≤ to') ∧ (to' = to ∨ ∃ j, zd h e 50 ≤ j ∧ j < zd h' e 50 ∧ zd h (e + 12) (zab (zd h' (e + 28) j)) = to')) → K' (zd h' e 50) to' m') → P_M_learn_L76 q row here t Q' K' n (zd h e 50) to y m
theorem S_made {e q top : Int} (q0 : 0 ≤ q) (q1 : q ≤ 1) : ∀ (d f : Nat) (h : zH) (y : Int) (Q : Int → zH → Prop), y + 1 = d → d < f → ES e h top → ET e h → EG e h → y < zd h e 20 → 0 ≤ zd h e 50 → zd h e 50 + y + 1 ≤ 300 → (∀ h', MdP e y h h' → MdS e q y h h' → Q 0 h') → P_E_learn_L121 e Q f y h := by
  intro d
  induction d with
  | zero =>
    intro f h y Q hy hf hs hT hG hyt c0 c1 k
    obtain ⟨f, rfl⟩ : ∃ m, f = m + 1 := ⟨f - 1, by omega⟩
    unfold P_E_learn_L121
    rw [if_pos (by omega)]
    refine k h ⟨yA.rf _ _, fun _ _ => rfl, by omega, fun _ _ => rfl, fun j j0 j1 => by omega⟩ ?_
    intro m row here t to hm hl n Q' K' hn kk
    obtain ⟨n, rfl⟩ : ∃ m, n = m + 1 := ⟨n - 1, by omega⟩
    unfold P_M_learn_L76
    rw [if_pos (by omega)]
    exact kk m to (yA.rf _ _) hl ⟨Int.le_refl _, fun j j0 j1 => by omega, Or.inl rfl⟩
  | succ d ih =>
    intro f h y Q hy hf hs hT hG hyt c0 c1 k
    obtain ⟨f, rfl⟩ : ∃ m, f = m + 1 := ⟨f - 1, by omega⟩
    obtain ⟨it, tr⟩ := hT.2.1 y (by omega) hyt
    have ir := zab_r it
    have A3 := hs.1
    have T1 := hT.1
    have st : w32 (y + -1) = y - 1 := by rw [w32_of (by omega) (by omega)]; omega
    unfold P_E_learn_L121 P_E_learn_J168
    rw [if_neg (by omega), zabs_of it A3.2, st]
    refine ⟨⟨by omega, by omega⟩, ⟨by omega, by omega⟩, zif_i (fun c => ?_) (fun c => ?_)⟩
    · intro x5 e5
      rw [e5]
      refine ih f h (y - 1) Q (by omega) (by omega) hs hT hG (by omega) c0 (by omega) (fun h' p1 p2 => k h' ⟨p1.1, p1.2.1, by have := p1.2.2.1; omega, p1.2.2.2.1, fun j j0 j1 => ?_⟩ ?_)
      · obtain ⟨i, i0, i1, i2⟩ := p1.2.2.2.2 j j0 j1
        exact ⟨i, i0, by omega, i2⟩
      · intro m row here t to hm hl n Q' K' hn kk
        obtain ⟨n, rfl⟩ : ∃ m, n = m + 1 := ⟨n - 1, by omega⟩
        obtain ⟨m1, m2, m3, m4⟩ := hm y (by omega) (Int.le_refl _)
        unfold P_M_learn_L76 P_M_learn_J171
        simp only [w32_al, w32_ar, w32_sl, w32_sr, w32_ml, w32_mr]
        rw [if_neg (by omega), w32_of (x := 300 * q + y) (by omega) (by omega), m1, st]
        refine ⟨⟨by omega, by omega⟩, ?_⟩
        intro x8 e8
        rw [e8]
        refine M_nameOf it A3.2 ?_
        rw [if_neg m4]
        refine ⟨⟨by omega, by omega⟩, ?_⟩
        rw [if_pos (by unfold tn at m2; omega)]
        intro x7 e7
        rw [e7]
        exact p2 m row here t to (fun i i0 i1 => hm i i0 (by omega)) hl n Q' K' (by omega) kk
    · rw [w32_of (x := zd h e 50 + 1) (by omega) (by omega)]
      intro h14 e14
      refine ⟨⟨by omega, by omega⟩, ⟨by omega, by omega⟩, ?_⟩
      have t14 : zd h14 (e + 17) y = zd h (e + 17) y := by rw [e14, zd_a (by omega)]
      rw [t14, show w32 (-(zd h (e + 17) y)) = -(zd h (e + 17) y) from by unfold eit at it; exact w32_of (by omega) (by omega)]
      intro h15 e15
      have A15 : yA [e, e + 28] h h15 := by rw [e15, e14]; exact ((yA.rf _ h).w (by simp)).w (by simp)
      have k15 : ∀ b, b ≠ e → b ≠ e + 28 → zd h15 b = zd h b := fun b n1 n2 => by rw [e15, zw_f n2, e14, zw_f n1]
      have f15 : ∀ j, zd h15 e j = if j = 50 then zd h e 50 + 1 else zd h e j := by
        intro j
        rw [e15, zd_a (by omega), e14]
        by_cases z : j = 50
        · rw [if_pos z, z, zd_s]
        · rw [if_neg z, zd_i z]
      have v28 : ∀ j, zd h15 (e + 28) j = if j = zd h e 50 then -(zd h (e + 17) y) else zd h (e + 28) j := by
        intro j
        rw [e15]
        by_cases z : j = zd h e 50
        · rw [if_pos z, z, zd_s]
        · rw [if_neg z, zd_i z, e14, zd_a (by omega)]
      clear e15 e14 t14
      have a50 : zd h15 e 50 = zd h e 50 + 1 := by rw [f15, if_pos rfl]
      have a11 : zd h15 e 11 = zd h e 11 := by rw [f15, if_neg (by decide)]
      have a20 : zd h15 e 20 = zd h e 20 := by rw [f15, if_neg (by decide)]
      have tn15 : ∀ i, tn e h15 i = tn e h i := fun i => by unfold tn; rw [k15 (e + 17) (by omega) (by omega)]
      have hs15 : ES e h15 top := hs.cg (by rw [f15, if_neg (by decide)]) a11 (k15 _ (by omega) (by omega)) (k15 _ (by omega) (by omega)) (k15 _ (by omega) (by omega)) (k15 _ (by omega) (by omega)) (k15 _ (by omega) (by omega)) (k15 _ (by omega) (by omega)) (k15 _ (by omega) (by omega))
      have hT15 : ET e h15 := by
        unfold ET est at hT ⊢
        rw [a20, a11, k15 (e + 17) (by omega) (by omega), k15 (e + 11) (by omega) (by omega)]; exact hT
      have hG15 : EG e h15 := by unfold EG at hG ⊢; rw [a11, k15 (e + 25) (by omega) (by omega), k15 (e + 26) (by omega) (by omega)]; exact hG
      have mk : zd h (e + 25) (tn e h y) = 1 := by have := (hG _ ir.1 ir.2).1; unfold tn; omega
      intro x5 e5
      rw [e5]
      refine ih f h15 (y - 1) Q (by omega) (by omega) hs15 hT15 hG15 (by omega) (by omega) (by omega) (fun h' p1 p2 => k h' ?_ ?_)
      · obtain ⟨b1, b2, b3, b4, b5⟩ := p1
        refine ⟨A15.tr b1, fun j hj => by rw [b2 j hj, f15, if_neg hj], by omega, fun j hj => by rw [b4 j (by omega), v28, if_neg (by omega)], fun j j0 j1 => ?_⟩
        by_cases z : j = zd h e 50
        · exact ⟨y, by omega, Int.le_refl _, mk, by rw [b4 j (by omega), v28, if_pos z]⟩
        · obtain ⟨i, i0, i1, i2, i3⟩ := b5 j (by omega) j1
          rw [tn15, k15 (e + 25) (by omega) (by omega)] at i2
          rw [k15 (e + 17) (by omega) (by omega)] at i3
          exact ⟨i, i0, by omega, i2, i3⟩
      · intro m row here t to hm hl n Q' K' hn kk
        obtain ⟨n, rfl⟩ : ∃ m, n = m + 1 := ⟨n - 1, by omega⟩
        obtain ⟨m1, m2, m3, m4⟩ := hm y (by omega) (Int.le_refl _)
        have b4 := p1.2.2.2.1
        have b3 := p1.2.2.1
        unfold P_M_learn_L76 P_M_learn_J171 P_M_learn_J169 P_M_learn_J171
        simp only [w32_al, w32_ar, w32_sl, w32_sr, w32_ml, w32_mr]
        rw [if_neg (by omega), w32_of (x := 300 * q + y) (by omega) (by omega), m1, st]
        refine ⟨⟨by omega, by omega⟩, ?_⟩
        intro x8 e8
        rw [e8]
        refine M_nameOf it A3.2 ?_
        rw [if_neg m4, w32_of (x := 301 * q + zab (zd h (e + 17) y)) (by omega) (by omega), w32_of (x := zd h e 50 + 1) (by omega) (by omega), show w32 (-(zd h (e + 17) y)) = -(zd h (e + 17) y) from by unfold eit at it; exact w32_of (by omega) (by omega)]
        refine ⟨⟨by omega, by omega⟩, ?_⟩
        rw [if_neg (by unfold tn at m2; omega)]
        refine ⟨⟨by omega, by omega⟩, ?_⟩
        intro m17 e17 x5' e5'
        have l17 : zd m17 144 (301 * q + zab (zd h (e + 17) y)) = zd h (e + 12) (tn e h y) := by rw [e17, zd_a (by decide)]; exact m3
        rw [l17, e5']
        refine ⟨⟨by omega, by omega⟩, zif_i (fun _ => ⟨⟨by omega, by omega⟩, trivial⟩) (fun _ => trivial), ?_⟩
        intro x7 e7
        rw [e7, ← a50]
        have F17 : yA [167] m m17 := by rw [e17]; exact (yA.rf _ m).w (by simp)
        refine p2 m17 row here t _ (fun i i0 i1 => ?_) (fun j j0 j1 => ?_) n Q' K' (by omega) (fun m' to' z1 z2 z3 => kk m' to' (F17.tr z1) z2 ?_)
        · obtain ⟨w1, w2, w3, w4⟩ := hm i i0 (by omega)
          rw [F17.d (b := 149) (by decide), F17.d (b := 168) (by decide), F17.d (b := 144) (by decide), tn15, k15 (e + 17) (by omega) (by omega), k15 (e + 25) (by omega) (by omega), k15 (e + 12) (by omega) (by omega)]
          exact ⟨w1, w2, w3, w4⟩
        · rw [a50] at j1
          rw [v28, e17]
          by_cases z : j = zd h e 50
          · rw [if_pos z, z, zd_s]
          · rw [if_neg z, zd_i z]; exact hl j j0 (by omega)
        · rw [a50, k15 (e + 12) (by omega) (by omega)] at z3
          obtain ⟨y1, y2, y3⟩ := z3
          have first : zd h (e + 12) (zab (zd h' (e + 28) (zd h e 50))) = zd h (e + 12) (tn e h y) := by rw [b4 _ (by omega), v28, if_pos rfl, zab_neg]; rfl
          have mx : to ≤ to' ∧ zd h (e + 12) (tn e h y) ≤ to' := by
            by_cases z : to ≤ zd h (e + 12) (tn e h y)
            · rw [if_pos z] at y1; omega
            · rw [if_neg z] at y1; omega
          refine ⟨mx.1, fun j j0 j1 => ?_, ?_⟩
          · by_cases z : j = zd h e 50
            · rw [z, first]; exact mx.2
            · exact y2 j (by omega) j1
          · rcases y3 with y3 | ⟨j, j0, j1, j2⟩
            · by_cases z : to ≤ zd h (e + 12) (tn e h y)
              · rw [if_pos z] at y3; exact Or.inr ⟨zd h e 50, Int.le_refl _, by omega, by rw [first]; exact y3.symm⟩
              · rw [if_neg z] at y3; exact Or.inl y3
            · exact Or.inr ⟨j, by omega, j1, j2⟩
