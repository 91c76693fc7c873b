/-! learning: the uses are counted, the sources gathered (there) -/
def UsP (q c : Int) (m g : zH) : Prop := yA [157, 160] m g ∧ (∀ j, j < 800 * q ∨ 800 * q + 800 ≤ j → zd g 157 j = zd m 157 j) ∧ (∀ k, 0 ≤ k → k < 800 → zd g 157 (800 * q + k) = if zct (zd m 170) (2000 + k) 0 c.toNat = 0 then zd m 157 (800 * q + k) else w32 (zd m 157 (800 * q + k) + zct (zd m 170) (2000 + k) 0 c.toNat)) ∧ ∀ w b, 0 ≤ w → w < 8 → b < 64 → (hb (zd g 160 w) b = true ↔ hb (zd m 160 w) b = true ∨ ∃ i, 0 ≤ i ∧ i < c ∧ (srcM m q (zd m 170 i) w b = true ∨ lowM m q (zd m 170 i) 0 w b))
theorem UsP_cg {m g : zH} (p : yA [157, 160] m g) (q r : Int) : (∀ w b, srcM g q r w b = srcM m q r w b) ∧ (∀ w b, lowM g q r 0 w b ↔ lowM m q r 0 w b) ∧ ∀ A, MR m q A r → MR g q A r := by
  have sz : msz g q r = msz m q r := msz_cg (p.f (by decide)) (by rw [p.f (b := 101) (by decide)]) (p.f (by decide)) (p.f (by decide))
  have mi : ∀ i, mit g q r i = mit m q r i := fun i => mit_cg (p.f (by decide)) (by rw [p.f (b := 101) (by decide)]) (p.f (by decide)) (p.f (by decide)) (p.f (by decide)) (p.f (by decide))
  refine ⟨fun w b => ?_, fun w b => ?_, fun A o => ?_⟩
  · unfold srcM; rw [p.f (b := 158) (by decide)]
  · unfold lowM
    rw [sz, p.f (b := 143) (by decide), p.f (b := 144) (by decide), p.f (b := 159) (by decide)]
    simp only [mi]
  · unfold MR at o ⊢
    rw [p.f (b := 119) (by decide), p.f (b := 123) (by decide), p.f (b := 152) (by decide), p.f (b := 101) (by decide), sz]
    exact ⟨o.1, fun i i0 i1 => by rw [mi]; exact o.2 i i0 i1⟩
theorem M_use {q A y2 y3 y5 y6 y8 c : Int} {m : zH} {Q : Int → zH → Prop} {K : zH → Prop} (q0 : 0 ≤ q) (q1 : q ≤ 1) (hA : A ≤ 300) (hc : zd m 101 106 = c) (c1 : c ≤ 301) (hr : ∀ i, 0 ≤ i → i < c → MR m q A (zd m 170 i)) (kk : ∀ g, UsP q c m g → K g) : ∀ (d f : Nat) (y : Int) (g : zH), y = c - d → 0 ≤ y → d < f → UsP q y m g → P_M_learn_L227 q y2 y3 y5 y6 y8 Q K f y g := by
  intro d
  induction d with
  | zero =>
    intro f y g hy y0 hf p
    obtain ⟨f, rfl⟩ : ∃ m, f = m + 1 := ⟨f - 1, by omega⟩
    unfold P_M_learn_L227
    rw [p.1.f (b := 101) (by decide), hc, if_pos (by omega)]
    rw [show y = c by omega] at p
    exact kk g p
  | succ d ih =>
    intro f y g hy y0 hf p
    obtain ⟨f, rfl⟩ : ∃ m, f = m + 1 := ⟨f - 1, by omega⟩
    have o := hr y y0 (by omega)
    have rng : (0 ≤ zd m 170 y ∧ zd m 170 y < 500) ∨ (1000 ≤ zd m 170 y ∧ zd m 170 y < 2800) := by
      rcases o.1 with z | z | z <;> omega
    obtain ⟨pA, pu, pk, ps⟩ := p
    obtain ⟨s1, s2, s3⟩ := UsP_cg pA q (zd m 170 y)
    unfold P_M_learn_L227 P_M_learn_J300
    rw [pA.f (b := 101) (by decide), hc, if_neg (by omega), pA.f (b := 170) (by decide)]
    refine ⟨⟨by omega, by omega⟩, M_addSources q0 q1 rng (fun g1 a1 a2 => ?_)⟩
    have b1 : yA [157, 160] m g1 := pA.tr (a1.mono (by simp))
    obtain ⟨t1, t2, t3⟩ := UsP_cg b1 q (zd m 170 y)
    rw [b1.f (b := 170) (by decide)]
    refine ⟨⟨by omega, by omega⟩, M_addLowest q0 q1 hA (t3 A o) (fun g2 a3 a4 => ?_)⟩
    have b2 : yA [157, 160] m g2 := b1.tr (a3.mono (by simp))
    have u2 : zd g2 157 = zd g 157 := (a3.f (by decide)).trans (a1.f (by decide))
    have ns : ∀ w b, 0 ≤ w → w < 8 → b < 64 → (hb (zd g2 160 w) b = true ↔ hb (zd m 160 w) b = true ∨ ∃ i, 0 ≤ i ∧ i < y + 1 ∧ (srcM m q (zd m 170 i) w b = true ∨ lowM m q (zd m 170 i) 0 w b)) := by
      intro w b w0 w1 bb
      rw [a4 w b w0 w1, a2 w b w0 w1 bb, s1, t2, Bool.or_eq_true, ps w b w0 w1 bb]
      constructor
      · rintro ((( z | ⟨i, i0, i1, i2⟩) | z) | z)
        · exact Or.inl z
        · exact Or.inr ⟨i, i0, by omega, i2⟩
        · exact Or.inr ⟨y, y0, by omega, Or.inl z⟩
        · exact Or.inr ⟨y, y0, by omega, Or.inr z⟩
      · rintro (z | ⟨i, i0, i1, i2⟩)
        · exact Or.inl (Or.inl (Or.inl z))
        · by_cases v : i = y
          · rw [v] at i2
            rcases i2 with z | z
            · exact Or.inl (Or.inr z)
            · exact Or.inr z
          · exact Or.inl (Or.inl (Or.inr ⟨i, i0, by omega, i2⟩))
    have cn : ∀ k, zct (zd m 170) (2000 + k) 0 (y + 1).toNat = zct (zd m 170) (2000 + k) 0 y.toNat + (if zd m 170 y = 2000 + k then (1 : Int) else 0) := by
      intro k
      rw [show (y + 1).toNat = y.toNat + 1 by omega, show zct (zd m 170) (2000 + k) 0 (y.toNat + 1) = zct (zd m 170) (2000 + k) 0 y.toNat + (if zd m 170 (0 + (y.toNat : Int)) = 2000 + k then (1 : Int) else 0) from rfl, show 0 + (y.toNat : Int) = y by omega]
    rw [b2.f (b := 170) (by decide)]
    refine ⟨⟨by omega, by omega⟩, ?_⟩
    by_cases c2 : zd m 170 y < 2000
    · rw [if_pos c2]
      intro x9 e9
      rw [w32_of (by omega) (by omega)] at e9
      rw [e9]
      refine ih f (y + 1) g2 (by omega) (by omega) (by omega) ⟨b2, fun j hj => by rw [u2]; exact pu j hj, fun k k0 k1 => ?_, ns⟩
      rw [cn k, if_neg (show ¬ zd m 170 y = 2000 + k by omega), u2, Int.add_zero]; exact pk k k0 k1
    · rw [if_neg c2]
      simp only [w32_al, w32_ar, w32_sl, w32_sr, w32_ml, w32_mr]
      rw [w32_of (x := 800 * q + zd m 170 y - 2000) (by omega) (by omega)]
      refine ⟨⟨by omega, by omega⟩, ⟨by omega, by omega⟩, ⟨by omega, by omega⟩, ?_⟩
      intro h34 e34 x9 e9
      rw [w32_of (by omega) (by omega)] at e9
      rw [e9, e34]
      refine ih f (y + 1) _ (by omega) (by omega) (by omega) ⟨b2.w (by simp), fun j hj => by rw [zd_i (by omega), u2]; exact pu j hj, fun k k0 k1 => ?_, fun w b w0 w1 bb => by rw [zd_a (by decide)]; exact ns w b w0 w1 bb⟩
      have zl := zct_le (zd m 170) (2000 + k) 0 y.toNat
      rw [cn k]
      by_cases z : zd m 170 y = 2000 + k
      · rw [if_pos z, if_neg (by omega), show 800 * q + zd m 170 y - 2000 = 800 * q + k by omega, zd_s, u2, pk k k0 k1]
        by_cases w : zct (zd m 170) (2000 + k) 0 y.toNat = 0
        · rw [if_pos w, w]; congr 1
        · rw [if_neg w, w32_al]; congr 1; omega
      · rw [if_neg z, zd_i (by omega), u2, Int.add_zero]; exact pk k k0 k1
