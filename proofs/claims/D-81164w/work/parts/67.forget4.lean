/-! forgetting: the model's turns -/
def MdrP (q t : Int) (O : Int → Int) (m g : zH) : Prop := yA [156, 163] m g ∧ (∀ i, 0 ≤ i → i < t → zd g 156 (800 * q + O i) = 0) ∧ (∀ j, (∀ i, 0 ≤ i → i < t → j ≠ 800 * q + O i) → zd g 156 j = zd m 156 j) ∧ ∀ j, zd g 163 j = if j = 10 * q + 6 then w32 (zd m 163 (10 * q + 6) + t) else zd m 163 j
theorem M_drop {q A K n : Int} {m : zH} {O : Int → Int} {Q : Int → zH → Prop} {KK : zH → Prop} (q0 : 0 ≤ q) (q1 : q ≤ 1) (hK : zd m 155 q = K) (K1 : K ≤ 800) (hr : ∀ k, 0 ≤ k → k < K → zd m 156 (800 * q + k) ≠ 0 → MR m q A (2000 + k)) (os : OS (mgo q m) (fun k => zd m 157 (800 * q + k)) O n K) (kk : ∀ g, MdrP q (n / 2) O m g → KK g) : ∀ (d f : Nat) (t : Int) (g : zH), t = n / 2 - d → 0 ≤ t → d < f → MdrP q t O m g → P_M_forgetSome_L147 q n Q KK f t g := by
  obtain ⟨o1, o2, o3, o4⟩ := os
  intro d
  induction d with
  | zero =>
    intro f t g ht t0 hf p
    obtain ⟨f, rfl⟩ : ∃ m, f = m + 1 := ⟨f - 1, by omega⟩
    unfold P_M_forgetSome_L147
    rw [Int.tdiv_eq_ediv_of_nonneg o1.1, w32_of (by omega) (by omega), if_pos (by omega)]
    rw [show t = n / 2 by omega] at p
    exact kk g p
  | succ d ih =>
    intro f t g ht t0 hf p
    obtain ⟨f, rfl⟩ : ∃ m, f = m + 1 := ⟨f - 1, by omega⟩
    obtain ⟨p1, p2, p3, p4⟩ := id p
    have ot := o2 t t0 (by omega)
    have dis : ∀ i j, 0 ≤ i → i < j → j < n → O i ≠ O j := by
      intro i j i0 i1 i2 z
      have := o3 i j i0 i1 i2
      unfold lex at this
      rw [z] at this; omega
    have sz : ∀ k, msz g q (2000 + k) = msz m q (2000 + k) := fun k => msz_cg (p1.f (by decide)) (by rw [p1.f (b := 101) (by decide)]) (p1.f (by decide)) (p1.f (by decide))
    have mi : ∀ k i, mit g q (2000 + k) i = mit m q (2000 + k) i := fun k i => mit_cg (p1.f (by decide)) (by rw [p1.f (b := 101) (by decide)]) (p1.f (by decide)) (p1.f (by decide)) (p1.f (by decide)) (p1.f (by decide))
    have mg : ∀ k, 0 ≤ k → k < K → (mgo q g k ↔ mgo q m k ∧ ∀ i, 0 ≤ i → i < t → O i ≠ k) := by
      intro k k0 k1
      unfold mgo
      rw [sz k, p1.d (b := 171) (by decide)]
      by_cases c : ∃ i, 0 ≤ i ∧ i < t ∧ O i = k
      · obtain ⟨i, i0, i1, i2⟩ := c
        have := p2 i i0 i1
        rw [i2] at this
        exact ⟨fun w => absurd this w.1, fun w => absurd i2 (w.2 i i0 i1)⟩
      · have := p3 (800 * q + k) (fun i i0 i1 w => c ⟨i, i0, i1, by omega⟩)
        rw [this]
        exact ⟨fun w => ⟨w, fun i i0 i1 z => c ⟨i, i0, i1, z⟩⟩, fun w => w.1⟩
    unfold P_M_forgetSome_L147
    rw [Int.tdiv_eq_ediv_of_nonneg o1.1, w32_of (x := n / 2) (by omega) (by omega), if_neg (by omega)]
    refine ⟨K.toNat + 1, M_least (A := A) (K := K) q0 q1 (by rw [p1.d (b := 155) (by decide)]; exact hK) K1 (fun k k0 k1 th => ?_) ⟨O t, ot.1.1, ot.1.2, (mg _ ot.1.1 ot.1.2).mpr ⟨ot.2, fun i i0 i1 => dis i t i0 i1 (by omega)⟩⟩ (fun y yr my ml => ?_) K.toNat _ (-1005) 0 (by omega) (by omega) (by omega) (Or.inl ⟨rfl, fun k k0 k1 => by omega⟩)⟩
    · have th' : zd m 156 (800 * q + k) ≠ 0 := by
        by_cases c : ∃ i, 0 ≤ i ∧ i < t ∧ O i = k
        · obtain ⟨i, i0, i1, i2⟩ := c
          have := p2 i i0 i1
          rw [i2] at this; exact absurd this th
        · rw [p3 (800 * q + k) (fun i i0 i1 w => c ⟨i, i0, i1, by omega⟩)] at th; exact th
      have o := hr k k0 k1 th'
      unfold MR
      rw [p1.f (b := 119) (by decide), p1.f (b := 123) (by decide), p1.f (b := 152) (by decide), p1.f (b := 101) (by decide), sz]
      exact ⟨o.1, fun i i0 i1 => by rw [mi]; exact o.2 i i0 i1⟩
    · have yO : y = O t := by
        obtain ⟨m1, m2⟩ := (mg y yr.1 yr.2).mp my
        obtain ⟨i, i0, i1, i2⟩ := o4 y yr.1 yr.2 m1
        rcases Int.lt_trichotomy i t with z | z | z
        · exact absurd i2 (m2 i i0 z)
        · rw [← i2, z]
        · exfalso
          have l1 := o3 t i t0 z i1
          rw [i2] at l1
          rcases ml (O t) ot.1.1 ot.1.2 ((mg _ ot.1.1 ot.1.2).mpr ⟨ot.2, fun i i0 i1 => dis i t i0 i1 (by omega)⟩) with w | w
          · exact dis t i t0 z i1 (by rw [i2]; exact w)
          · rw [p1.f (b := 157) (by decide)] at w
            exact lex_as l1 w
      simp only [w32_al, w32_ar, w32_sl, w32_sr, w32_ml, w32_mr]
      rw [yO, w32_of (x := 800 * q + O t) (by omega) (by omega), w32_of (x := 10 * q + 6) (by omega) (by omega), zbit_0]
      refine ⟨⟨by omega, by omega⟩, ?_⟩
      intro h21 e21
      refine ⟨⟨by omega, by omega⟩, ⟨by omega, by omega⟩, ?_⟩
      have c21 : zd h21 163 (10 * q + 6) = w32 (zd m 163 (10 * q + 6) + t) := by rw [e21, zd_a (by decide), p4, if_pos rfl]
      rw [c21, w32_al]
      intro h22 e22 x3 e3
      rw [w32_of (by omega) (by omega)] at e3
      rw [e3]
      refine ih f (t + 1) h22 (by omega) (by omega) (by omega) ⟨by rw [e22, e21]; exact (p1.w (by simp)).w (by simp), fun i i0 i1 => ?_, fun j hj => ?_, fun j => ?_⟩
      · rw [e22, zd_a (by decide), e21]
        by_cases z : i = t
        · rw [z, zd_s]
        · have := dis i t i0 (by omega) (by omega)
          rw [zd_i (by omega)]; exact p2 i i0 (by omega)
      · rw [e22, zd_a (by decide), e21, zd_i (hj t t0 (by omega))]
        exact p3 j (fun i i0 i1 => hj i i0 (by omega))
      · rw [e22]
        by_cases z : j = 10 * q + 6
        · rw [if_pos z, z, zd_s]; congr 1; omega
        · rw [if_neg z, zd_i z, e21, zd_a (by decide), p4, if_neg z]
