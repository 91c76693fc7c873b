/-! forgetting: here against there -/
theorem num_k {k : Int} (k0 : 0 ≤ k) : num (564 + k) = 2000 + k := by unfold num; rw [if_neg (by omega), if_neg (by omega)]; omega
theorem th_iff {e q k top : Int} {h m : zH} (r : RMs e q h m) (hs : ES e h top) (k0 : 0 ≤ k) (k1 : k < zd m 155 q) : zd h (e + 5) (564 + k) ≠ 0 ↔ zd m 156 (800 * q + k) ≠ 0 := by
  obtain ⟨⟨-, a1, a2, a3, -⟩, -, ⟨b1, b2⟩, -⟩ := r
  constructor
  · intro t
    have t1 : zd h (e + 5) (564 + k) = 1 := by
      rcases hs.2.2.2.2.2.2 (564 + k) (by omega) (by omega) with z | z
      · exact absurd z t
      · exact z
    have o := (b1 (564 + k) (by omega) (by omega) t1).1
    rw [num_k k0] at o
    unfold mlive at o
    rcases o with ⟨x, y, z⟩ | ⟨x, y, z⟩ | ⟨x, y, z⟩
    · omega
    · omega
    · rw [show 800 * q + (2000 + k) - 2000 = 800 * q + k by omega] at z; exact z
  · intro t
    obtain ⟨s, s0, s1, s2, s3⟩ := b2 (2000 + k) (Or.inr (Or.inr ⟨by omega, by omega, by rw [show 800 * q + (2000 + k) - 2000 = 800 * q + k by omega]; exact t⟩))
    rw [← num_k k0] at s3
    rw [← num_inj s3, s2]; decide
theorem may_iff {e q k top : Int} {h m : zH} (r : RMs e q h m) (p : EInv e h top) (k0 : 0 ≤ k) (k1 : k < zd m 155 q) : emay e h k ↔ mgoT q m k := by
  have t := th_iff r p.1 k0 k1
  have sz : zd h (e + 5) (564 + k) ≠ 0 → elaid e h (564 + k) ∧ zd h (e + 2) (564 + k) = msz m q (2000 + k) := by
    intro t0
    have l8 := r.1.2.2.2.1
    have t1 : zd h (e + 5) (564 + k) = 1 := by
      rcases p.1.2.2.2.2.2.2 (564 + k) (by omega) (by omega) with z | z
      · exact absurd z t0
      · exact z
    have o := (r.2.2.1.1 (564 + k) (by omega) (by omega) t1).2.1
    rw [num_k k0] at o
    exact ⟨Or.inl ⟨by omega, by omega, t1⟩, o⟩
  obtain ⟨c1, c2, c3, c4, -, -⟩ := r.2.1
  have rs : ∀ i, 0 ≤ i → i < zd h e 20 → (zd h (e + 13) (tn e h i) = 564 + k ↔ zd m 145 (301 * q + zab (zd m 149 (300 * q + i))) = 2000 + k) := by
    intro i i0 i1
    have ti := p.2.2.1.2.1 i i0 i1
    have zr := zab_r ti.1
    have nz : zd h (e + 11) (zab (zd h (e + 17) i)) ≠ 0 := by
      intro z
      have w := ti.2
      rw [est_ab e h ti.1, z] at w
      split at w <;> omega
    have rr := (c2 _ zr.1 zr.2 nz).2
    rw [← c4 i i0 i1]
    unfold tn
    rcases rr with ⟨x, y⟩ | ⟨x, y, z⟩
    · rw [x, y]; constructor <;> (intro w; omega)
    · rw [z]
      constructor
      · intro w; rw [w]; exact num_k k0
      · intro w; rw [← num_k k0] at w; exact num_inj w
  unfold emay mgoT
  constructor
  · rintro ⟨x, y, z⟩
    obtain ⟨s1, s2⟩ := sz x
    refine ⟨t.mp x, by omega, fun w => z ?_⟩
    obtain ⟨i, i0, i1, i2⟩ := w
    rw [← c3] at i1
    exact (ersn_tr p (by omega) s1).mpr ⟨i, i0, i1, (rs i i0 i1).mpr i2⟩
  · rintro ⟨x, y, z⟩
    obtain ⟨s1, s2⟩ := sz (t.mpr x)
    refine ⟨t.mpr x, by omega, fun w => z ?_⟩
    obtain ⟨i, i0, i1, i2⟩ := (ersn_tr p (by omega) s1).mp w
    exact ⟨i, i0, by rw [← c3]; exact i1, (rs i i0 i1).mp i2⟩
