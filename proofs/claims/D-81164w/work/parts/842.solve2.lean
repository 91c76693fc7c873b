/-! the rows of the case and of what is barred, here and there -/
theorem R3_case {e q B : Int} {h m : zH} {P I : Int → Prop} {len : Int → Int} {itm : Int → Int → Int} (L : LR e h P len itm) (b155 : zd m 155 q = 0) (rw0 : 0 ≤ zd m 138 q ∧ zd m 138 q ≤ 500) (B0 : 0 ≤ B ∧ B ≤ 64) (hB : ∀ k, 0 ≤ k → (k < B ↔ k < zd m 101 67 ∧ (q = 1 ∨ zd m 101 58 ≠ 0))) (hI : ∀ r, 0 ≤ r → r < zd m 138 q → (zd m 139 (500 * q + r) ≠ 0 ↔ I r)) (hP : ∀ s, 0 ≤ s → s < 1364 → (P s ↔ (s < zd m 138 q ∧ I s) ∨ (500 ≤ s ∧ s < 500 + B)))
    (hc : ∀ s, 0 ≤ s → s < zd m 138 q → len s = zd m 119 (s + 1) - zd m 119 s ∧ ∀ i, 0 ≤ i → i < len s → itm s i = zd m 120 (zd m 119 s + i)) (hb : ∀ k, 0 ≤ k → k < B → len (500 + k) = zd m 123 (zd m 101 66 + k) ∧ ∀ i, 0 ≤ i → i < len (500 + k) → itm (500 + k) i = zd m 124 (20 * (zd m 101 66 + k) + i)) : R3 e q h m := by
  have n1 : ∀ s, s < 500 → num s = s := fun s hs => by unfold num; rw [if_pos hs]
  have n2 : ∀ s, 500 ≤ s → s < 564 → num s = s + 500 := fun s h1 h2 => by unfold num; rw [if_neg (by omega), if_pos h2]
  have n3 : ∀ s, 564 ≤ s → num s = s + 1436 := fun s h1 => by unfold num; rw [if_neg (by omega), if_neg (by omega)]
  refine R3_of L (fun s s0 s1 => ?_) (fun r hr => ?_) (fun s s0 s1 p => ?_)
  · rw [hP s s0 s1]
    unfold mlive
    by_cases a : s < 500
    · rw [n1 s a]
      constructor
      · rintro (⟨x, y⟩ | ⟨x, y⟩)
        · exact Or.inl ⟨s0, x, (hI s s0 x).mpr y⟩
        · omega
      · rintro (⟨_, x, y⟩ | ⟨x, _⟩ | ⟨x, _⟩)
        · exact Or.inl ⟨x, (hI s s0 x).mp y⟩
        · omega
        · omega
    · by_cases b : s < 564
      · rw [n2 s (by omega) b]
        constructor
        · rintro (⟨x, y⟩ | ⟨x, y⟩)
          · omega
          · have := (hB (s - 500) (by omega)).mp (by omega)
            exact Or.inr (Or.inl ⟨by omega, by omega, this.2⟩)
        · rintro (⟨_, x, y⟩ | ⟨x, y, z⟩ | ⟨x, _⟩)
          · omega
          · have := (hB (s - 500) (by omega)).mpr ⟨by omega, z⟩
            exact Or.inr ⟨by omega, by omega⟩
          · omega
      · rw [n3 s (by omega)]
        constructor
        · rintro (⟨x, y⟩ | ⟨x, y⟩) <;> omega
        · rintro (⟨_, x, y⟩ | ⟨x, y, z⟩ | ⟨x, y, z⟩)
          · omega
          · have := (hB (s + 1436 - 1000) (by omega)).mpr ⟨by omega, z⟩
            omega
          · omega
  · rcases hr with ⟨x, y, z⟩ | ⟨x, y, z⟩ | ⟨x, y, z⟩
    · exact ⟨r, x, by omega, n1 r (by omega)⟩
    · have := (hB (r - 1000) (by omega)).mpr ⟨by omega, z⟩
      exact ⟨r - 500, by omega, by omega, by rw [n2 _ (by omega) (by omega)]; omega⟩
    · omega
  · rcases (hP s s0 s1).mp p with ⟨x, y⟩ | ⟨x, y⟩
    · obtain ⟨c1, c2⟩ := hc s s0 x
      rw [n1 s (by omega)]
      unfold msz mit
      rw [if_pos (by omega)]
      refine ⟨c1, fun i i0 i1 => ?_⟩
      rw [if_pos (by omega)]; exact c2 i i0 i1
    · obtain ⟨c1, c2⟩ := hb (s - 500) (by omega) (by omega)
      rw [show 500 + (s - 500) = s by omega] at c1 c2
      rw [n2 s x (by omega)]
      unfold msz mit
      rw [if_neg (by omega), if_pos (by omega), show zd m 101 66 + (s + 500) - 1000 = zd m 101 66 + (s - 500) by omega]
      refine ⟨c1, fun i i0 i1 => ?_⟩
      rw [if_neg (by omega), if_pos (by omega)]; exact c2 i i0 i1
theorem mr_case {q A : Int} {m : zH} (b155 : zd m 155 q = 0) (r5 : zd m 138 q ≤ 500) (c0 : ∀ r, 0 ≤ r → r < zd m 138 q → 0 ≤ zd m 119 r ∧ zd m 119 r ≤ zd m 119 (r + 1) ∧ zd m 119 (r + 1) ≤ 2500) (ci : ∀ r, 0 ≤ r → r < zd m 138 q → ∀ i, 0 ≤ i → i < zd m 119 (r + 1) - zd m 119 r → eit A (zd m 120 (zd m 119 r + i))) (f0 : zd m 101 66 = 0 ∨ zd m 101 66 = 64) (f7 : zd m 101 67 ≤ 64) (bb : ∀ k, 0 ≤ k → k < zd m 101 67 → (q = 1 ∨ zd m 101 58 ≠ 0) → (0 ≤ zd m 123 (zd m 101 66 + k) ∧ zd m 123 (zd m 101 66 + k) ≤ 20) ∧ ∀ i, 0 ≤ i → i < zd m 123 (zd m 101 66 + k) → eit A (zd m 124 (20 * (zd m 101 66 + k) + i))) : ∀ r, mlive m q r → MR m q A r := by
  intro r hr
  rcases hr with ⟨x, y, z⟩ | ⟨x, y, z⟩ | ⟨x, y, z⟩
  · obtain ⟨d1, d2, d3⟩ := c0 r x y
    refine ⟨Or.inl ⟨x, by omega, d1, d2, d3⟩, fun i i0 i1 => ?_⟩
    unfold msz at i1
    unfold mit
    rw [if_pos (by omega)] at i1 ⊢
    exact ci r x y i i0 i1
  · obtain ⟨d1, d2⟩ := bb (r - 1000) (by omega) (by omega) z
    have e : zd m 101 66 + r - 1000 = zd m 101 66 + (r - 1000) := by omega
    refine ⟨Or.inr (Or.inl ⟨x, by omega, f0, by rw [e]; exact d1.1, by rw [e]; exact d1.2⟩), fun i i0 i1 => ?_⟩
    unfold msz at i1
    unfold mit
    rw [if_neg (by omega), if_pos (by omega), e] at i1 ⊢
    exact d2 i i0 i1
  · omega
