/-! learns: the level to go back to -/
theorem toOf_u {e t u : Int} {h h' : zH} (p : toOf e h h' t) (r : toOf e h h' u) : t = u := by
  obtain ⟨p1, p2, p3⟩ := p
  obtain ⟨r1, r2, r3⟩ := r
  have a : t ≤ u := by
    rcases p3 with z | ⟨j, j0, j1, j2⟩
    · omega
    · have := r2 j j0 j1; omega
  have b : u ≤ t := by
    rcases r3 with z | ⟨j, j0, j1, j2⟩
    · omega
    · have := p2 j j0 j1; omega
  omega
theorem E_to {e y1 y2 : Int} {h g : zH} {Q : Int → zH → Prop} {K : Int → zH → Prop} (c1 : zd g e 50 ≤ 300) (hA : zd g e 11 ≤ 300) (e12 : zd g (e + 12) = zd h (e + 12)) (hit : ∀ j, 1 ≤ j → j < zd g e 50 → eit (zd g e 11) (zd g (e + 28) j)) (kk : ∀ t, toOf e h g t → K t g) : ∀ (d f : Nat) (t y : Int), zd g e 50 - y ≤ d → 1 ≤ y → d < f → 0 ≤ t → (∀ j, 1 ≤ j → j < y → j < zd g e 50 → zd h (e + 12) (zab (zd g (e + 28) j)) ≤ t) → (t = 0 ∨ ∃ j, 1 ≤ j ∧ j < y ∧ j < zd g e 50 ∧ zd h (e + 12) (zab (zd g (e + 28) j)) = t) → P_E_learns_L77 e y1 y2 Q K f t y g := by
  intro d
  induction d with
  | zero =>
    intro f t y hd y0 hf t0 a b
    obtain ⟨f, rfl⟩ : ∃ m, f = m + 1 := ⟨f - 1, by omega⟩
    unfold P_E_learns_L77
    rw [if_pos (by omega)]
    refine kk t ⟨t0, fun j j0 j1 => a j j0 (by omega) j1, ?_⟩
    rcases b with b | ⟨j, j0, j1, j2, j3⟩
    · exact Or.inl b
    · exact Or.inr ⟨j, j0, j2, j3⟩
  | succ d ih =>
    intro f t y hd y0 hf t0 a b
    obtain ⟨f, rfl⟩ : ∃ m, f = m + 1 := ⟨f - 1, by omega⟩
    unfold P_E_learns_L77
    by_cases c : zd g e 50 ≤ y
    · rw [if_pos c]
      refine kk t ⟨t0, fun j j0 j1 => a j j0 (by omega) j1, ?_⟩
      rcases b with b | ⟨j, j0, j1, j2, j3⟩
      · exact Or.inl b
      · exact Or.inr ⟨j, j0, j2, j3⟩
    · rw [if_neg c]
      have it := hit y y0 (by omega)
      have zr := zab_r it
      rw [zabs_of it hA, e12]
      refine ⟨⟨by omega, by omega⟩, ⟨by omega, by omega⟩, ?_⟩
      intro x3 e3 x4 e4
      rw [w32_of (by omega) (by omega)] at e4
      rw [e4]
      have x3r : t ≤ x3 ∧ zd h (e + 12) (zab (zd g (e + 28) y)) ≤ x3 ∧ (x3 = t ∨ x3 = zd h (e + 12) (zab (zd g (e + 28) y))) := by
        unfold zmax at e3
        split at e3 <;> omega
      refine ih f x3 (y + 1) (by omega) (by omega) (by omega) (by omega) (fun j j0 j1 j2 => ?_) ?_
      · by_cases z : j = y
        · rw [z]; exact x3r.2.1
        · have := a j j0 (by omega) j2; omega
      · rcases x3r.2.2 with z | z
        · rcases b with b | ⟨j, j0, j1, j2, j3⟩
          · exact Or.inl (by omega)
          · exact Or.inr ⟨j, j0, by omega, j2, by omega⟩
        · exact Or.inr ⟨y, y0, by omega, by omega, z.symm⟩
