/-! forgetting: all of it, there -/
theorem lex_as {u : Int → Int} {a b : Int} (p : lex u a b) (q : lex u b a) : False := by
  unfold lex at *; omega
/-- the least of what may go -/
theorem M_least {q A K x t : Int} {g : zH} {Q : Int → zH → Prop} {KK : Int → zH → Prop} (q0 : 0 ≤ q) (q1 : q ≤ 1) (hK : zd g 155 q = K) (K1 : K ≤ 800) (hr : ∀ k, 0 ≤ k → k < K → zd g 156 (800 * q + k) ≠ 0 → MR g q A (2000 + k)) (ex : ∃ k, 0 ≤ k ∧ k < K ∧ mgo q g k) (kk : ∀ y, (0 ≤ y ∧ y < K) → mgo q g y → (∀ k, 0 ≤ k → k < K → mgo q g k → k = y ∨ lex (fun k => zd g 157 (800 * q + k)) y k) → KK y g) : ∀ (d f : Nat) (a y : Int), y = K - d → 0 ≤ y → d < f → ((a = -1005 ∧ ∀ k, 0 ≤ k → k < y → ¬ mgo q g k) ∨ ((0 ≤ a ∧ a < y) ∧ mgo q g a ∧ ∀ k, 0 ≤ k → k < y → mgo q g k → k = a ∨ lex (fun k => zd g 157 (800 * q + k)) a k)) → P_M_forgetSome_L162 q x t Q KK f a y g := by
  intro d
  induction d with
  | zero =>
    intro f a y hy y0 hf iv
    obtain ⟨f, rfl⟩ : ∃ m, f = m + 1 := ⟨f - 1, by omega⟩
    unfold P_M_forgetSome_L162
    rw [hK, if_pos (by omega)]
    refine ⟨⟨by omega, by omega⟩, ?_⟩
    rcases iv with ⟨_, no⟩ | ⟨a1, a2, a3⟩
    · obtain ⟨k, k0, k1, k2⟩ := ex
      exact absurd k2 (no k k0 (by omega))
    · exact kk a (by omega) a2 (fun k k0 k1 k2 => a3 k k0 (by omega) k2)
  | succ d ih =>
    intro f a y hy y0 hf iv
    obtain ⟨f, rfl⟩ : ∃ m, f = m + 1 := ⟨f - 1, by omega⟩
    have st : w32 (y + 1) = y + 1 := w32_of (by omega) (by omega)
    unfold P_M_forgetSome_L162 P_M_forgetSome_J222 P_M_forgetSome_J236
    simp only [w32_al, w32_ar, w32_sl, w32_sr, w32_ml, w32_mr]
    rw [hK, if_neg (by omega), st]
    refine ⟨⟨by omega, by omega⟩, M_mayGo q0 q1 y0 (by omega) (hr y y0 (by omega)) (fun r rr => ?_)⟩
    have ar : a < 0 ∨ (0 ≤ a ∧ a < y) := by rcases iv with ⟨z, _⟩ | ⟨z, _⟩ <;> omega
    rcases rr with ⟨r1, yes⟩ | ⟨r1, no⟩
    · rw [r1]
      simp only [if_neg (show ¬ (1 : Int) = 0 by decide)]
      rcases iv with ⟨a1, a2⟩ | ⟨a1, a2, a3⟩
      · simp only [if_pos (show a < 0 by omega), if_neg (show ¬ (1 : Int) = 0 by decide)]
        refine ⟨trivial, ?_⟩
        intro x5 e5
        rw [e5]
        refine ih f y (y + 1) (by omega) (by omega) (by omega) (Or.inr ⟨by omega, yes, fun k k0 k1 k2 => ?_⟩)
        by_cases z : k = y
        · exact Or.inl z
        · exact absurd k2 (a2 k k0 (by omega))
      · simp only [if_neg (show ¬ a < 0 by omega)]
        rw [w32_of (x := 800 * q + y) (by omega) (by omega), w32_of (x := 800 * q + a) (by omega) (by omega)]
        refine ⟨⟨⟨by omega, by omega⟩, ⟨by omega, by omega⟩, trivial⟩, ?_⟩
        intro x5 e5
        rw [e5]
        by_cases z : zd g 157 (800 * q + a) ≤ zd g 157 (800 * q + y)
        · rw [if_pos z, if_pos rfl]
          refine ih f a (y + 1) (by omega) (by omega) (by omega) (Or.inr ⟨by omega, a2, fun k k0 k1 k2 => ?_⟩)
          by_cases w : k = y
          · right
            rw [w]
            show zd g 157 (800 * q + a) < zd g 157 (800 * q + y) ∨ (zd g 157 (800 * q + a) = zd g 157 (800 * q + y) ∧ a < y)
            omega
          · exact a3 k k0 (by omega) k2
        · rw [if_neg z, if_neg (by decide)]
          refine ih f y (y + 1) (by omega) (by omega) (by omega) (Or.inr ⟨by omega, yes, fun k k0 k1 k2 => ?_⟩)
          by_cases w : k = y
          · exact Or.inl w
          · right
            show zd g 157 (800 * q + y) < zd g 157 (800 * q + k) ∨ (zd g 157 (800 * q + y) = zd g 157 (800 * q + k) ∧ y < k)
            rcases a3 k k0 (by omega) k2 with v | v
            · rw [v]; omega
            · have v : zd g 157 (800 * q + a) < zd g 157 (800 * q + k) ∨ (zd g 157 (800 * q + a) = zd g 157 (800 * q + k) ∧ a < k) := v
              omega
    · rw [r1, if_pos rfl, if_pos rfl, if_pos rfl]
      refine ⟨trivial, ?_⟩
      intro x5 e5
      rw [e5]
      refine ih f a (y + 1) (by omega) (by omega) (by omega) ?_
      rcases iv with ⟨a1, a2⟩ | ⟨a1, a2, a3⟩
      · refine Or.inl ⟨a1, fun k k0 k1 => ?_⟩
        by_cases z : k = y
        · rw [z]; exact no
        · exact a2 k k0 (by omega)
      · refine Or.inr ⟨by omega, a2, fun k k0 k1 k2 => ?_⟩
        by_cases z : k = y
        · rw [z] at k2; exact absurd k2 no
        · exact a3 k k0 (by omega) k2
