/-! the court against the model: groups -/
theorem isin_v {a b c : Int} : (if zcmp a b < 0 then (0 : Int) else if 0 < zcmp a c then 0 else 1) = if b ≤ a ∧ a ≤ c then 1 else 0 := by
  have l1 : zcmp a b < 0 ↔ a < b := by unfold zcmp; split <;> (try split) <;> omega
  have l2 : 0 < zcmp a c ↔ c < a := by unfold zcmp; split <;> (try split) <;> omega
  by_cases x : a < b
  · rw [if_pos (l1.mpr x), if_neg (by omega)]
  · rw [if_neg (fun z => x (l1.mp z))]
    by_cases y : c < a
    · rw [if_pos (l2.mpr y), if_neg (by omega)]
    · rw [if_neg (fun z => y (l2.mp z)), if_pos (by omega)]
theorem min_v {a b c : Int} : (if a < b then (0 : Int) else if c < a then 0 else 1) = if b ≤ a ∧ a ≤ c then 1 else 0 := by
  by_cases x : a < b
  · rw [if_pos x, if_neg (by omega)]
  · rw [if_neg x]
    by_cases y : c < a
    · rw [if_pos y, if_neg (by omega)]
    · rw [if_neg y, if_pos (by omega)]
/-- what is assumed -/
def RA (h m : zH) : Prop := (zd h 14 25 = zd m 101 29 ∧ 0 ≤ zd h 14 25 ∧ zd h 14 25 ≤ 20) ∧ ∀ k, 0 ≤ k → k < zd h 14 25 → zd h 93 k = zd m 122 k ∧ eit (zd h 14 2) (zd h 93 k)
/-- what is barred -/
def RBr (h m : zH) : Prop := (zd h 14 33 = zd m 101 32 ∧ 0 ≤ zd h 14 33 ∧ zd h 14 33 ≤ 64) ∧ zd h 95 0 = 0 ∧ (∀ k, 0 ≤ k → k < zd h 14 33 → zd h 95 (k + 1) = zd h 95 k + zd m 123 k ∧ 0 ≤ zd m 123 k ∧ zd m 123 k ≤ 20) ∧ (∀ k, 0 ≤ k → k < zd h 14 33 → ∀ i, 0 ≤ i → i < zd m 123 k → zd h 94 (zd h 95 k + i) = zd m 124 (20 * k + i) ∧ eit (zd h 14 2) (zd h 94 (zd h 95 k + i))) ∧ (zd m 101 66 = 0 ∨ zd m 101 66 = 64) ∧ 0 ≤ zd m 101 67 ∧ zd m 101 67 ≤ 64
/-- the truth found last -/
def RT (h m : zH) : Prop := (zd h 91 3 = 0 ∨ zd h 91 3 = 1) ∧ (zd h 91 3 = 1 ↔ zd m 142 0 = 1) ∧ (zd h 91 3 = 1 → zd h 91 1 = zd m 137 0 ∧ zd h 91 2 = zd m 101 59 ∧ (0 ≤ zd h 91 1 ∧ zd h 91 1 ≤ zd h 14 2) ∧ ∀ n, 1 ≤ n → n ≤ zd h 91 1 → zd h 92 n = zd m 136 n ∧ (zd h 92 n = 0 ∨ zd h 92 n = 1))
/-- the search that may go on -/
def RG (h m : zH) : Prop := (zd h 14 28 = 0 ∨ zd h 14 28 = 1) ∧ (zd m 101 57 = 0 ∨ zd m 101 57 = 1) ∧ (zd h 14 30 ≤ zd h 14 3) ∧ ((zd h 14 28 = 1 ∧ zd h 14 30 = zd h 14 3) ↔ zd m 101 57 = 1) ∧ (zd m 101 57 = 1 → SI 25 h ∧ Rel 25 0 h m ∧ zd m 101 58 = 0 ∧ zd h 25 11 = zd h 14 2 ∧ zd h 91 1 = zd h 14 2 ∧ zd h 91 2 = zd m 101 59 ∧ zd m 142 0 = -1004)
/-- what the main engine leaves -/
def RN (h m : zH) : Prop := (EP 25 h ∧ zd h 43 0 = 0) ∧ zd h 25 29 = zd m 142 0 ∧ RE 25 0 h m ∧ RQ 25 h m ∧ (zd h 14 29 = zd m 101 58 ∧ (zd h 14 29 = 0 ∨ zd h 14 29 = 1)) ∧ (zd h 25 29 = 0 → zd h 14 29 = 0 → RC 25 h m)
def RD (h : zH) : Prop := EP 58 h ∧ zd h 76 0 = 0
/-- the groups that a search reads or leaves -/
def RR0 (h m : zH) : Prop := (zd h 14 0 = zd m 101 0 ∧ zd h 14 20 = zd m 101 11) ∧ TG h ∧ CaseE h ∧ CaseM h m ∧ RA h m ∧ R9 25 0 h m ∧ RBr h m ∧ RT h m ∧ RG h m ∧ RN h m ∧ RD h
/-- what a call of the main engine changes of the court -/
def FrC (l fl : List Int) (h h1 : zH) : Prop := (h1.1 = h.1 ∧ h1.2.1 = h.2.1 ∧ h1.2.2.1 = h.2.2.1) ∧ (∀ b, b ≠ 14 → ¬ (25 ≤ b ∧ b < 91) → b ∉ l → zd h1 b = zd h b) ∧ ∀ j, j ∉ fl → zd h1 14 j = zd h 14 j
def FrM (l fl : List Int) (m m1 : zH) : Prop := (m1.1 = m.1 ∧ m1.2.1 = m.2.1 ∧ m1.2.2.1 = m.2.2.1) ∧ (∀ b, b < 101 ∨ 175 ≤ b → zd m1 b = zd m b) ∧ (∀ b, b ∈ ([102, 103, 104, 105, 106, 107, 108, 109, 110, 111, 112, 113, 114, 115, 116, 117, 118, 119, 120, 121, 122, 123, 124, 125, 126, 127, 128, 129, 130, 131, 132, 133, 134, 135, 172, 173, 174] : List Int) → b ∉ l → zd m1 b = zd m b) ∧ ∀ j, j ∉ ([57, 58, 59, 66, 67, 89, 91, 94, 96, 97, 98, 99, 100, 104, 106] : List Int) → j ∉ fl → zd m1 101 j = zd m 101 j
theorem byte01 : zbyte (zi2b 0) = 0 ∧ zbyte (zi2b 1) = 1 := by decide +kernel
/-- the found truth is copied -/
theorem C_truth {r : Int} {h : zH} {Q : Int → zH → Prop} (A0 : 0 ≤ zd h 14 2) (A3 : zd h 14 2 ≤ 300) (k : ∀ h', yA [92] h h' → (∀ n, 1 ≤ n → n ≤ zd h 14 2 → zd h' 92 n = if zd h 57 n ≤ 0 then 0 else 1) → Q r h') : ∃ n, P_C_searched_L24 r Q n 1 h := by
  have key : ∀ (d f : Nat) (y : Int) (g : zH), y = zd h 14 2 + 1 - d → 1 ≤ y → d < f → yA [92] h g → (∀ n, 1 ≤ n → n < y → zd g 92 n = if zd h 57 n ≤ 0 then 0 else 1) → P_C_searched_L24 r Q f y g := by
    intro d
    induction d with
    | zero =>
      intro f y g hy y0 hf gA gv
      obtain ⟨f, rfl⟩ : ∃ m, f = m + 1 := ⟨f - 1, by omega⟩
      unfold P_C_searched_L24
      rw [gA.d (b := 14) (by decide), if_pos (by omega)]
      exact k g gA (fun n n0 n1 => gv n n0 (by omega))
    | succ d ih =>
      intro f y g hy y0 hf gA gv
      obtain ⟨f, rfl⟩ : ∃ m, f = m + 1 := ⟨f - 1, by omega⟩
      unfold P_C_searched_L24 P_C_searched_J57
      rw [gA.d (b := 14) (by decide), if_neg (by omega), gA.d (b := 57) (by decide), w32_of (x := y + 1) (by omega) (by omega)]
      refine ⟨⟨by omega, by omega⟩, ⟨by omega, by omega⟩, ?_⟩
      intro h4 e4 x3 ex
      rw [ex]
      have v : zbyte (zi2b (if zd h 57 y ≤ 0 then 0 else 1)) = if zd h 57 y ≤ 0 then 0 else 1 := by
        by_cases c : zd h 57 y ≤ 0
        · rw [if_pos c]; exact byte01.1
        · rw [if_neg c]; exact byte01.2
      rw [v] at e4
      refine ih f (y + 1) h4 (by omega) (by omega) (by omega) (by rw [e4]; exact gA.w (by simp)) (fun n n0 n1 => ?_)
      rw [e4, zup]
      by_cases z : n = y
      · rw [if_pos z, z]
      · rw [if_neg z]; exact gv n n0 (by omega)
  exact ⟨(zd h 14 2).toNat + 1, key (zd h 14 2).toNat _ 1 h (by omega) (by decide) (by omega) (yA.rf _ _) (fun n n0 n1 => by omega)⟩
