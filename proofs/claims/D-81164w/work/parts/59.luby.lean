/-! the numbers by which it begins anew -/
def pwf : Nat → Int → Int → Int
  | 0, _, p => p
  | f + 1, k, p => if k ≤ 2 * p - 1 then p else pwf f k (2 * p)
def lb : Nat → Int → Int
  | 0, _ => 0
  | f + 1, k => if k = 2 * pwf 20 k 1 - 1 then pwf 20 k 1 else lb f (k - (pwf 20 k 1 - 1))
theorem pwf_r (k : Int) : ∀ (f : Nat) (p : Int), 1 ≤ p → p ≤ pwf f k p ∧ (pwf f k p = p ∨ pwf f k p - 1 < k) ∧ (k ≤ 2 * (p * 2 ^ f) - 1 → k ≤ 2 * pwf f k p - 1) := by
  intro f
  induction f with
  | zero => intro p h; exact ⟨Int.le_refl _, Or.inl rfl, fun q => by show k ≤ 2 * p - 1; simpa using q⟩
  | succ f ih =>
    intro p h
    by_cases c : k ≤ 2 * p - 1
    · have e : pwf (f + 1) k p = p := by show (if k ≤ 2 * p - 1 then p else pwf f k (2 * p)) = p; rw [if_pos c]
      rw [e]; exact ⟨Int.le_refl _, Or.inl rfl, fun _ => c⟩
    · have e : pwf (f + 1) k p = pwf f k (2 * p) := by show (if k ≤ 2 * p - 1 then p else pwf f k (2 * p)) = _; rw [if_neg c]
      obtain ⟨i1, i2, i3⟩ := ih (2 * p) (by omega)
      rw [e]
      refine ⟨by omega, ?_, fun q => i3 ?_⟩
      · rcases i2 with z | z
        · right; omega
        · exact Or.inr z
      · rw [Int.pow_succ] at q
        have : 2 * p * 2 ^ f = p * (2 ^ f * 2) := by rw [Int.mul_comm 2 p, Int.mul_assoc, Int.mul_comm 2 (2 ^ f)]
        rw [this]; exact q
theorem pwf_k {k : Int} (k0 : 1 ≤ k) (k1 : k ≤ 1000000) : (1 ≤ pwf 20 k 1 ∧ pwf 20 k 1 ≤ k) ∧ k ≤ 2 * pwf 20 k 1 - 1 := by
  obtain ⟨a, b, c⟩ := pwf_r k 20 1 (by decide)
  refine ⟨⟨a, by omega⟩, c ?_⟩
  show k ≤ 2 * (1 * 1048576) - 1
  omega
theorem E_turn_in {e k : Int} {h : zH} {Q : Int → zH → Prop} (k1 : k ≤ 1000000) : ∀ (f n : Nat) (p : Int) (K : Int → zH → Prop), f < n → 1 ≤ p → p ≤ 1000000 → k ≤ 2 * (p * 2 ^ f) - 1 → K (pwf f k p) h → P_E_turnNumber_L7 e k Q K n p h ∧ P_E_turnNumber_L40 e k Q K n p h := by
  intro f
  induction f with
  | zero =>
    intro n p K hn p0 p1 hk kk
    obtain ⟨n, rfl⟩ : ∃ m, n = m + 1 := ⟨n - 1, by omega⟩
    have hk : k ≤ 2 * p - 1 := by simpa using hk
    unfold P_E_turnNumber_L7 P_E_turnNumber_L40
    rw [w32_of (x := 2 * p) (by omega) (by omega), w32_of (x := 2 * p - 1) (by omega) (by omega), if_pos hk, if_pos hk]
    exact ⟨kk, kk⟩
  | succ f ih =>
    intro n p K hn p0 p1 hk kk
    obtain ⟨n, rfl⟩ : ∃ m, n = m + 1 := ⟨n - 1, by omega⟩
    unfold P_E_turnNumber_L7 P_E_turnNumber_L40
    rw [w32_of (x := 2 * p) (by omega) (by omega), w32_of (x := 2 * p - 1) (by omega) (by omega), w32_of (x := p * 2) (by omega) (by omega)]
    have e : pwf (f + 1) k p = if k ≤ 2 * p - 1 then p else pwf f k (2 * p) := rfl
    rw [e] at kk
    by_cases c : k ≤ 2 * p - 1
    · rw [if_pos c] at kk
      rw [if_pos c, if_pos c]; exact ⟨kk, kk⟩
    · rw [if_neg c] at kk
      rw [if_neg c, if_neg c]
      have hk2 : k ≤ 2 * (2 * p * 2 ^ f) - 1 := by
        rw [Int.pow_succ] at hk
        have : 2 * p * 2 ^ f = p * (2 ^ f * 2) := by rw [Int.mul_comm 2 p, Int.mul_assoc, Int.mul_comm 2 (2 ^ f)]
        rw [this]; exact hk
      have r := ih n (2 * p) K (by omega) (by omega) (by omega) hk2 kk
      rw [show p * 2 = 2 * p by omega]
      exact ⟨fun x ex => by rw [ex]; exact r.1, fun x ex => by rw [ex]; exact r.2⟩
theorem E_turn {e : Int} {h : zH} {Q : Int → zH → Prop} (k0 : 1 ≤ zd h e 40) (k1 : zd h e 40 ≤ 1000000) (q : Q (lb (zd h e 40).toNat (zd h e 40)) h) : P_E_turnNumber e h Q := by
  have out : ∀ (f n : Nat) (k : Int), k ≤ f → f < n → 1 ≤ k → k ≤ 1000000 → Q (lb f k) h → P_E_turnNumber_L23 e Q n k (pwf 20 k 1) h := by
    intro f
    induction f with
    | zero => intro n k hk hn k0 k1 kk; omega
    | succ f ih =>
      intro n k hk hn k0 k1 kk
      obtain ⟨n, rfl⟩ : ∃ m, n = m + 1 := ⟨n - 1, by omega⟩
      obtain ⟨⟨a, b⟩, c⟩ := pwf_k k0 k1
      have e1 : lb (f + 1) k = if k = 2 * pwf 20 k 1 - 1 then pwf 20 k 1 else lb f (k - (pwf 20 k 1 - 1)) := rfl
      rw [e1] at kk
      unfold P_E_turnNumber_L23
      rw [w32_of (x := 2 * pwf 20 k 1) (by omega) (by omega), w32_of (x := 2 * pwf 20 k 1 - 1) (by omega) (by omega)]
      by_cases z : k = 2 * pwf 20 k 1 - 1
      · rw [if_pos z] at kk; rw [if_pos z]; exact kk
      · rw [if_neg z] at kk
        rw [if_neg z, w32_of (x := pwf 20 k 1 - 1) (by omega) (by omega), w32_of (x := k - (pwf 20 k 1 - 1)) (by omega) (by omega)]
        have p2 : 2 ≤ pwf 20 k 1 := by omega
        have pk : pwf 20 k 1 - 1 < k := by omega
        intro x ex
        rw [ex]
        refine ⟨21, (E_turn_in (by omega) 20 21 1 _ (by decide) (by decide) (by decide) (by show _ ≤ 2 * (1 * 1048576) - 1; omega) ?_).2⟩
        exact ih n _ (by omega) (by omega) (by omega) (by omega) kk
  unfold P_E_turnNumber
  intro x ex
  rw [ex]
  refine ⟨21, (E_turn_in k1 20 21 1 _ (by decide) (by decide) (by decide) (by show _ ≤ 2 * (1 * 1048576) - 1; omega) ?_).1⟩
  exact ⟨(zd h e 40).toNat + 1, out (zd h e 40).toNat _ _ (by omega) (by omega) k0 k1 q⟩
theorem M_turn_in {k : Int} {h : zH} {Q : Int → zH → Prop} (k1 : k ≤ 1000000) : ∀ (f n : Nat) (p : Int) (K : Int → zH → Prop), f < n → 1 ≤ p → p ≤ 1000000 → k ≤ 2 * (p * 2 ^ f) - 1 → K (2 * pwf f k p - 1) h → P_M_partOfRow_L11 k Q K n (2 * p - 1) h := by
  intro f
  induction f with
  | zero =>
    intro n p K hn p0 p1 hk kk
    obtain ⟨n, rfl⟩ : ∃ m, n = m + 1 := ⟨n - 1, by omega⟩
    have hk : k ≤ 2 * p - 1 := by simpa using hk
    unfold P_M_partOfRow_L11
    rw [if_pos hk]; exact kk
  | succ f ih =>
    intro n p K hn p0 p1 hk kk
    obtain ⟨n, rfl⟩ : ∃ m, n = m + 1 := ⟨n - 1, by omega⟩
    unfold P_M_partOfRow_L11
    simp only [w32_al, w32_ar, w32_sl, w32_sr, w32_ml, w32_mr]
    have e : pwf (f + 1) k p = if k ≤ 2 * p - 1 then p else pwf f k (2 * p) := rfl
    rw [e] at kk
    by_cases c : k ≤ 2 * p - 1
    · rw [if_pos c] at kk
      rw [if_pos c]; exact kk
    · rw [if_neg c] at kk
      rw [if_neg c, w32_of (x := 2 * (2 * p - 1) + 1) (by omega) (by omega)]
      have hk2 : k ≤ 2 * (2 * p * 2 ^ f) - 1 := by
        rw [Int.pow_succ] at hk
        have : 2 * p * 2 ^ f = p * (2 ^ f * 2) := by rw [Int.mul_comm 2 p, Int.mul_assoc, Int.mul_comm 2 (2 ^ f)]
        rw [this]; exact hk
      intro x ex
      rw [ex, show 2 * (2 * p - 1) + 1 = 2 * (2 * p) - 1 by omega]
      exact ih n (2 * p) K (by omega) (by omega) (by omega) hk2 kk
theorem M_turn {k : Int} {h : zH} {Q : Int → zH → Prop} (k0 : 1 ≤ k) (k1 : k ≤ 1000000) (q : Q (lb k.toNat k) h) : P_M_partOfRow k h Q := by
  have out : ∀ (f n : Nat) (k : Int), k ≤ f → 2 * f < n → 1 ≤ k → k ≤ 1000000 → Q (lb f k) h → P_M_partOfRow_L4 Q n k 0 h := by
    intro f
    induction f with
    | zero => intro n k hk hn k0 k1 kk; omega
    | succ f ih =>
      intro n k hk hn k0 k1 kk
      obtain ⟨n, rfl⟩ : ∃ m, n = m + 1 + 1 := ⟨n - 2, by omega⟩
      obtain ⟨⟨a, b⟩, c⟩ := pwf_k k0 k1
      have e1 : lb (f + 1) k = if k = 2 * pwf 20 k 1 - 1 then pwf 20 k 1 else lb f (k - (pwf 20 k 1 - 1)) := rfl
      rw [e1] at kk
      unfold P_M_partOfRow_L4
      rw [if_neg (by omega)]
      refine ⟨21, M_turn_in k1 20 21 1 _ (by decide) (by decide) (by decide) (by show _ ≤ 2 * (1 * 1048576) - 1; omega) ?_⟩
      by_cases z : k = 2 * pwf 20 k 1 - 1
      · rw [if_pos z] at kk
        rw [if_pos z.symm]
        unfold P_M_partOfRow_L4
        rw [if_pos z.symm, w32_of (x := 2 * pwf 20 k 1 - 1 + 1) (by omega) (by omega), Int.tdiv_eq_ediv_of_nonneg (by omega), show (2 * pwf 20 k 1 - 1 + 1) / 2 = pwf 20 k 1 by omega, w32_of (by omega) (by omega)]
        exact kk
      · rw [if_neg z] at kk
        have p2 : 2 ≤ pwf 20 k 1 := by omega
        rw [if_neg (fun w => z w.symm), w32_of (x := 2 * pwf 20 k 1 - 1 - 1) (by omega) (by omega), Int.tdiv_eq_ediv_of_nonneg (by omega), show (2 * pwf 20 k 1 - 1 - 1) / 2 = pwf 20 k 1 - 1 by omega, w32_of (x := pwf 20 k 1 - 1) (by omega) (by omega), w32_of (x := k - (pwf 20 k 1 - 1)) (by omega) (by omega)]
        intro x ex
        rw [ex]
        exact ih (n + 1) _ (by omega) (by omega) (by omega) (by omega) kk
  unfold P_M_partOfRow
  exact ⟨2 * k.toNat + 1, out k.toNat _ k (by omega) (by omega) k0 k1 q⟩
