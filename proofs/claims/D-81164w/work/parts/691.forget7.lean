/-! forgetting: the relation goes along -/
theorem zct_sh (f : Int → Int) (v a : Int) (n : Nat) : zct (fun k => f (a + k)) v 0 n = zct f v a n := by
  induction n with
  | zero => rfl
  | succ n ih =>
    show zct (fun k => f (a + k)) v 0 n + (if f (a + (0 + (n : Int))) = v then (1 : Int) else 0) = zct f v a n + (if f (a + (n : Int)) = v then (1 : Int) else 0)
    rw [ih, show a + (0 + (n : Int)) = a + (n : Int) by omega]
theorem OS_mr {e q top n : Int} {h m : zH} {O : Int → Int} (r : RMs e q h m) (p : EInv e h top) (rl : zd m 155 q = zd h e 25) (os : OS (emay e h) (zd h (e + 20)) O n (zd h e 25)) : OS (mgoT q m) (fun k => zd m 157 (800 * q + k)) O n (zd m 155 q) := by
  obtain ⟨o1, o2, o3, o4⟩ := os
  have u := r.2.2.2.2.1.2.2.2.2.2.2.1
  rw [rl]
  refine ⟨o1, fun i i0 i1 => ⟨(o2 i i0 i1).1, (may_iff r p (o2 i i0 i1).1.1 (by rw [rl]; exact (o2 i i0 i1).1.2)).mp (o2 i i0 i1).2⟩, fun i j i0 i1 i2 => ?_, fun k k0 k1 k2 => o4 k k0 k1 ((may_iff r p k0 (by omega)).mpr k2)⟩
  have a := o3 i j i0 i1 i2
  have b1 := (o2 i i0 (by omega)).1
  have b2 := (o2 j (by omega) i2).1
  unfold lex at a ⊢
  rw [u (O i) b1.1 (by omega), u (O j) b2.1 (by omega)] at a
  exact a
theorem drop_cnt {n K : Int} {O u f g : Int → Int} {may : Int → Prop} (os : OS may u O n K) (h1 : ∀ i, 0 ≤ i → i < n / 2 → f (564 + O i) = 1 ∧ g (564 + O i) = 0) (h2 : ∀ s, (∀ i, 0 ≤ i → i < n / 2 → s ≠ 564 + O i) → g s = f s) : zct g 1 564 K.toNat = zct f 1 564 K.toNat - n / 2 := by
  obtain ⟨o1, o2, o3, o4⟩ := os
  have os' : OS (fun k => ∃ i, 0 ≤ i ∧ i < n / 2 ∧ O i = k) u O (n / 2) K := ⟨by omega, fun i i0 i1 => ⟨(o2 i i0 (by omega)).1, i, i0, i1, rfl⟩, fun i j i0 i1 i2 => o3 i j i0 i1 (by omega), fun k _ _ z => z⟩
  have c1 := OS_cnt (f := fun k => f (564 + k) - g (564 + k)) os' (fun k k0 k1 => by
    show f (564 + k) - g (564 + k) = 1 ↔ _
    constructor
    · intro z
      refine Classical.byContradiction (fun no => ?_)
      have := h2 (564 + k) (fun i i0 i1 i2 => no ⟨i, i0, i1, by omega⟩)
      omega
    · rintro ⟨i, i0, i1, i2⟩
      have := h1 i i0 i1
      rw [i2] at this; omega)
  rw [zct_sh (fun s => f s - g s) 1 564] at c1
  have c2 := zct_add (f := g) (f' := f) (g := fun s => f s - g s) (v := 1) (v' := 1) (x := 1) (a := 564) (n := K.toNat) (fun s s0 s1 => by
    show (f s = 1 ↔ g s = 1 ∨ f s - g s = 1) ∧ ¬ (g s = 1 ∧ f s - g s = 1)
    by_cases z : ∃ i, 0 ≤ i ∧ i < n / 2 ∧ s = 564 + O i
    · obtain ⟨i, i0, i1, i2⟩ := z
      have := h1 i i0 i1
      rw [← i2] at this; omega
    · have := h2 s (fun i i0 i1 i2 => z ⟨i, i0, i1, i2⟩)
      omega)
  omega
