/-! forgetting: the relation goes along (2) -/
theorem S_forget {e q top n : Int} {h h' m m' : zH} {O : Int → Int} (he : zE e) (q0 : 0 ≤ q) (q1 : q ≤ 1) (r : RMs e q h m) (p : EInv e h top) (rl : zd m 155 q = zd h e 25) (os : OS (emay e h) (zd h (e + 20)) O n (zd h e 25)) (fA : yA [e, e + 5, e + 6, e + 20, e + 31] h h') (fe : ∀ j, zd h' e j = if j = 37 then zd h e 37 - n / 2 else if j = 36 then w32 (zd h e 36 + n / 2) else zd h e j) (f1 : ∀ i, 0 ≤ i → i < n / 2 → zd h' (e + 5) (564 + O i) = 0) (f2 : ∀ s, (∀ i, 0 ≤ i → i < n / 2 → s ≠ 564 + O i) → zd h' (e + 5) s = zd h (e + 5) s) (f3 : ∀ k, 0 ≤ k → k < zd h e 25 → zd h' (e + 20) k = w32 (Int.tdiv (zd h (e + 20) k) 2)) (g : MforP q n O m m') : RMs e q h' m' := by
  have eR : 25 ≤ e ∧ e ≤ 58 := by rcases he with z | z <;> omega
  obtain ⟨gA, g1, g2, g3, g4, g5⟩ := g
  have o2 := os.2.1
  have o1 := os.1
  have ce : ∀ k, k ≠ 36 → k ≠ 37 → zd h' e k = zd h e k := fun k a b => by rw [fe k, if_neg b, if_neg a]
  have msz' : ∀ s, msz m' q s = msz m q s := fun s => msz_cg (gA.f (by decide)) (by rw [gA.f (b := 101) (by decide)]) (gA.f (by decide)) (gA.f (by decide))
  have mit' : ∀ s i, mit m' q s i = mit m q s i := fun s i => mit_cg (gA.f (by decide)) (by rw [gA.f (b := 101) (by decide)]) (gA.f (by decide)) (gA.f (by decide)) (gA.f (by decide)) (gA.f (by decide))
  have lv : ∀ s, mlive m' q s ↔ mlive m q s ∧ ∀ i, 0 ≤ i → i < n / 2 → s ≠ 2000 + O i := by
    intro s
    have a1 := r.1.2.1
    have a2 := r.1.2.2.1
    unfold mlive
    rw [gA.f (b := 138) (by decide), gA.f (b := 139) (by decide), gA.f (b := 101) (by decide), gA.f (b := 155) (by decide)]
    constructor
    · rintro (x | x | ⟨x, y, z⟩)
      · exact ⟨Or.inl x, fun i i0 i1 => by have := (o2 i i0 (by omega)).1; omega⟩
      · exact ⟨Or.inr (Or.inl x), fun i i0 i1 => by have := (o2 i i0 (by omega)).1; omega⟩
      · have ne : ∀ i, 0 ≤ i → i < n / 2 → s ≠ 2000 + O i := by
          intro i i0 i1 i2
          apply z
          rw [show 800 * q + s - 2000 = 800 * q + O i by omega]
          exact g1 i i0 i1
        rw [g2 _ (fun i i0 i1 => by have := ne i i0 i1; omega)] at z
        exact ⟨Or.inr (Or.inr ⟨x, y, z⟩), ne⟩
    · rintro ⟨x | x | ⟨x, y, z⟩, ne⟩
      · exact Or.inl x
      · exact Or.inr (Or.inl x)
      · refine Or.inr (Or.inr ⟨x, y, ?_⟩)
        rw [g2 _ (fun i i0 i1 => by have := ne i i0 i1; omega)]; exact z
  obtain ⟨r1, r2, r3, r4, r5, r6, r8, r9⟩ := r
  refine ⟨?_, r2.cg (fun k hk => fA.f (by simp only [List.mem_cons, List.not_mem_nil, or_false] at hk ⊢; omega)) (fun k hk => ce k (by simp only [List.mem_cons, List.not_mem_nil, or_false] at hk; omega) (by simp only [List.mem_cons, List.not_mem_nil, or_false] at hk; omega)) (fun k hk => gA.f (by simp only [List.mem_cons, List.not_mem_nil, or_false] at hk ⊢; omega)), ⟨fun s s0 s1 s2 => ?_, fun s l => ?_⟩, r4.cg (fun k hk => fA.f (by simp only [List.mem_cons, List.not_mem_nil, or_false] at hk ⊢; omega)) (fun k hk => ce k (by simp only [List.mem_cons, List.not_mem_nil, or_false] at hk; omega) (by simp only [List.mem_cons, List.not_mem_nil, or_false] at hk; omega)) (fun k hk => gA.f (by simp only [List.mem_cons, List.not_mem_nil, or_false] at hk ⊢; omega)), ?_, r6.cg (fun k hk => fA.f (by simp only [List.mem_cons, List.not_mem_nil, or_false] at hk ⊢; omega)) (fun k hk => ce k (by simp only [List.mem_cons, List.not_mem_nil, or_false] at hk; omega) (by simp only [List.mem_cons, List.not_mem_nil, or_false] at hk; omega)) (fun k hk => gA.f (by simp only [List.mem_cons, List.not_mem_nil, or_false] at hk ⊢; omega)), r8.cg (fun k hk => fA.f (by simp only [List.mem_cons, List.not_mem_nil, or_false] at hk ⊢; omega)) (fun k hk => ce k (by simp only [List.mem_cons, List.not_mem_nil, or_false] at hk; omega) (by simp only [List.mem_cons, List.not_mem_nil, or_false] at hk; omega)) (fun k hk => gA.f (by simp only [List.mem_cons, List.not_mem_nil, or_false] at hk ⊢; omega)), r9.cg (fun k hk => gA.d (by decide) k) (fun k hk => fA.d (by simp only [List.mem_cons, List.not_mem_nil, or_false]; omega) k)⟩
  · obtain ⟨v1, v2, v3, v4, v5⟩ := r1
    rw [ce 11 (by decide) (by decide)]
    unfold MRows MV
    rw [gA.f (b := 143) (by decide), gA.f (b := 138) (by decide), gA.f (b := 101) (by decide), gA.f (b := 155) (by decide)]
    refine ⟨v1, v2, v3, v4, fun s l => ?_⟩
    have o := v5 s ((lv s).mp l).1
    unfold MR at o ⊢
    rw [gA.f (b := 119) (by decide), gA.f (b := 123) (by decide), gA.f (b := 152) (by decide), gA.f (b := 101) (by decide), msz']
    exact ⟨o.1, fun i i0 i1 => by rw [mit']; exact o.2 i i0 i1⟩
  · have ne : ∀ i, 0 ≤ i → i < n / 2 → s ≠ 564 + O i := by
      intro i i0 i1 i2
      have := f1 i i0 i1
      rw [← i2] at this; omega
    rw [f2 s ne] at s2
    obtain ⟨l, m1, m2⟩ := r3.1 s s0 s1 s2
    refine ⟨(lv _).mpr ⟨l, fun i i0 i1 i2 => ?_⟩, ?_, ?_⟩
    · rw [← num_k (o2 i i0 (by omega)).1.1] at i2
      exact ne i i0 i1 (num_inj i2)
    · rw [fA.f (b := e + 2) (by simp only [List.mem_cons, List.not_mem_nil, or_false]; omega), msz']; exact m1
    · rw [fA.f (b := e + 2) (by simp only [List.mem_cons, List.not_mem_nil, or_false]; omega), fA.f (b := e + 7) (by simp only [List.mem_cons, List.not_mem_nil, or_false]; omega), fA.f (b := e + 1) (by simp only [List.mem_cons, List.not_mem_nil, or_false]; omega)]
      exact fun i i0 i1 => by rw [mit']; exact m2 i i0 i1
  · obtain ⟨l, ne⟩ := (lv s).mp l
    obtain ⟨t, t0, t1, t2, t3⟩ := r3.2 s l
    refine ⟨t, t0, t1, ?_, t3⟩
    rw [f2 t (fun i i0 i1 i2 => ne i i0 i1 (by rw [← t3, i2]; exact num_k (o2 i i0 (by omega)).1.1))]
    exact t2
  · obtain ⟨w1, w2, w3, w4, w5, w6, w7, w8, w9⟩ := r5
    unfold R5
    rw [ce 25 (by decide) (by decide), ce 26 (by decide) (by decide), ce 10 (by decide) (by decide), ce 11 (by decide) (by decide), gA.f (b := 154) (by decide), gA.f (b := 152) (by decide), gA.f (b := 155) (by decide), gA.f (b := 153) (by decide), fA.f (b := e + 1) (by simp only [List.mem_cons, List.not_mem_nil, or_false]; omega), fA.f (b := e + 2) (by simp only [List.mem_cons, List.not_mem_nil, or_false]; omega), fA.f (b := e + 7) (by simp only [List.mem_cons, List.not_mem_nil, or_false]; omega)]
    refine ⟨w1, w2, w3, w4, w5, w6, fun k k0 k1 => ?_, w8, ?_⟩
    · rw [f3 k k0 (by omega), g4 k k0 k1, w7 k k0 k1]
    · rw [fe 37, if_pos rfl, w9, rl]
      refine (drop_cnt os (fun i i0 i1 => ⟨?_, f1 i i0 i1⟩) f2).symm
      obtain ⟨b1, b2⟩ := o2 i i0 (by omega)
      rcases p.1.2.2.2.2.2.2 (564 + O i) (by omega) (by omega) with z | z
      · exact absurd z b2.1
      · exact z
