/-! forgetting: the engine's own state goes along -/
theorem E_forinv {e top n : Int} {h h' : zH} {O : Int → Int} (he : zE e) (p : EInv e h top) (px : EX e h) (hs' : ES e h' top) (hc' : EC e h') (k8 : zd h e 25 ≤ 800) (os : OS (emay e h) (zd h (e + 20)) O n (zd h e 25)) (fA : yA [e, e + 5, e + 6, e + 20, e + 31] h h') (fe : ∀ j, zd h' e j = if j = 37 then zd h e 37 - n / 2 else if j = 36 then w32 (zd h e 36 + n / 2) else zd h e j) (f1 : ∀ i, 0 ≤ i → i < n / 2 → zd h' (e + 5) (564 + O i) = 0) (f2 : ∀ s, (∀ i, 0 ≤ i → i < n / 2 → s ≠ 564 + O i) → zd h' (e + 5) s = zd h (e + 5) s) : EInv e h' top ∧ EX e h' := by
  have eR : 25 ≤ e ∧ e ≤ 58 := by rcases he with z | z <;> omega
  have ce : ∀ k, k ≠ 36 → k ≠ 37 → zd h' e k = zd h e k := fun k a b => by rw [fe k, if_neg b, if_neg a]
  have ca : ∀ k, k ∈ ([1, 2, 7, 11, 12, 13, 17, 18] : List Int) → zd h' (e + k) = zd h (e + k) := fun k hk => fA.f (by simp only [List.mem_cons, List.not_mem_nil, or_false] at hk ⊢; omega)
  have o1 := os.1
  have o2 := os.2.1
  have ht : zt h' (e + 16) = zt h (e + 16) ∧ zl h' (e + 16) = zl h (e + 16) := ⟨fA.t _, fA.l _⟩
  have live : ∀ s, zd h' (e + 5) s = 1 → zd h (e + 5) s = 1 := by
    intro s s2
    rw [f2 s (fun i i0 i1 i2 => by have := f1 i i0 i1; rw [← i2] at this; omega)] at s2
    exact s2
  have pp := p
  obtain ⟨p1, p2, p3, p4, p5, p6, p7⟩ := p
  refine ⟨⟨hs', hc', ?_, ?_, ?_, ht.1.trans p6, ht.2.trans p7⟩, ?_⟩
  · unfold ET est at p3 ⊢
    rw [ce 20 (by decide) (by decide), ce 11 (by decide) (by decide), ca 17 (by decide), ca 11 (by decide)]; exact p3
  · unfold ELv ELg tn at p4 ⊢
    rw [ce 20 (by decide) (by decide), ce 21 (by decide) (by decide), ce 11 (by decide) (by decide), ca 17 (by decide), ca 11 (by decide), ca 12 (by decide), ca 18 (by decide)]; exact p4
  · intro i i0 i1
    rw [ce 20 (by decide) (by decide)] at i1
    have o := p5 i i0 i1
    have et : tn e h' i = tn e h i := by unfold tn; rw [ca 17 (by decide)]
    unfold EOi at o ⊢
    rw [et, ca 13 (by decide), ca 12 (by decide), ca 18 (by decide), ca 1 (by decide), ca 2 (by decide), ca 7 (by decide), ca 17 (by decide)]
    rcases o with o | ⟨⟨a1, a2, a3⟩, a4⟩
    · exact Or.inl o
    · refine Or.inr ⟨⟨a1, a2, ?_⟩, a4⟩
      rw [f2 _ (fun j j0 j1 j2 => ?_)]
      · exact a3
      · obtain ⟨b1, b2⟩ := o2 j j0 (by omega)
        refine b2.2.2 ((ersn_tr pp (by omega) (Or.inl ⟨by omega, by omega, by rw [← j2]; exact a3⟩)).mpr ⟨i, i0, i1, j2⟩)
  · intro L L0 L1 s s0 s1 s2
    rw [ce 21 (by decide) (by decide)] at L1
    have o := px L L0 L1 s s0 s1 (live s s2)
    unfold est at o ⊢
    rw [ca 1 (by decide), ca 2 (by decide), ca 7 (by decide), ca 11 (by decide), ca 12 (by decide)]; exact o
