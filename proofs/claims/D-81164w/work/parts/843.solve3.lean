/-! solve and goOn -/
theorem C_isIn {a b c : Int} {h : zH} {Q : Int → zH → Prop} (k1 : b ≤ a ∧ a ≤ c → Q 1 h) (k0 : ¬ (b ≤ a ∧ a ≤ c) → Q 0 h) : P_C_isIn a b c h Q := by
  unfold P_C_isIn
  rw [isin_v]
  by_cases x : b ≤ a ∧ a ≤ c
  · rw [if_pos x]; exact k1 x
  · rw [if_neg x]; exact k0 x
theorem M_in {a b c : Int} {h : zH} {Q : Int → zH → Prop} (k1 : b ≤ a ∧ a ≤ c → Q 1 h) (k0 : ¬ (b ≤ a ∧ a ≤ c) → Q 0 h) : P_M_in a b c h Q := by
  unfold P_M_in
  rw [min_v]
  by_cases x : b ≤ a ∧ a ≤ c
  · rw [if_pos x]; exact k1 x
  · rw [if_neg x]; exact k0 x
theorem M_steps {a : Int} {h : zH} {Q : Int → zH → Prop} (k1 : 1 ≤ a ∧ a ≤ 5000 → Q 1 h) (k0 : ¬ (1 ≤ a ∧ a ≤ 5000) → Q 0 h) : P_M_areSteps a h Q := by
  unfold P_M_areSteps
  exact M_in (fun x => ⟨Or.inr rfl, k1 x⟩) (fun x => ⟨Or.inl rfl, k0 x⟩)
/-- what is refused changes the status alone -/
theorem RR0_st {v : Int} {h m : zH} (R : RR0 h m) : RR0 (zw h 14 0 v) (zw m 101 0 v) := by
  obtain ⟨r0, r1, r2, r3, r4, r5, r6, r7, r8, r9, r10⟩ := R
  have c : ∀ b, b ≠ 14 → zd (zw h 14 0 v) b = zd h b := fun b n => zw_f n
  have f : ∀ j, j ≠ 0 → zd (zw h 14 0 v) 14 j = zd h 14 j := fun j n => zd_i n
  have d : ∀ b, b ≠ 101 → zd (zw m 101 0 v) b = zd m b := fun b n => zw_f n
  have g : ∀ j, j ≠ 0 → zd (zw m 101 0 v) 101 j = zd m 101 j := fun j n => zd_i n
  refine ⟨⟨by rw [zd_s, zd_s], by rw [f 20 (by decide), g 11 (by decide)]; exact r0.2⟩, r1, ?_, ?_, ?_, r5.cg (fun k hk => g k (by simp only [List.mem_cons, List.not_mem_nil, or_false] at hk; omega)) (fun k hk => f k (by simp only [List.mem_cons, List.not_mem_nil, or_false] at hk; omega)), ?_, ?_, ?_, ?_, ?_⟩
  · obtain ⟨n1, n2, n3, n4, n5, n6, n7, n8⟩ := r2
    unfold CaseE
    rw [f 2 (by decide), f 18 (by decide), c 23 (by decide), c 22 (by decide), c 15 (by decide)]
    refine ⟨n1, n2, n3, n4, n5, n6, fun n n0 n1' => ?_, n8⟩
    have := n7 n n0 n1'
    rw [c _ (by omega)]; exact this
  · obtain ⟨n1, n2, n3, n4, n5⟩ := r3
    have n7 := r2.2.2.2.2.2.2.1
    unfold CaseM
    rw [f 2 (by decide), f 18 (by decide), c 23 (by decide), c 22 (by decide), c 15 (by decide), g 1 (by decide), g 23 (by decide), d 119 (by decide), d 120 (by decide), d 102 (by decide)]
    refine ⟨n1, n2, n3, n4, fun n n0 n1' => ?_⟩
    have := n7 n n0 n1'
    rw [c _ (by omega)]; exact n5 n n0 n1'
  · unfold RA at r4 ⊢
    rw [f 25 (by decide), f 2 (by decide), c 93 (by decide), g 29 (by decide), d 122 (by decide)]; exact r4
  · unfold RBr at r6 ⊢
    rw [f 33 (by decide), f 2 (by decide), c 95 (by decide), c 94 (by decide), g 32 (by decide), g 66 (by decide), g 67 (by decide), d 123 (by decide), d 124 (by decide)]; exact r6
  · unfold RT at r7 ⊢
    rw [c 91 (by decide), c 92 (by decide), f 2 (by decide), d 142 (by decide), d 137 (by decide), d 136 (by decide), g 59 (by decide)]; exact r7
  · obtain ⟨a1, a2, a3, a4, a5⟩ := r8
    refine ⟨by rw [f 28 (by decide)]; exact a1, by rw [g 57 (by decide)]; exact a2, by rw [f 30 (by decide), f 3 (by decide)]; exact a3, by rw [f 28 (by decide), f 30 (by decide), f 3 (by decide), g 57 (by decide)]; exact a4, fun z => ?_⟩
    rw [g 57 (by decide)] at z
    obtain ⟨b1, b2, b3, b4, b5, b6, b7⟩ := a5 z
    refine ⟨b1.cgE (fun b b0 b1' => c b (by omega)) (fun _ => rfl) (fun _ => rfl), ?_, by rw [g 58 (by decide)]; exact b3, by rw [c 25 (by decide), f 2 (by decide)]; exact b4, by rw [c 91 (by decide), f 2 (by decide)]; exact b5, by rw [c 91 (by decide), g 59 (by decide)]; exact b6, by rw [d 142 (by decide)]; exact b7⟩
    have b2' : Rel 25 0 (zw h 14 0 v) m := b2.cgE (fun b b0 b1' => c b (by omega)) (fun k hk => f k (by simp only [List.mem_cons, List.not_mem_nil, or_false] at hk; omega))
    obtain ⟨R, C, l, rq⟩ := b2'
    exact ⟨R.cg (fun _ _ => rfl) (fun _ _ => rfl) (fun _ _ => rfl) (fun k hk => d k (by simp only [List.mem_cons, List.not_mem_nil, or_false] at hk; omega)) (fun k hk => g k (by simp only [List.mem_cons, List.not_mem_nil, or_false] at hk; omega)), C.cg (fun _ _ => rfl) (fun k hk => d k (by simp only [List.mem_cons, List.not_mem_nil, or_false] at hk; omega)) (fun k hk => g k (by simp only [List.mem_cons, List.not_mem_nil, or_false] at hk; omega)), by rw [d 155 (by decide)]; exact l, fun z => (rq z).cg rfl rfl (d 164 (by decide)) (g 91 (by decide))⟩
  · obtain ⟨⟨a1, a1'⟩, a2, a3, a4, a5, a6⟩ := r9
    have ce : ∀ b, 25 ≤ b → b < 58 → zd (zw h 14 0 v) b = zd h b := fun b b0 b1' => c b (by omega)
    refine ⟨⟨?_, by rw [c 43 (by decide)]; exact a1'⟩, by rw [c 25 (by decide), d 142 (by decide)]; exact a2, ?_, ?_, by rw [f 29 (by decide), g 58 (by decide)]; exact a5, fun z1 z2 => ?_⟩
    · unfold EP at a1 ⊢
      rw [c _ (by decide), c _ (by decide)]; exact a1
    · exact (a3.cgE ce).cg (fun _ _ => rfl) (fun _ _ => rfl) (fun k hk => d k (by simp only [List.mem_cons, List.not_mem_nil, or_false] at hk; omega)) (g 89 (by decide))
    · exact (a4.cgE ce).cg rfl rfl (d 164 (by decide)) (g 91 (by decide))
    · rw [c 25 (by decide)] at z1
      rw [f 29 (by decide)] at z2
      exact ((a6 z1 z2).cgE ce).cg (fun _ _ => rfl) (fun _ _ => rfl) (fun k hk => d k (by simp only [List.mem_cons, List.not_mem_nil, or_false] at hk; omega)) (fun k hk => g k (by simp only [List.mem_cons, List.not_mem_nil, or_false] at hk; omega))
  · unfold RD EP at r10 ⊢
    rw [c (58 + 6) (by decide), c (58 + 2) (by decide), c 76 (by decide)]; exact r10
