/-! learning: the uses, here against there -/
theorem S_use {e q c : Int} {h g m m' : zH} (he : zE e) (q0 : 0 ≤ q) (q1 : q ≤ 1) (r : RMs e q h m) (gl : GLr e q h m) (hc : zd m 101 106 = c) (gA : yA [e + 20] h g) (gu : ∀ k, zd g (e + 20) k = if zct (zd h (e + 30)) k 0 (zd h e 54).toNat = 0 then zd h (e + 20) k else w32 (zd h (e + 20) k + zct (zd h (e + 30)) k 0 (zd h e 54).toNat)) (u : UsP q c m m') : RMs e q g m' ∧ MFr q m m' ∧ ((∀ w, 0 ≤ w → w < 8 → zd m 160 w = 0) → ∀ w b, 0 ≤ w → w < 8 → b < 64 → hb (zd h (e + 29) w) b = hb (zd m' 160 w) b) := by
  have eR : 25 ≤ e ∧ e ≤ 58 := by rcases he with z | z <;> omega
  obtain ⟨uA, u1, u2, u3⟩ := u
  have ce : ∀ k, k ≠ 20 → zd g (e + k) = zd h (e + k) := fun k a => gA.f (by simp only [List.mem_cons, List.not_mem_nil, or_false]; omega)
  have c0 : zd g e = zd h e := gA.f (by simp only [List.mem_cons, List.not_mem_nil, or_false]; omega)
  refine ⟨?_, ?_, ?_⟩
  · obtain ⟨r1, r2, r3, r4, r5, r6, r8, r9⟩ := r
    have l8 := r1.2.2.2.1
    refine ⟨?_, r2.cg (fun k hk => gA.f (by simp only [List.mem_cons, List.not_mem_nil, or_false] at hk ⊢; omega)) (fun k hk => by rw [c0]) (fun k hk => uA.f (by simp only [List.mem_cons, List.not_mem_nil, or_false] at hk ⊢; omega)), r3.cg (fun k hk => gA.f (by simp only [List.mem_cons, List.not_mem_nil, or_false] at hk ⊢; omega)) (fun k hk => uA.f (by simp only [List.mem_cons, List.not_mem_nil, or_false] at hk ⊢; omega)) (fun k hk => by rw [uA.f (b := 101) (by decide)]), r4.cg (fun k hk => gA.f (by simp only [List.mem_cons, List.not_mem_nil, or_false] at hk ⊢; omega)) (fun k hk => by rw [c0]) (fun k hk => uA.f (by simp only [List.mem_cons, List.not_mem_nil, or_false] at hk ⊢; omega)), ?_, r6.cg (fun k hk => gA.f (by simp only [List.mem_cons, List.not_mem_nil, or_false] at hk ⊢; omega)) (fun k hk => by rw [c0]) (fun k hk => uA.f (by simp only [List.mem_cons, List.not_mem_nil, or_false] at hk ⊢; omega)), r8.cg (fun k hk => gA.f (by simp only [List.mem_cons, List.not_mem_nil, or_false] at hk ⊢; omega)) (fun k hk => by rw [c0]) (fun k hk => uA.f (by simp only [List.mem_cons, List.not_mem_nil, or_false] at hk ⊢; omega)), r9.cg (fun k hk => uA.d (by decide) k) (fun k hk => gA.d (by simp only [List.mem_cons, List.not_mem_nil, or_false]; omega) k)⟩
    · rw [c0]
      refine r1.cg ?_ (fun k hk => uA.f (by simp only [List.mem_cons, List.not_mem_nil, or_false] at hk ⊢; omega)) (fun k hk => by rw [uA.f (b := 101) (by decide)])
      unfold MV
      rw [uA.f (b := 143) (by decide)]; exact r1.1
    · obtain ⟨w1, w2, w3, w4, w5, w6, w7, w8, w9⟩ := r5
      unfold R5
      rw [c0, uA.f (b := 154) (by decide), uA.f (b := 152) (by decide), uA.f (b := 155) (by decide), uA.f (b := 153) (by decide), ce 1 (by decide), ce 2 (by decide), ce 7 (by decide), ce 5 (by decide)]
      refine ⟨w1, w2, w3, w4, w5, w6, fun k k0 k1 => ?_, w8, w9⟩
      rw [gu k, u2 k k0 (by omega), gl.2.2.1 k k0, hc, w7 k k0 k1]
  · refine ⟨⟨uA.1, uA.2.1, uA.2.2.1, fun b j hb => uA.d (by simp only [List.mem_cons, List.not_mem_nil, or_false]; omega) j⟩, fun b hb => uA.f (by simp only [List.mem_cons, List.not_mem_nil, or_false] at hb ⊢; omega), fun j _ => uA.d (by decide) j, fun _ => ⟨uA.d (by decide) _, uA.d (by decide) _, uA.d (by decide) _, uA.f (by decide), uA.f (by decide), uA.f (by decide), uA.f (by decide)⟩, fun b n' hb j hj => ?_⟩
    by_cases z : b = 157
    · simp only [List.mem_cons, List.not_mem_nil, or_false, Prod.mk.injEq] at hb
      have : n' = 800 := by omega
      subst z; subst this
      exact u1 j hj
    · exact uA.d (by simp only [List.mem_cons, List.not_mem_nil, or_false, Prod.mk.injEq] at hb ⊢; omega) j
  · intro z w b w0 w1 bb
    have a := gl.2.1 w b w0 w1 bb
    have d := u3 w b w0 w1 bb
    rw [z w w0 w1, hb_0] at d
    rw [hc] at a
    have : hb (zd h (e + 29) w) b = true ↔ hb (zd m' 160 w) b = true := by
      rw [a, d]
      exact ⟨fun x => Or.inr x, fun x => x.resolve_left (by decide)⟩
    exact Bool.eq_iff_iff.mpr this
