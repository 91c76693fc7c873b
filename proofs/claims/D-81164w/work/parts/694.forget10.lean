/-! forgetting: the frame there, and the counters -/
theorem Mfor.fr {q n K : Int} {m m' : zH} {O : Int → Int} {may : Int → Prop} {u : Int → Int} (q0 : 0 ≤ q) (q1 : q ≤ 1) (l1 : zd m 155 q ≤ 800) (k8 : K ≤ 800) (os : OS may u O n K) (g : MforP q n O m m') : MFr q m m' := by
  obtain ⟨gA, g1, g2, g3, g4, g5⟩ := g
  have o1 := os.1
  have o2 := os.2.1
  refine ⟨⟨gA.1, gA.2.1, gA.2.2.1, fun b j hb => gA.d (by simp only [List.mem_cons, List.not_mem_nil, or_false]; omega) j⟩, fun b hb => gA.f (by simp only [List.mem_cons, List.not_mem_nil, or_false] at hb ⊢; omega), fun j _ => gA.d (by decide) j, fun _ => ⟨gA.d (by decide) _, gA.d (by decide) _, gA.d (by decide) _, gA.f (by decide), gA.f (by decide), gA.f (by decide), gA.f (by decide)⟩, fun b n' hb j hj => ?_⟩
  by_cases c : b = 156 ∨ b = 157 ∨ b = 163
  · simp only [List.mem_cons, List.not_mem_nil, or_false, Prod.mk.injEq] at hb
    rcases c with c | c | c
    · have : n' = 800 := by omega
      subst c; subst this
      exact g2 j (fun i i0 i1 => by have := (o2 i i0 (by omega)).1; omega)
    · have : n' = 800 := by omega
      subst c; subst this
      exact g5 j (by omega)
    · have : n' = 10 := by omega
      subst c; subst this
      rw [g3 j, if_neg (by omega)]
  · exact gA.d (by simp only [List.mem_cons, List.not_mem_nil, or_false, Prod.mk.injEq] at hb ⊢; omega) j
theorem R7_for {e q n : Int} {h h' m m' : zH} {O : Int → Int} (r : R7 e q h m) (fe : ∀ j, zd h' e j = if j = 37 then zd h e 37 - n / 2 else if j = 36 then w32 (zd h e 36 + n / 2) else zd h e j) (g : MforP q n O m m') : R7 e q h' m' := by
  obtain ⟨gA, -, -, g3, -, -⟩ := g
  have ce : ∀ k, k ≠ 36 → k ≠ 37 → zd h' e k = zd h e k := fun k a b => by rw [fe k, if_neg b, if_neg a]
  have cm : ∀ k, k ≠ 6 → zd m' 163 (10 * q + k) = zd m 163 (10 * q + k) := fun k a => by rw [g3, if_neg (by omega)]
  unfold R7 at r ⊢
  rw [ce 31 (by decide) (by decide), ce 30 (by decide) (by decide), ce 32 (by decide) (by decide), ce 33 (by decide) (by decide), ce 34 (by decide) (by decide), ce 35 (by decide) (by decide), ce 38 (by decide) (by decide), ce 39 (by decide) (by decide), ce 40 (by decide) (by decide), cm 1 (by decide), cm 2 (by decide), cm 3 (by decide), cm 4 (by decide), cm 5 (by decide), cm 9 (by decide), gA.f (b := 101) (by decide), gA.f (b := 161) (by decide), gA.f (b := 162) (by decide), fe 36, if_neg (by decide), if_pos rfl, g3, if_pos rfl]
  obtain ⟨a1, a2, a3, a4, a5, a6, a7, a8, a9, a10⟩ := r
  exact ⟨a1, a2, a3, a4, a5, a6, by rw [a7], a8, a9, a10⟩
