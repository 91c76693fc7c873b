/-! levels and reasons along the trail -/
def tn (e : Int) (h : zH) (i : Int) : Int := zab (zd h (e + 17) i)
def ELg (e : Int) (h : zH) : Prop := (0 ≤ zd h e 21 ∧ zd h e 21 ≤ 321) ∧ (∀ i, 0 ≤ i → i < zd h e 20 → 0 ≤ zd h (e + 12) (tn e h i) ∧ zd h (e + 12) (tn e h i) ≤ zd h e 21) ∧
  (∀ l, 1 ≤ l → l ≤ zd h e 21 → (l - 1 ≤ zd h (e + 18) l ∧ zd h (e + 18) l ≤ zd h e 20) ∧ ∀ i, 0 ≤ i → i < zd h e 20 → (zd h (e + 12) (tn e h i) < l ↔ i < zd h (e + 18) l)) ∧
  (∀ n, 1 ≤ n → n ≤ zd h e 11 → zd h (e + 11) n ≠ 0 → ∃ i, 0 ≤ i ∧ i < zd h e 20 ∧ tn e h i = n)
/-- every level has its own names -/
def ELv (e : Int) (h : zH) : Prop := ELg e h ∧ ∀ l, 1 ≤ l → l ≤ zd h e 21 → zd h (e + 18) l < zd h e 20 ∧ zd h (e + 12) (tn e h (zd h (e + 18) l)) = l
/-- why a name of the trail is what it is: decided, first of its level; or forced by a row whose other items were false before -/
def EOi (e : Int) (h : zH) (i : Int) : Prop := (zd h (e + 13) (tn e h i) = -1005 ∧ 1 ≤ zd h (e + 12) (tn e h i) ∧ zd h (e + 18) (zd h (e + 12) (tn e h i)) = i) ∨
  ((0 ≤ zd h (e + 13) (tn e h i) ∧ zd h (e + 13) (tn e h i) < 1364 ∧ zd h (e + 5) (zd h (e + 13) (tn e h i)) = 1) ∧ (1 ≤ zd h (e + 12) (tn e h i) → zd h (e + 18) (zd h (e + 12) (tn e h i)) ≠ i) ∧
    (∃ c, zd h (e + 1) (zd h (e + 13) (tn e h i)) ≤ c ∧ c < zd h (e + 1) (zd h (e + 13) (tn e h i)) + zd h (e + 2) (zd h (e + 13) (tn e h i)) ∧ zd h (e + 7) c = zd h (e + 17) i) ∧
    ∀ c, zd h (e + 1) (zd h (e + 13) (tn e h i)) ≤ c → c < zd h (e + 1) (zd h (e + 13) (tn e h i)) + zd h (e + 2) (zd h (e + 13) (tn e h i)) → zd h (e + 7) c ≠ zd h (e + 17) i → ∃ j, 0 ≤ j ∧ j < i ∧ zd h (e + 17) j = -(zd h (e + 7) c))
def EO (e : Int) (h : zH) : Prop := ∀ i, 0 ≤ i → i < zd h e 20 → EOi e h i
/-- set: the trail behind it -/
theorem set_tr {e x why top : Int} {h h' : zH} (p : EsetP e x why h h') (hs : ES e h top) (hT : ET e h) (hx : eit (zd h e 11) x) (ho : est e h x = 0) :
    (∀ i, 0 ≤ i → i < zd h e 20 → zd h' (e + 17) i = zd h (e + 17) i ∧ tn e h' i = tn e h i ∧ tn e h i ≠ zab x ∧ zd h' (e + 12) (tn e h i) = zd h (e + 12) (tn e h i) ∧ zd h' (e + 13) (tn e h i) = zd h (e + 13) (tn e h i)) ∧ zd h' (e + 17) (zd h e 20) = x ∧ tn e h' (zd h e 20) = zab x ∧ zd h' e 20 = zd h e 20 + 1 ∧ zd h' e 21 = zd h e 21 ∧ zd h' e 11 = zd h e 11 := by
  obtain ⟨pA, p11, p12, p13, p17, p0, -, -⟩ := p
  have vx : zd h (e + 11) (zab x) = 0 := by rw [est_ab e h hx] at ho; split at ho <;> omega
  refine ⟨fun i i0 i1 => ?_, by rw [p17, if_pos rfl], by unfold tn; rw [p17, if_pos rfl], by rw [p0, if_pos rfl], by rw [p0, if_neg (by decide)], by rw [p0, if_neg (by decide)]⟩
  have e17 : zd h' (e + 17) i = zd h (e + 17) i := by rw [p17, if_neg (by omega)]
  have ne : tn e h i ≠ zab x := by
    intro q
    obtain ⟨t1, t2⟩ := hT.2.1 i i0 i1
    rw [est_ab e h t1] at t2
    unfold tn at q
    rw [q, vx] at t2
    split at t2 <;> omega
  refine ⟨e17, by unfold tn; rw [e17], ne, by rw [p12, if_neg ne], by rw [p13, if_neg ne]⟩
theorem set_ET {e x why top : Int} {h h' : zH} (p : EsetP e x why h h') (hs : ES e h top) (hT : ET e h) (hx : eit (zd h e 11) x) (ho : est e h x = 0) (ht : zd h e 20 < 300) : ET e h' := by
  obtain ⟨t1, t2, t3, t4, t5, t6⟩ := set_tr p hs hT hx ho
  have T1 := hT.1
  refine ⟨by rw [t4]; omega, fun i i0 i1 => ?_, fun i j i0 i1 i2 => ?_⟩
  · rw [t4] at i1
    rw [t6]
    by_cases c : i = zd h e 20
    · rw [c, t2]
      refine ⟨hx, ?_⟩
      rw [est_ab e h' hx, p.2.1, if_pos rfl]; unfold zsg; split <;> omega
    · obtain ⟨a1, a2, a3, a4, a5⟩ := t1 i i0 (by omega)
      obtain ⟨b1, b2⟩ := hT.2.1 i i0 (by omega)
      rw [a1]
      refine ⟨b1, ?_⟩
      rw [est_ab e h' b1, p.2.1, if_neg (show ¬ zab (zd h (e + 17) i) = zab x from a3), ← est_ab e h b1]; exact b2
  · rw [t4] at i2
    obtain ⟨a1, a2, a3, a4, a5⟩ := t1 i i0 (by omega)
    by_cases c : j = zd h e 20
    · rw [c, t2, a1]; exact a3
    · rw [a1, (t1 j (by omega) (by omega)).1]; exact hT.2.2 i j i0 i1 (by omega)
theorem set_EL {e x why top : Int} {h h' : zH} (p : EsetP e x why h h') (hs : ES e h top) (hT : ET e h) (hx : eit (zd h e 11) x) (ho : est e h x = 0) (hL : ELg e h) (hX : ∀ l, 1 ≤ l → l ≤ zd h e 21 → (zd h (e + 18) l < zd h e 20 ∧ zd h (e + 12) (tn e h (zd h (e + 18) l)) = l) ∨ (l = zd h e 21 ∧ zd h (e + 18) l = zd h e 20)) : ELv e h' := by
  obtain ⟨t1, t2, t3, t4, t5, t6⟩ := set_tr p hs hT hx ho
  obtain ⟨L1, L2, L3, L4⟩ := hL
  have e18 : zd h' (e + 18) = zd h (e + 18) := p.1.f (by simp only [List.mem_cons, List.not_mem_nil, or_false]; omega)
  refine ⟨⟨by rw [t5]; exact L1, fun i i0 i1 => ?_, fun l l0 l1 => ?_, fun n n0 n1 n2 => ?_⟩, fun l l0 l1 => ?_⟩
  · rw [t4] at i1
    rw [t5]
    by_cases c : i = zd h e 20
    · rw [c, t3, p.2.2.1, if_pos rfl]; omega
    · obtain ⟨a1, a2, a3, a4, a5⟩ := t1 i i0 (by omega)
      rw [a2, a4]; exact L2 i i0 (by omega)
  · rw [t5] at l1
    obtain ⟨b1, b2⟩ := L3 l l0 l1
    rw [e18, t4]
    refine ⟨by omega, fun i i0 i1 => ?_⟩
    by_cases c : i = zd h e 20
    · rw [c, t3, p.2.2.1, if_pos rfl]; omega
    · obtain ⟨a1, a2, a3, a4, a5⟩ := t1 i i0 (by omega)
      rw [a2, a4]; exact b2 i i0 (by omega)
  · rw [t6] at n1
    rw [p.2.1] at n2
    rw [t4]
    by_cases c : n = zab x
    · exact ⟨zd h e 20, hT.1.1, by omega, by rw [t3, c]⟩
    · rw [if_neg c] at n2
      obtain ⟨i, i0, i1, i2⟩ := L4 n n0 n1 n2
      exact ⟨i, i0, by omega, by rw [(t1 i i0 i1).2.1]; exact i2⟩
  · rw [t5] at l1
    have b := (L3 l l0 l1).1
    rw [e18, t4]
    refine ⟨by omega, ?_⟩
    rcases hX l l0 l1 with ⟨c1, c2⟩ | ⟨c1, c2⟩
    · obtain ⟨a1, a2, a3, a4, a5⟩ := t1 (zd h (e + 18) l) (by omega) c1
      rw [a2, a4]; exact c2
    · rw [c2, t3, p.2.2.1, if_pos rfl]; exact c1.symm
theorem set_EO {e x why top : Int} {h h' : zH} (p : EsetP e x why h h') (hs : ES e h top) (hT : ET e h) (hx : eit (zd h e 11) x) (ho : est e h x = 0) (hO : EO e h)
    (hw : (why = -1005 ∧ 1 ≤ zd h e 21 ∧ zd h (e + 18) (zd h e 21) = zd h e 20) ∨ ((0 ≤ why ∧ why < 1364 ∧ zd h (e + 5) why = 1) ∧ (1 ≤ zd h e 21 → zd h (e + 18) (zd h e 21) < zd h e 20) ∧ (∃ c, zd h (e + 1) why ≤ c ∧ c < zd h (e + 1) why + zd h (e + 2) why ∧ zd h (e + 7) c = x) ∧ ∀ c, zd h (e + 1) why ≤ c → c < zd h (e + 1) why + zd h (e + 2) why → zd h (e + 7) c ≠ x → ∃ j, 0 ≤ j ∧ j < zd h e 20 ∧ zd h (e + 17) j = -(zd h (e + 7) c))) : EO e h' := by
  obtain ⟨t1, t2, t3, t4, t5, t6⟩ := set_tr p hs hT hx ho
  have e18 : zd h' (e + 18) = zd h (e + 18) := p.1.f (by simp only [List.mem_cons, List.not_mem_nil, or_false]; omega)
  have e5 : zd h' (e + 5) = zd h (e + 5) := p.1.f (by simp only [List.mem_cons, List.not_mem_nil, or_false]; omega)
  have e1 : zd h' (e + 1) = zd h (e + 1) := p.1.f (by simp only [List.mem_cons, List.not_mem_nil, or_false]; omega)
  have e2 : zd h' (e + 2) = zd h (e + 2) := p.1.f (by simp only [List.mem_cons, List.not_mem_nil, or_false]; omega)
  have e7 : zd h' (e + 7) = zd h (e + 7) := p.1.f (by simp only [List.mem_cons, List.not_mem_nil, or_false]; omega)
  intro i i0 i1
  rw [t4] at i1
  unfold EOi
  rw [e18, e5, e1, e2, e7]
  by_cases c : i = zd h e 20
  · rw [c, t2, t3, p.2.2.1, p.2.2.2.1, if_pos rfl, if_pos rfl]
    rcases hw with hw | ⟨w1, w2, w3, w4⟩
    · exact Or.inl hw
    · refine Or.inr ⟨w1, fun q => by have := w2 q; omega, w3, fun c' k0 k1 k2 => ?_⟩
      obtain ⟨j, j0, j1, j2⟩ := w4 c' k0 k1 k2
      exact ⟨j, j0, j1, by rw [(t1 j j0 j1).1]; exact j2⟩
  · obtain ⟨a1, a2, a3, a4, a5⟩ := t1 i i0 (by omega)
    have o := hO i i0 (by omega)
    unfold EOi at o
    rw [a1, a2, a4, a5]
    rcases o with o | ⟨w1, w2, w3, w4⟩
    · exact Or.inl o
    · refine Or.inr ⟨w1, w2, w3, fun c' k0 k1 k2 => ?_⟩
      obtain ⟨j, j0, j1, j2⟩ := w4 c' k0 k1 k2
      exact ⟨j, j0, j1, by rw [(t1 j j0 (by omega)).1]; exact j2⟩
/-- back: the trail behind it -/
theorem back_tr {e E to top : Int} {h h' : zH} (p : EbackP e E to h h') (hs : ES e h top) (hT : ET e h) (hE0 : 0 ≤ E) (hE1 : E ≤ zd h e 20) :
    (∀ i, 0 ≤ i → i < E → zd h' (e + 17) i = zd h (e + 17) i ∧ tn e h' i = tn e h i ∧ zd h' (e + 11) (tn e h i) = zd h (e + 11) (tn e h i) ∧ zd h' (e + 12) = zd h (e + 12) ∧ zd h' (e + 13) = zd h (e + 13)) ∧ zd h' e 20 = E ∧ zd h' e 21 = to ∧ zd h' e 11 = zd h e 11 := by
  obtain ⟨pA, p0, p1, p2⟩ := p
  refine ⟨fun i i0 i1 => ?_, by rw [p0, if_pos rfl], by rw [p0, if_neg (by decide), if_pos rfl], by rw [p0, if_neg (by decide), if_neg (by decide)]⟩
  have e17 : zd h' (e + 17) = zd h (e + 17) := pA.f (by simp only [List.mem_cons, List.not_mem_nil, or_false]; omega)
  refine ⟨by rw [e17], by unfold tn; rw [e17], ?_, pA.f (by simp only [List.mem_cons, List.not_mem_nil, or_false]; omega), pA.f (by simp only [List.mem_cons, List.not_mem_nil, or_false]; omega)⟩
  refine (p2 (tn e h i) (fun j j0 j1 q => ?_)).1
  exact hT.2.2 i j i0 (by omega) j1 q.symm
theorem back_EL {e E to top : Int} {h h' : zH} (p : EbackP e E to h h') (hs : ES e h top) (hT : ET e h) (hL : ELg e h) (hto0 : 0 ≤ to) (hto1 : to ≤ zd h e 21) (hE : E = if zd h e 21 ≤ to then zd h e 20 else zd h (e + 18) (to + 1)) : ELg e h' ∧ ((∀ l, 1 ≤ l → l ≤ zd h e 21 → zd h (e + 18) l < zd h e 20 ∧ zd h (e + 12) (tn e h (zd h (e + 18) l)) = l) → ELv e h') ∧ (0 ≤ E ∧ E ≤ zd h e 20) ∧ ∀ i, 0 ≤ i → i < zd h e 20 → (to < zd h (e + 12) (tn e h i) ↔ E ≤ i) := by
  obtain ⟨L1, L2, L3, L4⟩ := hL
  have T1 := hT.1
  have hE' : (0 ≤ E ∧ E ≤ zd h e 20) ∧ ∀ i, 0 ≤ i → i < zd h e 20 → (to < zd h (e + 12) (tn e h i) ↔ E ≤ i) := by
    by_cases c : zd h e 21 ≤ to
    · rw [if_pos c] at hE
      refine ⟨by omega, fun i i0 i1 => ?_⟩
      have := L2 i i0 i1; omega
    · rw [if_neg c] at hE
      obtain ⟨a, b⟩ := L3 (to + 1) (by omega) (by omega)
      refine ⟨by omega, fun i i0 i1 => ?_⟩
      have := b i i0 i1; omega
  obtain ⟨t1, t2, t3, t4⟩ := back_tr p hs hT hE'.1.1 hE'.1.2
  have e18 : zd h' (e + 18) = zd h (e + 18) := p.1.f (by simp only [List.mem_cons, List.not_mem_nil, or_false]; omega)
  have lt : ∀ l, 1 ≤ l → l ≤ to → zd h (e + 18) l ≤ E := by
    intro l l0 l1
    by_cases c : zd h e 21 ≤ to
    · rw [if_pos c] at hE; have := (L3 l l0 (by omega)).1; omega
    · rw [if_neg c] at hE
      obtain ⟨a, b⟩ := L3 l l0 (by omega)
      by_cases d : E < zd h (e + 18) l
      · have := (b E hE'.1.1 (by omega)).mpr d
        have h2 := (hE'.2 E hE'.1.1 (by omega)).mpr (by omega)
        omega
      · omega
  have g : ELg e h' := by
    refine ⟨by rw [t3]; omega, fun i i0 i1 => ?_, fun l l0 l1 => ?_, fun n n0 n1 n2 => ?_⟩
    · rw [t2] at i1
      obtain ⟨a1, a2, a3, a4, a5⟩ := t1 i i0 i1
      have := hE'.2 i i0 (by omega)
      have := L2 i i0 (by omega)
      rw [a2, a4, t3]; omega
    · rw [t3] at l1
      obtain ⟨a, b⟩ := L3 l l0 (by omega)
      rw [e18, t2]
      refine ⟨⟨a.1, lt l l0 l1⟩, fun i i0 i1 => ?_⟩
      obtain ⟨a1, a2, a3, a4, a5⟩ := t1 i i0 i1
      rw [a2, a4]; exact b i i0 (by omega)
    · rw [t4] at n1
      by_cases c : ∃ i, E ≤ i ∧ i < zd h e 20 ∧ tn e h i = n
      · obtain ⟨i, i0, i1, i2⟩ := c
        have := (p.2.2.1 i i0 i1).1
        unfold tn at i2
        rw [i2] at this; exact absurd this n2
      · have := (p.2.2.2 n (fun i i0 i1 q => c ⟨i, i0, i1, q⟩)).1
        rw [this] at n2
        obtain ⟨i, i0, i1, i2⟩ := L4 n n0 n1 n2
        have iE : i < E := by
          rcases Int.lt_or_le i E with d | d
          · exact d
          · exact absurd ⟨i, d, i1, i2⟩ c
        rw [t2]
        exact ⟨i, i0, iE, by rw [(t1 i i0 iE).2.1]; exact i2⟩
  refine ⟨g, fun st => ⟨g, fun l l0 l1 => ?_⟩, hE'⟩
  rw [t3] at l1
  rw [e18, t2]
  obtain ⟨s1, s2⟩ := st l l0 (by omega)
  obtain ⟨a, b⟩ := L3 l l0 (by omega)
  have k := hE'.2 (zd h (e + 18) l) (by omega) s1
  have lE : zd h (e + 18) l < E := by rw [s2] at k; omega
  obtain ⟨a1, a2, a3, a4, a5⟩ := t1 (zd h (e + 18) l) (by omega) lE
  exact ⟨lE, by rw [a2, a4]; exact s2⟩
theorem back_EO {e E to top : Int} {h h' : zH} (p : EbackP e E to h h') (hs : ES e h top) (hT : ET e h) (hE0 : 0 ≤ E) (hE1 : E ≤ zd h e 20) (hO : EO e h) : EO e h' := by
  obtain ⟨t1, t2, t3, t4⟩ := back_tr p hs hT hE0 hE1
  intro i i0 i1
  rw [t2] at i1
  obtain ⟨a1, a2, a3, a4, a5⟩ := t1 i i0 i1
  have o := hO i i0 (by omega)
  unfold EOi at o ⊢
  rw [a2, a4, a5, p.1.f (b := e + 18) (by simp only [List.mem_cons, List.not_mem_nil, or_false]; omega), p.1.f (b := e + 5) (by simp only [List.mem_cons, List.not_mem_nil, or_false]; omega), p.1.f (b := e + 1) (by simp only [List.mem_cons, List.not_mem_nil, or_false]; omega), p.1.f (b := e + 2) (by simp only [List.mem_cons, List.not_mem_nil, or_false]; omega), p.1.f (b := e + 7) (by simp only [List.mem_cons, List.not_mem_nil, or_false]; omega), p.1.f (b := e + 17) (by simp only [List.mem_cons, List.not_mem_nil, or_false]; omega)]
  exact o
