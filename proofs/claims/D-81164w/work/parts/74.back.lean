/-! going back, here against there -/
theorem zsg_st {e : Int} {h : zH} {x : Int} (hx : eit (zd h e 11) x) (t : est e h x = 1) : zd h (e + 11) (zab x) = zsg x := by
  rw [est_ab e h hx] at t
  unfold zsg
  split at t <;> split <;> omega
theorem E_backinv {e E to top : Int} {h h' : zH} (p : EbackP e E to h h') (I : EInv e h top) (X : EX e h) (hs' : ES e h' top) (hc' : EC e h') (hT' : ET e h') (to0 : 0 ≤ to) (to1 : to ≤ zd h e 21) (hE : E = if zd h e 21 ≤ to then zd h e 20 else zd h (e + 18) (to + 1)) : EInv e h' top ∧ EX e h' := by
  obtain ⟨hs, hc, hT, hL, hO, t16, l16⟩ := I
  obtain ⟨b1, b2, b3, b4⟩ := back_EL p hs hT hL.1 to0 to1 hE
  obtain ⟨t1, t2, t3, t4⟩ := back_tr p hs hT b3.1 b3.2
  refine ⟨⟨hs', hc', hT', b2 hL.2, back_EO p hs hT b3.1 b3.2 hO, by rw [p.1.t]; exact t16, by rw [p.1.l]; exact l16⟩, ?_⟩
  have e12 : zd h' (e + 12) = zd h (e + 12) := p.1.f (by simp only [List.mem_cons, List.not_mem_nil, or_false]; omega)
  intro L L0 L1 s s0 s1 ht
  rw [t3] at L1
  rw [p.1.f (b := e + 5) (by simp only [List.mem_cons, List.not_mem_nil, or_false]; omega)] at ht
  rw [p.1.f (b := e + 1) (by simp only [List.mem_cons, List.not_mem_nil, or_false]; omega), p.1.f (b := e + 2) (by simp only [List.mem_cons, List.not_mem_nil, or_false]; omega), p.1.f (b := e + 7) (by simp only [List.mem_cons, List.not_mem_nil, or_false]; omega), e12]
  obtain ⟨-, ⟨f0, z0, f1⟩, -⟩ := hs.2.2.2.2.2.1 s (Or.inl ⟨s0, s1, ht⟩)
  have it : ∀ c, zd h (e + 1) s ≤ c → c < zd h (e + 1) s + zd h (e + 2) s → eit (zd h e 11) (zd h (e + 7) c) := fun c k0 k1 => (hs.2.2.2.2.1 c (by omega) (by omega)).1
  have op : ∀ x, eit (zd h e 11) x → est e h x = 0 → est e h' x = 0 := by
    intro x hx ho
    rw [est_ab e h hx] at ho
    rw [est_ab e h' hx]
    by_cases d : ∃ i, E ≤ i ∧ i < zd h e 20 ∧ zab (zd h (e + 17) i) = zab x
    · obtain ⟨i, i0, i1, i2⟩ := d
      have := (p.2.2.1 i i0 i1).1
      rw [i2] at this
      rw [this]; split <;> rfl
    · rw [(p.2.2.2 (zab x) (fun i i0 i1 i2 => d ⟨i, i0, i1, i2⟩)).1]; exact ho
  rcases X L L0 (by omega) s s0 s1 ht with ⟨c, k0, k1, k2, k3⟩ | ⟨c, c', k0, k1, k2, k3, k4⟩
  · refine Or.inl ⟨c, k0, k1, ?_, k3⟩
    have ic := it c k0 k1
    have zr := zab_r ic
    have vn : zd h (e + 11) (zab (zd h (e + 7) c)) ≠ 0 := by rw [est_ab e h ic] at k2; split at k2 <;> omega
    obtain ⟨i, i0, i1, i2⟩ := hL.1.2.2.2 _ zr.1 zr.2 vn
    have iE : i < E := by
      have := b4 i i0 i1
      rw [i2] at this
      omega
    have a := (t1 i i0 iE).2.2.1
    rw [i2] at a
    rw [est_ab e h' ic, a, ← est_ab e h ic]; exact k2
  · exact Or.inr ⟨c, c', k0, k1, k2, k3.imp (op _ (it c k0 (by omega))) id, k4.imp (op _ (it c' (by omega) k2)) id⟩
theorem E_back {e to top : Int} {h : zH} {Q : Int → zH → Prop} (I : EInv e h top) (X : EX e h) (to0 : 0 ≤ to) (to1 : to ≤ zd h e 21) (to2 : to < 321) (k : ∀ h', EbackP e (if zd h e 21 ≤ to then zd h e 20 else zd h (e + 18) (to + 1)) to h h' → EInv e h' top → EX e h' → Q 0 h') : P_E_back e to h Q := by
  have I0 := I
  obtain ⟨hs, hc, hT, hL, hO, t16, l16⟩ := I0
  have n1 := hL.1.1
  have hE : 0 ≤ (if zd h e 21 ≤ to then zd h e 20 else zd h (e + 18) (to + 1)) ∧ (if zd h e 21 ≤ to then zd h e 20 else zd h (e + 18) (to + 1)) ≤ zd h e 20 := by
    have T1 := hT.1
    by_cases c : zd h e 21 ≤ to
    · rw [if_pos c]; omega
    · rw [if_neg c]
      have := (hL.1.2.2.1 (to + 1) (by omega) (by omega)).1
      omega
  refine L_back hs hc hT (by omega) to2 n1.2 rfl hE.1 hE.2 (fun h' p a b c => ?_)
  rw [show zmin (zd h e 21) to = to by unfold zmin; split <;> omega] at p
  obtain ⟨x, y⟩ := E_backinv p I X a b c to0 to1 rfl
  exact k h' p x y
/-- there, and the relation behind it -/
theorem Mback.fr {q E to A : Int} {m m' : zH} (q0 : 0 ≤ q) (q1 : q ≤ 1) (hA : A ≤ 300) (hE0 : 0 ≤ E) (hit : ∀ i, 0 ≤ i → i < zd m 150 q → eit A (zd m 149 (300 * q + i))) (p : MbackP q E to m m') : MFr q m m' := by
  obtain ⟨mA, m1, m2, m3, m4⟩ := p
  refine ⟨⟨mA.1, mA.2.1, mA.2.2.1, fun b j hb => mA.d (by simp only [List.mem_cons, List.not_mem_nil, or_false]; omega) j⟩, fun b hb => mA.f (by simp only [List.mem_cons, List.not_mem_nil, or_false] at hb ⊢; omega), fun j _ => mA.d (by decide) j, fun _ => ⟨mA.d (by decide) _, mA.d (by decide) _, mA.d (by decide) _, mA.f (by decide), mA.f (by decide), mA.f (by decide), mA.f (by decide)⟩, fun b n hb j hj => ?_⟩
  have o : ∀ j, j < 301 * q ∨ 301 * q + 301 ≤ j → zd m' 143 j = zd m 143 j ∧ zd m' 146 j = zd m 146 j := by
    intro j hj
    refine m4 j (fun i i0 i1 i2 => ?_)
    have := zab_r (hit i (by omega) i1)
    omega
  by_cases c : b = 143 ∨ b = 146 ∨ b = 150 ∨ b = 151
  · simp only [List.mem_cons, List.not_mem_nil, or_false, Prod.mk.injEq] at hb
    rcases c with c | c | c | c
    · have : n = 301 := by omega
      subst c; subst this
      exact (o j hj).1
    · have : n = 301 := by omega
      subst c; subst this
      exact (o j hj).2
    · have : n = 1 := by omega
      subst c; subst this
      rw [m1, if_neg (by omega)]
    · have : n = 1 := by omega
      subst c; subst this
      rw [m2, if_neg (by omega)]
  · exact mA.d (by simp only [List.mem_cons, List.not_mem_nil, or_false, Prod.mk.injEq] at hb ⊢; omega) j
theorem RMs_back {e q E to top : Int} {h h' m m' : zH} (he : zE e) (q0 : 0 ≤ q) (q1 : q ≤ 1) (I : EInv e h top) (p : EbackP e E to h h') (E0 : 0 ≤ E) (E1 : E ≤ zd h e 20) (hs' : ES e h' top) (r : RMs e q h m) (pm : MbackP q E to m m') : RMs e q h' m' := by
  have eR : 25 ≤ e ∧ e ≤ 58 := by rcases he with z | z <;> omega
  obtain ⟨hs, hc, hT, hL, hO, t16, l16⟩ := I
  obtain ⟨r1, r2, r3, r4, r5, r6, r8, r9⟩ := r
  obtain ⟨pA, p0, p1, p2⟩ := p
  obtain ⟨mA, m1, m2, m3, m4⟩ := pm
  have ca : ∀ k, k ∈ ([1, 2, 5, 7, 12, 13, 15, 16, 17, 19, 20, 21] : List Int) → zd h' (e + k) = zd h (e + k) := fun k hk => pA.f (by simp only [List.mem_cons, List.not_mem_nil, or_false] at hk ⊢; omega)
  have cf : ∀ k, k ∈ ([10, 11, 22, 25, 26, 28, 34, 37] : List Int) → zd h' e k = zd h e k := fun k hk => by rw [p0, if_neg (by simp only [List.mem_cons, List.not_mem_nil, or_false] at hk; omega), if_neg (by simp only [List.mem_cons, List.not_mem_nil, or_false] at hk; omega)]
  have cb : ∀ k, k ∈ ([119, 120, 123, 124, 137, 138, 139, 140, 141, 144, 145, 147, 148, 149, 152, 153, 154, 155, 156, 157, 158, 159] : List Int) → zd m' k = zd m k := fun k hk => mA.f (by simp only [List.mem_cons, List.not_mem_nil, or_false] at hk ⊢; omega)
  have cc : ∀ k, zd m' 101 k = zd m 101 k := fun k => mA.d (by decide) k
  have cg : ∀ k, zd h' 14 k = zd h 14 k := fun k => pA.d (by simp only [List.mem_cons, List.not_mem_nil, or_false]; omega) k
  have T1 := hT.1
  obtain ⟨v1, v2, v3, v4, v5, v6⟩ := r2
  have dich : ∀ n, 1 ≤ n → n ≤ zd h e 11 → (∃ i, 0 ≤ i ∧ i < zd h e 20 ∧ zab (zd h (e + 17) i) = n ∧ zd h' (e + 11) n = 0 ∧ zd h' (e + 14) n = (if zd h (e + 17) i ≤ 0 then 0 else 1) ∧ zd m' 143 (301 * q + n) = 2 ∧ zd m' 146 (301 * q + n) = zd m 143 (301 * q + n)) ∨ (zd h' (e + 11) n = zd h (e + 11) n ∧ zd h' (e + 14) n = zd h (e + 14) n ∧ zd m' 143 (301 * q + n) = zd m 143 (301 * q + n) ∧ zd m' 146 (301 * q + n) = zd m 146 (301 * q + n)) := by
    intro n n0 n1
    by_cases d : ∃ i, E ≤ i ∧ i < zd h e 20 ∧ zab (zd h (e + 17) i) = n
    · obtain ⟨i, i0, i1, i2⟩ := d
      have a := p1 i i0 i1
      have b := m3 i i0 (by rw [← v3]; exact i1)
      rw [← v4 i (by omega) i1] at b
      rw [i2] at a b
      exact Or.inl ⟨i, by omega, i1, i2, a.1, a.2, b.1, b.2⟩
    · have a := p2 n (fun i i0 i1 i2 => d ⟨i, i0, i1, i2⟩)
      have b := m4 (301 * q + n) (fun i i0 i1 i2 => d ⟨i, i0, by omega, by rw [v4 i (by omega) (by omega)]; omega⟩)
      exact Or.inr ⟨a.1, a.2, b.1, b.2⟩
  have R2' : R2 e q h' m' := by
    unfold R2
    rw [cf 11 (by decide), p0 20, if_pos rfl, p0 21, if_neg (by decide), if_pos rfl, m1 q, if_pos rfl, m2 q, if_pos rfl, ca 12 (by decide), ca 13 (by decide), ca 17 (by decide), cb 144 (by decide), cb 145 (by decide), cb 149 (by decide), cb 137 (by decide)]
    refine ⟨fun n n0 n1 => ?_, fun n n0 n1 n2 => ?_, rfl, fun i i0 i1 => v4 i i0 (by omega), rfl, v6⟩
    · rcases dich n n0 n1 with ⟨i, i0, i1, i2, a, b, c, d⟩ | ⟨a, b, c, d⟩
      · rw [a, c]; exact Or.inl ⟨rfl, rfl⟩
      · rw [a, c]; exact v1 n n0 n1
    · rcases dich n n0 n1 with ⟨i, i0, i1, i2, a, b, c, d⟩ | ⟨a, b, c, d⟩
      · exact absurd a n2
      · rw [a] at n2; exact v2 n n0 n1 n2
  have R4' : R4 e q h' m' := by
    unfold R4 at r4 ⊢
    rw [cf 11 (by decide), cf 22 (by decide), ca 15 (by decide), cb 147 (by decide), cb 148 (by decide)]
    refine ⟨fun n n0 n1 => ⟨?_, (r4.1 n n0 n1).2⟩, ?_, r4.2.2⟩
    · rcases dich n n0 n1 with ⟨i, i0, i1, i2, a, b, c, d⟩ | ⟨a, b, c, d⟩
      · rw [b, d]
        obtain ⟨t1, t2⟩ := hT.2.1 i i0 i1
        have zs := zsg_st t1 t2
        rw [i2] at zs
        have vv := v1 n n0 n1
        rw [zs] at vv
        unfold eit at t1
        unfold vrel zsg at vv
        by_cases w : zd h (e + 17) i ≤ 0
        · rw [if_neg (by omega)] at vv; rw [if_pos w]; omega
        · rw [if_pos (by omega)] at vv; rw [if_neg w]; omega
      · rw [b, d]; exact (r4.1 n n0 n1).1
    · rw [(m4 (301 * q) (fun i i0 i1 i2 => ?_)).2]
      · exact r4.2.1
      · have := zab_r (hT.2.1 i (by omega) (by omega)).1
        rw [v4 i (by omega) (by omega)] at this
        omega
  have R6' : R6 e q h' m' := by
    unfold R6
    rw [cf 11 (by decide), cf 25 (by decide), ca 12 (by decide), ca 16 (by decide), ca 19 (by decide), cb 158 (by decide), cb 159 (by decide)]
    refine ⟨fun n n0 n1 n2 n3 => ?_, r6.2⟩
    rcases dich n n0 n1 with ⟨i, i0, i1, i2, a, b, c, d⟩ | ⟨a, b, c, d⟩
    · exact absurd a n2
    · rw [a] at n2; exact r6.1 n n0 n1 n2 n3
  refine ⟨?_, R2', r3.cg (fun k hk => ca k (by simp only [List.mem_cons, List.not_mem_nil, or_false] at hk ⊢; omega)) (fun k hk => cb k (by simp only [List.mem_cons, List.not_mem_nil, or_false] at hk ⊢; omega)) (fun k _ => cc k), R4', r5.cg (fun k hk => ca k (by simp only [List.mem_cons, List.not_mem_nil, or_false] at hk ⊢; omega)) (fun k hk => cf k (by simp only [List.mem_cons, List.not_mem_nil, or_false] at hk ⊢; omega)) (fun k hk => cb k (by simp only [List.mem_cons, List.not_mem_nil, or_false] at hk ⊢; omega)), R6', r8.cg (fun k hk => ca k (by simp only [List.mem_cons, List.not_mem_nil, or_false] at hk ⊢; omega)) (fun k hk => cf k (by simp only [List.mem_cons, List.not_mem_nil, or_false] at hk ⊢; omega)) (fun k hk => cb k (by simp only [List.mem_cons, List.not_mem_nil, or_false] at hk ⊢; omega)), r9.cg (fun k _ => cc k) (fun k _ => cg k)⟩
  have mv := R2'.MV hs'
  rw [cf 11 (by decide)] at mv ⊢
  exact r1.cg mv (fun k hk => cb k (by simp only [List.mem_cons, List.not_mem_nil, or_false] at hk ⊢; omega)) (fun k _ => cc k)
theorem S_back {e q to top : Int} {h h' m : zH} {Q : Int → zH → Prop} (he : zE e) (q0 : 0 ≤ q) (q1 : q ≤ 1) (I : EInv e h top) (to0 : 0 ≤ to) (to1 : to ≤ zd h e 21) (p : EbackP e (if zd h e 21 ≤ to then zd h e 20 else zd h (e + 18) (to + 1)) to h h') (hs' : ES e h' top) (r : RMs e q h m) (k : ∀ m', MbackP q (if zd h e 21 ≤ to then zd h e 20 else zd h (e + 18) (to + 1)) to m m' → RMs e q h' m' → MFr q m m' → (R7 e q h m → R7 e q h' m') → Q 0 m') : P_M_goBack q to m Q := by
  obtain ⟨hs, hc, hT, hL, hO, t16, l16⟩ := id I
  obtain ⟨b1, b2, b3, b4⟩ := back_EL p hs hT hL.1 to0 to1 rfl
  obtain ⟨v1, v2, v3, v4, v5, v6⟩ := r.2.1
  have A3 := hs.1
  have hit : ∀ i, 0 ≤ i → i < zd m 150 q → eit (zd h e 11) (zd m 149 (300 * q + i)) := fun i i0 i1 => by
    rw [← v4 i i0 (by omega)]; exact (hT.2.1 i i0 (by omega)).1
  refine M_goBack q0 q1 A3.2 b3.1 (by omega) (by have := hT.1; omega) hit (fun i j i0 i1 i2 => ?_) (fun i i0 i1 => ?_) (fun m' pm => ?_)
  · rw [← v4 i i0 (by omega), ← v4 j (by omega) (by omega)]; exact hT.2.2 i j i0 i1 (by omega)
  · rw [← v4 i i0 (by omega), ← b4 i i0 (by omega)]
    obtain ⟨t1, t2⟩ := hT.2.1 i i0 (by omega)
    have zr := zab_r t1
    have vn : zd h (e + 11) (zab (zd h (e + 17) i)) ≠ 0 := by rw [est_ab e h t1] at t2; split at t2 <;> omega
    have := (v2 _ zr.1 zr.2 vn).1
    unfold tn
    rw [this]
  · refine k m' pm (RMs_back he q0 q1 I p b3.1 b3.2 hs' r pm) (Mback.fr q0 q1 A3.2 b3.1 hit pm) (fun r7 => ?_)
    refine r7.cg (fun k hk => ?_) (fun k hk => pm.1.f (by simp only [List.mem_cons, List.not_mem_nil, or_false] at hk ⊢; omega)) (fun k hk => pm.1.d (by decide) k)
    rw [p.2.1, if_neg (by simp only [List.mem_cons, List.not_mem_nil, or_false] at hk; omega), if_neg (by simp only [List.mem_cons, List.not_mem_nil, or_false] at hk; omega)]
