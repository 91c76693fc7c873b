/-! forgetting: all of it, here -/
/-- a row is there no more -/
theorem L_unthere {e s top : Int} {h h10 : zH} {Q : Int → zH → Prop} (hs : ES e h top) (hc : EC e h) (s0 : 0 ≤ s) (s1 : s < 1364) (e10 : h10 = zw h (e + 5) s 0) (k : ∀ g, yA [e + 5, e + 6] h g → (∀ j, zd g (e + 5) j = if j = s then 0 else zd h (e + 5) j) → ES e g top → EC e g → Q 0 g) : P_E_look e s h10 Q := by
  have k10 : ∀ b, b ≠ e + 5 → zd h10 b = zd h b := fun b hb => by rw [e10, zw_f hb]
  have v10 : ∀ j, zd h10 (e + 5) j = if j = s then 0 else zd h (e + 5) j := by
    intro j
    rw [e10]
    by_cases z : j = s
    · rw [if_pos z, z, zd_s]
    · rw [if_neg z, zd_i z]
  refine L_look s0 s1 (fun t t0 t1 tn => ?_) (fun w => by rw [k10 _ (by omega)]; exact hc.2.1.2.1 w) (fun t t0 t1 => by rw [k10 _ (by omega)]; exact hc.2.1.2.2 t t0 t1) (fun v hh => ?_)
  · have := hc.2.1.1 t t0 t1
    unfold hotok at this ⊢
    rw [k10 (e + 6) (by omega), v10, if_neg tn, k10 (e + 4) (by omega), k10 (e + 2) (by omega), k10 (e + 3) (by omega)]; exact this
  · generalize eg : zw h10 (e + 6) (s / 64) v = g at hh ⊢
    have kg : ∀ b, b ≠ e + 5 → b ≠ e + 6 → zd g b = zd h b := fun b b1 b2 => by rw [← eg, zw_f b2, k10 b b1]
    have vg : ∀ j, zd g (e + 5) j = if j = s then 0 else zd h (e + 5) j := fun j => by rw [← eg, zd_a (by omega)]; exact v10 j
    have ld : ∀ t, elaid e g t → elaid e h t := by
      rintro t (⟨t0, t1, t2⟩ | ⟨c', c0, c1, c2⟩)
      · rw [vg] at t2
        by_cases z : t = s
        · rw [if_pos z] at t2; omega
        · rw [if_neg z] at t2; exact Or.inl ⟨t0, t1, t2⟩
      · rw [kg e (by omega) (by omega)] at c1
        rw [kg (e + 8) (by omega) (by omega)] at c2
        exact Or.inr ⟨c', c0, c1, c2⟩
    refine k g (by rw [← eg, e10]; exact ((yA.rf _ h).w (by simp)).w (by simp)) vg ?_ ?_
    · obtain ⟨p1', p2', p3', p4', p5', p6', p7'⟩ := hs
      refine ⟨by rw [kg e (by omega) (by omega)]; exact p1', by rw [kg e (by omega) (by omega)]; exact p2', p3', ?_, ?_, fun t ls => ?_, fun t t0 t1 => ?_⟩
      · rw [kg e (by omega) (by omega), kg (e + 10) (by omega) (by omega), kg (e + 7) (by omega) (by omega)]; exact p4'
      · rw [kg e (by omega) (by omega), kg (e + 9) (by omega) (by omega), kg (e + 7) (by omega) (by omega)]; exact p5'
      · have := p6' t (ld t ls)
        unfold erow at this ⊢
        rw [kg e (by omega) (by omega), kg (e + 1) (by omega) (by omega), kg (e + 2) (by omega) (by omega), kg (e + 8) (by omega) (by omega)]; exact this
      · rw [vg]; split
        · exact Or.inl rfl
        · exact p7' t t0 t1
    · refine ⟨fun t ls => ?_, hh, ?_⟩
      · have := hc.1 t (ld t ls)
        unfold ecnt est at this ⊢
        rw [kg (e + 4) (by omega) (by omega), kg (e + 3) (by omega) (by omega), kg (e + 11) (by omega) (by omega), kg (e + 7) (by omega) (by omega), kg (e + 1) (by omega) (by omega), kg (e + 2) (by omega) (by omega)]; exact this
      · rw [kg e (by omega) (by omega), kg (e + 11) (by omega) (by omega)]; exact hc.2.2
def ForP (e : Int) (h h' : zH) : Prop := ∃ n O, OS (emay e h) (zd h (e + 20)) O n (zd h e 25) ∧ yA [e, e + 5, e + 6, e + 20, e + 31] h h' ∧ (∀ j, zd h' e j = if j = 37 then zd h e 37 - n / 2 else if j = 36 then w32 (zd h e 36 + n / 2) else zd h e j) ∧ (∀ i, 0 ≤ i → i < n / 2 → zd h' (e + 5) (564 + O i) = 0) ∧ (∀ s, (∀ i, 0 ≤ i → i < n / 2 → s ≠ 564 + O i) → zd h' (e + 5) s = zd h (e + 5) s) ∧ (∀ k, 0 ≤ k → k < zd h e 25 → zd h' (e + 20) k = w32 (Int.tdiv (zd h (e + 20) k) 2)) ∧ ∀ k, k < 0 ∨ zd h e 25 ≤ k → zd h' (e + 20) k = zd h (e + 20) k
theorem E_forgets {e top : Int} {h : zH} {Q : Int → zH → Prop} (he : zE e) (hs : ES e h top) (hc : EC e h) (r0 : 0 ≤ zd h e 25) (r1 : zd h e 25 ≤ 800) (t0 : 0 ≤ zd h e 37) (t1 : zd h e 37 ≤ 800) (hg : w32 (zd h e 36) = zd h e 36) (kn : (zd h 14 27 = 0 ∨ zd h e 37 ≤ zd h 14 27) → Q 0 h) (kf : zd h 14 27 ≠ 0 → zd h 14 27 < zd h e 37 → ∀ h', ForP e h h' → ES e h' top → EC e h' → Q 0 h') : P_E_forgets e h Q := by
  have eR : 25 ≤ e ∧ e ≤ 58 := by rcases he with z | z <;> omega
  have drop : ∀ (n : Int) (O : Int → Int) (g0 : zH) (K : zH → Prop), OS (emay e h) (zd h (e + 20)) O n (zd h e 25) → zd g0 (e + 31) = O → zd g0 e = zd h e → (∀ g, yA [e, e + 5, e + 6] g0 g → (∀ j, zd g e j = if j = 37 then zd h e 37 - n / 2 else if j = 36 then w32 (zd h e 36 + n / 2) else zd h e j) → (∀ i, 0 ≤ i → i < n / 2 → zd g (e + 5) (564 + O i) = 0) → (∀ s, (∀ i, 0 ≤ i → i < n / 2 → s ≠ 564 + O i) → zd g (e + 5) s = zd g0 (e + 5) s) → ES e g top → EC e g → K g) →
      ∀ (d f : Nat) (y : Int) (g : zH), y = n / 2 - d → 0 ≤ y → d < f → yA [e, e + 5, e + 6] g0 g → (∀ j, zd g e j = if j = 37 then zd h e 37 - y else if j = 36 then w32 (zd h e 36 + y) else zd h e j) → (∀ i, 0 ≤ i → i < y → zd g (e + 5) (564 + O i) = 0) → (∀ s, (∀ i, 0 ≤ i → i < y → s ≠ 564 + O i) → zd g (e + 5) s = zd g0 (e + 5) s) → ES e g top → EC e g → P_E_forgets_L142 e n Q K f y g := by
    intro n O g0 K os hO g0e kk d
    obtain ⟨o1, o2, -, -⟩ := os
    induction d with
    | zero =>
      intro f y g hy y0 hf gA gf gz go gs gc
      obtain ⟨f, rfl⟩ : ∃ m, f = m + 1 := ⟨f - 1, by omega⟩
      have ey : y = n / 2 := by omega
      rw [ey] at gf gz go
      unfold P_E_forgets_L142
      rw [Int.tdiv_eq_ediv_of_nonneg o1.1, w32_of (by omega) (by omega), if_pos (by omega)]
      exact kk g gA gf gz go gs gc
    | succ d ih =>
      intro f y g hy y0 hf gA gf gz go gs gc
      obtain ⟨f, rfl⟩ : ∃ m, f = m + 1 := ⟨f - 1, by omega⟩
      have oy := (o2 y y0 (by omega)).1
      have g31 : zd g (e + 31) = O := (gA.f (by simp only [List.mem_cons, List.not_mem_nil, or_false]; omega)).trans hO
      unfold P_E_forgets_L142
      rw [Int.tdiv_eq_ediv_of_nonneg o1.1, w32_of (x := n / 2) (by omega) (by omega), if_neg (by omega), g31, w32_of (x := 564 + O y) (by omega) (by omega), zbit_0]
      refine ⟨⟨by omega, by omega⟩, ⟨by omega, by omega⟩, ?_⟩
      intro h11 e11
      have h31 : zd h11 (e + 31) = O := by rw [e11, zw_f (by omega)]; exact g31
      rw [h31, w32_of (x := 564 + O y) (by omega) (by omega)]
      refine ⟨⟨by omega, by omega⟩, L_unthere gs gc (by omega) (by omega) e11 (fun g2 p1 p2 p3 p4 => ?_)⟩
      have z2 : zd g2 e = zd g e := p1.f (by simp only [List.mem_cons, List.not_mem_nil, or_false]; omega)
      rw [z2, gf 37, if_pos rfl, w32_of (x := zd h e 37 - y - 1) (by omega) (by omega)]
      intro h14 e14
      have z14 : zd h14 e 36 = w32 (zd h e 36 + y) := by rw [e14, zd_i (by decide), z2, gf 36, if_neg (by decide), if_pos rfl]
      rw [z14, w32_al]
      intro h15 e15 x2 ex2
      rw [w32_of (by omega) (by omega)] at ex2
      rw [ex2]
      have k15 : ∀ b, b ≠ e → zd h15 b = zd g2 b := fun b hb => by rw [e15, zw_f hb, e14, zw_f hb]
      have f15 : ∀ j, j ≠ 36 → j ≠ 37 → zd h15 e j = zd g2 e j := fun j a b => by rw [e15, zd_i a, e14, zd_i b]
      refine ih f (y + 1) h15 (by omega) (by omega) (by omega) (by rw [e15, e14]; exact ((gA.tr (p1.mono (by simp))).w (by simp)).w (by simp)) (fun j => ?_) (fun i i0 i1 => ?_) (fun s hs' => ?_) ?_ ?_
      · by_cases c : j = 37
        · rw [if_pos c, c, e15, zd_i (by decide), e14, zd_s]; omega
        · rw [if_neg c]
          by_cases c2 : j = 36
          · rw [if_pos c2, c2, e15, zd_s]; congr 1; omega
          · rw [if_neg c2, f15 j c2 c, z2, gf j, if_neg c, if_neg c2]
      · rw [k15 _ (by omega), p2]
        by_cases c : i = y
        · rw [c, if_pos rfl]
        · split
          · rfl
          · exact gz i i0 (by omega)
      · rw [k15 _ (by omega), p2, if_neg (hs' y y0 (by omega))]
        exact go s (fun i i0 i1 => hs' i i0 (by omega))
      · exact p3.cg (f15 10 (by decide) (by decide)) (f15 11 (by decide) (by decide)) (k15 _ (by omega)) (k15 _ (by omega)) (k15 _ (by omega)) (k15 _ (by omega)) (k15 _ (by omega)) (k15 _ (by omega)) (k15 _ (by omega))
      · refine ⟨fun s ls => ?_, p4.2.1.cg (k15 _ (by omega)) (k15 _ (by omega)) (k15 _ (by omega)) (k15 _ (by omega)) (k15 _ (by omega)), ?_⟩
        · have := p4.1 s ((elaid.cg (f15 10 (by decide) (by decide)) (k15 _ (by omega)) (k15 _ (by omega))).mp ls)
          unfold ecnt est at this ⊢
          rw [k15 (e + 4) (by omega), k15 (e + 3) (by omega), k15 (e + 11) (by omega), k15 (e + 7) (by omega), k15 (e + 1) (by omega), k15 (e + 2) (by omega)]; exact this
        · rw [f15 11 (by decide) (by decide), k15 (e + 11) (by omega)]; exact p4.2.2
  have half : ∀ (g0 : zH), zd g0 e 25 = zd h e 25 → (∀ g, yA [e + 20] g0 g → (∀ k, 0 ≤ k → k < zd h e 25 → zd g (e + 20) k = w32 (Int.tdiv (zd g0 (e + 20) k) 2)) → (∀ k, k < 0 ∨ zd h e 25 ≤ k → zd g (e + 20) k = zd g0 (e + 20) k) → Q 0 g) → ∀ (d f : Nat) (y : Int) (g : zH), y = zd h e 25 - d → 0 ≤ y → d < f → yA [e + 20] g0 g → (∀ k, 0 ≤ k → k < y → zd g (e + 20) k = w32 (Int.tdiv (zd g0 (e + 20) k) 2)) → (∀ k, k < 0 ∨ y ≤ k → zd g (e + 20) k = zd g0 (e + 20) k) → P_E_forgets_L207 e Q f y g := by
    intro g0 g25 kk d
    induction d with
    | zero =>
      intro f y g hy y0 hf gA gv gu
      obtain ⟨f, rfl⟩ : ∃ m, f = m + 1 := ⟨f - 1, by omega⟩
      unfold P_E_forgets_L207
      rw [gA.f (b := e) (by simp only [List.mem_cons, List.not_mem_nil, or_false]; omega), g25, if_pos (by omega)]
      exact kk g gA (fun k k0 k1 => gv k k0 (by omega)) (fun k hk => gu k (by omega))
    | succ d ih =>
      intro f y g hy y0 hf gA gv gu
      obtain ⟨f, rfl⟩ : ∃ m, f = m + 1 := ⟨f - 1, by omega⟩
      unfold P_E_forgets_L207
      rw [gA.f (b := e) (by simp only [List.mem_cons, List.not_mem_nil, or_false]; omega), g25, if_neg (by omega), gu y (Or.inr (Int.le_refl _))]
      refine ⟨⟨by omega, by omega⟩, ⟨by omega, by omega⟩, ?_⟩
      intro h18 e18 x2 e2
      rw [w32_of (by omega) (by omega)] at e2
      rw [e2, e18]
      refine ih f (y + 1) _ (by omega) (by omega) (by omega) (gA.w (by simp)) (fun k k0 k1 => ?_) (fun k hk => by rw [zd_i (by omega)]; exact gu k (by omega))
      by_cases c : k = y
      · rw [c, zd_s]
      · rw [zd_i c]; exact gv k k0 (by omega)
  unfold P_E_forgets
  refine zif_i (fun c => kn (Or.inl c)) (fun c => zif_i (fun c2 => ?_) (fun c2 => kn (Or.inr (by omega))))
  refine ⟨(zd h e 25).toNat + 1, E_sort hs r0 r1 (fun n g gA os => ?_) (zd h e 25).toNat _ 0 0 h (by omega) (by omega) (by omega) (yA.rf _ _) ⟨by omega, fun i i0 i1 => by omega, fun i j i0 i1 i2 => by omega, fun k' k0 k1 => by omega⟩⟩
  have gk : ∀ b, b ≠ e + 31 → zd g b = zd h b := fun b hb => gA.f (by simp only [List.mem_cons, List.not_mem_nil, or_false]; exact hb)
  have hsg : ES e g top := hs.cg (by rw [gk e (by omega)]) (by rw [gk e (by omega)]) (gk _ (by omega)) (gk _ (by omega)) (gk _ (by omega)) (gk _ (by omega)) (gk _ (by omega)) (gk _ (by omega)) (gk _ (by omega))
  have hcg : EC e g := by
    refine ⟨fun s ls => ?_, hc.2.1.cg (gk _ (by omega)) (gk _ (by omega)) (gk _ (by omega)) (gk _ (by omega)) (gk _ (by omega)), ?_⟩
    · have := hc.1 s ((elaid.cg (by rw [gk e (by omega)]) (gk _ (by omega)) (gk _ (by omega))).mp ls)
      unfold ecnt est at this ⊢
      rw [gk (e + 4) (by omega), gk (e + 3) (by omega), gk (e + 11) (by omega), gk (e + 7) (by omega), gk (e + 1) (by omega), gk (e + 2) (by omega)]; exact this
    · rw [gk e (by omega), gk (e + 11) (by omega)]; exact hc.2.2
  have o1 := os.1
  refine ⟨(n / 2).toNat + 1, drop n _ g _ os rfl (gk e (by omega)) (fun g2 q1 q2 q3 q4 q5 q6 => ?_) (n / 2).toNat _ 0 g (by omega) (by omega) (by omega) (yA.rf _ _) (fun j => ?_) (fun i i0 i1 => by omega) (fun s _ => rfl) hsg hcg⟩
  · refine ⟨(zd h e 25).toNat + 1, half g2 (by rw [q2 25, if_neg (by decide), if_neg (by decide)]) (fun g3 s1 s2 s3 => ?_) (zd h e 25).toNat _ 0 g2 (by omega) (by omega) (by omega) (yA.rf _ _) (fun k k0 k1 => by omega) (fun _ _ => rfl)⟩
    have k3 : ∀ b, b ≠ e + 20 → zd g3 b = zd g2 b := fun b hb => s1.f (by simp only [List.mem_cons, List.not_mem_nil, or_false]; exact hb)
    have u2 : zd g2 (e + 20) = zd h (e + 20) := (q1.f (by simp only [List.mem_cons, List.not_mem_nil, or_false]; omega)).trans (gk _ (by omega))
    rw [u2] at s2 s3
    refine kf c c2 g3 ⟨n, zd g (e + 31), os, ((gA.mono (by simp)).tr (q1.mono (by simp))).tr (s1.mono (by simp)), fun j => by rw [k3 _ (by omega)]; exact q2 j, fun i i0 i1 => by rw [k3 _ (by omega)]; exact q3 i i0 i1, fun s hs' => by rw [k3 _ (by omega), q4 s hs', gk (e + 5) (by omega)], s2, s3⟩ ?_ ?_
    · exact q5.cg (by rw [k3 e (by omega)]) (by rw [k3 e (by omega)]) (k3 _ (by omega)) (k3 _ (by omega)) (k3 _ (by omega)) (k3 _ (by omega)) (k3 _ (by omega)) (k3 _ (by omega)) (k3 _ (by omega))
    · refine ⟨fun s ls => ?_, q6.2.1.cg (k3 _ (by omega)) (k3 _ (by omega)) (k3 _ (by omega)) (k3 _ (by omega)) (k3 _ (by omega)), ?_⟩
      · have := q6.1 s ((elaid.cg (by rw [k3 e (by omega)]) (k3 _ (by omega)) (k3 _ (by omega))).mp ls)
        unfold ecnt est at this ⊢
        rw [k3 (e + 4) (by omega), k3 (e + 3) (by omega), k3 (e + 11) (by omega), k3 (e + 7) (by omega), k3 (e + 1) (by omega), k3 (e + 2) (by omega)]; exact this
      · rw [k3 e (by omega), k3 (e + 11) (by omega)]; exact q6.2.2
  · rw [gk e (by omega)]
    by_cases c : j = 37
    · rw [if_pos c, c]; omega
    · rw [if_neg c]
      by_cases c2 : j = 36
      · rw [if_pos c2, c2, show zd h e 36 + 0 = zd h e 36 by omega]; exact hg.symm
      · rw [if_neg c2]
