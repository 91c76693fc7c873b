/-! a row is kept, here and there -/
theorem ES.up {e top top' : Int} {h : zH} (p : ES e h top) (h1 : top ≤ top') (h2 : top' ≤ 1364) : ES e h top' := by
  obtain ⟨p1, p2, p3, p4, p5, p6, p7⟩ := p
  refine ⟨p1, p2, by omega, p4, p5, fun s ls => ?_, p7⟩
  have := p6 s ls
  exact ⟨by omega, this.2⟩
def KeepP (e a : Int) (h h' : zH) : Prop := yA [e, e + 1, e + 2, e + 3, e + 4, e + 5, e + 6, e + 7, e + 8, e + 9, e + 10, e + 19, e + 20] h h' ∧ (∀ j, zd h' e j = if j = 25 then zd h e 25 + 1 else if j = 26 then zd h e 26 + zd h e 50 else if j = 10 then zd h e 10 + zd h e 50 else if j = 37 ∧ a ≠ 0 then w32 (zd h e 37 + 1) else zd h e j) ∧
  (∀ j, zd h' (e + 1) j = if j = 564 + zd h e 25 then zd h e 10 else zd h (e + 1) j) ∧ (∀ j, zd h' (e + 2) j = if j = 564 + zd h e 25 then zd h e 50 else zd h (e + 2) j) ∧ (∀ j, zd h' (e + 5) j = if j = 564 + zd h e 25 then (if a = 0 then 0 else 1) else zd h (e + 5) j) ∧ (∀ j, zd h' (e + 7) j = if zd h e 10 ≤ j ∧ j < zd h e 10 + zd h e 50 then zd h (e + 28) (j - zd h e 10) else zd h (e + 7) j) ∧
  (∀ j, zd h' (e + 20) j = if j = zd h e 25 then 0 else zd h (e + 20) j) ∧ (∀ j, zd h' (e + 19) j = if zd h e 25 * 8 ≤ j ∧ j < zd h e 25 * 8 + 8 then zd h (e + 29) (j - zd h e 25 * 8) else zd h (e + 19) j)
theorem E_keep {e top a : Int} {h : zH} {Q : Int → zH → Prop} (hs : ES e h top) (hc : EC e h) (ht : top ≤ 564 + zd h e 25) (r0 : 0 ≤ zd h e 25) (r1 : zd h e 25 < 800) (n0 : 0 ≤ zd h e 50) (n1 : zd h e 50 ≤ 300) (i0 : 0 ≤ zd h e 26) (i1 : zd h e 26 ≤ 8000) (hcap : zd h e 10 + zd h e 50 ≤ 12080) (hit : ∀ j, 0 ≤ j → j < zd h e 50 → eit (zd h e 11) (zd h (e + 28) j)) (t28 : zt h (e + 28) = 50) (l28 : zl h (e + 28) = 300)
    (k : ∀ h', KeepP e a h h' → ES e h' (564 + zd h e 25 + 1) → EC e h' → Q 0 h') : P_E_keep e a h Q := by
  have k1 : ∀ (d f : Nat) (y : Int) (g : zH) (x : Int) (K : zH → Prop), y = 8 - d → 0 ≤ y → d < f → yA [e + 19] h g → (∀ j, zd g (e + 19) j = if zd h e 25 * 8 ≤ j ∧ j < zd h e 25 * 8 + y then zd h (e + 29) (j - zd h e 25 * 8) else zd h (e + 19) j) → (∀ g, yA [e + 19] h g → (∀ j, zd g (e + 19) j = if zd h e 25 * 8 ≤ j ∧ j < zd h e 25 * 8 + 8 then zd h (e + 29) (j - zd h e 25 * 8) else zd h (e + 19) j) → K g) → P_E_keep_L11 e a x Q K f y g := by
    intro d
    induction d with
    | zero =>
      intro f y g x K hy y0 hf gA iv kk
      obtain ⟨f, rfl⟩ : ∃ m, f = m + 1 := ⟨f - 1, by omega⟩
      have ey : y = 8 := by omega
      rw [ey] at iv
      unfold P_E_keep_L11
      rw [if_pos (by omega)]
      exact kk g gA iv
    | succ d ih =>
      intro f y g x K hy y0 hf gA iv kk
      obtain ⟨f, rfl⟩ : ∃ m, f = m + 1 := ⟨f - 1, by omega⟩
      unfold P_E_keep_L11
      rw [if_neg (by omega), gA.f (b := e) (by simp only [List.mem_cons, List.not_mem_nil, or_false]; omega), gA.f (b := e + 29) (by simp only [List.mem_cons, List.not_mem_nil, or_false]; omega), w32_of (x := zd h e 25 * 8) (by omega) (by omega), w32_of (x := zd h e 25 * 8 + y) (by omega) (by omega)]
      refine ⟨⟨by omega, by omega⟩, ⟨by omega, by omega⟩, ?_⟩
      intro h2 e2 x3 e3
      rw [w32_of (by omega) (by omega)] at e3
      rw [e3, e2]
      refine ih f (y + 1) _ x K (by omega) (by omega) (by omega) (gA.w (by simp)) (fun j => ?_) kk
      by_cases c : j = zd h e 25 * 8 + y
      · rw [c, zd_s, if_pos (by omega)]; congr 1; omega
      · rw [zd_i c, iv j]
        by_cases z : zd h e 25 * 8 ≤ j ∧ j < zd h e 25 * 8 + y
        · rw [if_pos z, if_pos (by omega)]
        · rw [if_neg z, if_neg (by omega)]
  unfold P_E_keep
  intro x2 e2
  rw [w32_of (by omega) (by omega)] at e2
  rw [e2]
  refine ⟨9, k1 8 9 0 h _ _ (by decide) (by decide) (by decide) (yA.rf _ _) (fun j => by rw [if_neg (by omega)]) (fun h4 p1 p2 => ?_)⟩
  rw [p1.f (b := e) (by simp only [List.mem_cons, List.not_mem_nil, or_false]; omega)]
  refine ⟨⟨r0, r1⟩, ?_⟩
  intro h5 e5
  have z5 : zd h5 e = zd h e := by rw [e5, zw_f (by omega), p1.f (by simp only [List.mem_cons, List.not_mem_nil, or_false]; omega)]
  rw [z5, w32_of (x := zd h e 25 + 1) (by omega) (by omega)]
  intro h6 e6
  have z6 : zd h6 e 26 = zd h e 26 := by rw [e6, zd_i (by decide), z5]
  have z6' : zd h6 e 50 = zd h e 50 := by rw [e6, zd_i (by decide), z5]
  rw [z6, z6', w32_of (x := zd h e 26 + zd h e 50) (by omega) (by omega)]
  intro h7 e7
  have z7 : zd h7 e 50 = zd h e 50 := by rw [e7, zd_i (by decide), z6']
  have A7 : yA [e, e + 19, e + 20] h h7 := by rw [e7, e6, e5]; exact (((p1.mono (by simp)).w (by simp)).w (by simp)).w (by simp)
  have f7 : ∀ j, zd h7 e j = if j = 25 then zd h e 25 + 1 else if j = 26 then zd h e 26 + zd h e 50 else zd h e j := by
    intro j
    by_cases c : j = 26
    · rw [if_neg (by omega), if_pos c, c, e7, zd_s]
    · rw [if_neg c, e7, zd_i c, e6]
      by_cases d : j = 25
      · rw [if_pos d, d, zd_s]
      · rw [if_neg d, zd_i d, z5]
  have k7 : ∀ b, b ≠ e → b ≠ e + 19 → b ≠ e + 20 → zd h7 b = zd h b := fun b a1 a2 a3 => A7.f (by simp only [List.mem_cons, List.not_mem_nil, or_false]; omega)
  have u7 : ∀ j, zd h7 (e + 20) j = if j = zd h e 25 then 0 else zd h (e + 20) j := by
    intro j
    rw [e7, zd_a (by omega), e6, zd_a (by omega), e5]
    by_cases c : j = zd h e 25
    · rw [if_pos c, c, zd_s]
    · rw [if_neg c, zd_i c, p1.d (b := e + 20) (by simp only [List.mem_cons, List.not_mem_nil, or_false]; omega)]
  have s7 : ∀ j, zd h7 (e + 19) j = if zd h e 25 * 8 ≤ j ∧ j < zd h e 25 * 8 + 8 then zd h (e + 29) (j - zd h e 25 * 8) else zd h (e + 19) j := fun j => by rw [e7, zd_a (by omega), e6, zd_a (by omega), e5, zd_a (by omega)]; exact p2 j
  clear e7 e6 e5 z6 z6'
  have a11 : zd h7 e 11 = zd h e 11 := by rw [f7, if_neg (by decide), if_neg (by decide)]
  have a10 : zd h7 e 10 = zd h e 10 := by rw [f7, if_neg (by decide), if_neg (by decide)]
  have hs7 : ES e h7 top := hs.cg a10 a11 (k7 _ (by omega) (by omega) (by omega)) (k7 _ (by omega) (by omega) (by omega)) (k7 _ (by omega) (by omega) (by omega)) (k7 _ (by omega) (by omega) (by omega)) (k7 _ (by omega) (by omega) (by omega)) (k7 _ (by omega) (by omega) (by omega)) (k7 _ (by omega) (by omega) (by omega))
  have hc7 : EC e h7 := by
    refine ⟨fun s ls => ?_, hc.2.1.cg (k7 _ (by omega) (by omega) (by omega)) (k7 _ (by omega) (by omega) (by omega)) (k7 _ (by omega) (by omega) (by omega)) (k7 _ (by omega) (by omega) (by omega)) (k7 _ (by omega) (by omega) (by omega)), ?_⟩
    · have := hc.1 s ((elaid.cg a10 (k7 _ (by omega) (by omega) (by omega)) (k7 _ (by omega) (by omega) (by omega))).mp ls)
      unfold ecnt est at this ⊢
      rw [k7 (e + 4) (by omega) (by omega) (by omega), k7 (e + 3) (by omega) (by omega) (by omega), k7 (e + 11) (by omega) (by omega) (by omega), k7 (e + 7) (by omega) (by omega) (by omega), k7 (e + 1) (by omega) (by omega) (by omega), k7 (e + 2) (by omega) (by omega) (by omega)]
      exact this
    · rw [a11, k7 (e + 11) (by omega) (by omega) (by omega)]; exact hc.2.2
  have m28 : zd h7 (e + 28) = zd h (e + 28) := k7 _ (by omega) (by omega) (by omega)
  rw [z7]
  have LL := L_lay (e := e) (s := 564 + zd h e 25) (a := e + 28) (b := 0) (n := zd h e 50) (top := top) (h := h7) (Q := fun _ h9 => if a = 0 then (0 ≤ 564 + zd h e 25 ∧ 564 + zd h e 25 < 1364) ∧ ∀ h10 : zH, h10 = zw h9 (e + 5) (564 + zd h e 25) (zbit 0) → P_E_look e (564 + zd h e 25) h10 (fun _ h12 => Q 0 h12) else ∀ h13 : zH, h13 = zw h9 e 37 (w32 ((zd h9 e 37) + 1)) → Q 0 h13) hs7 hc7 ht (by omega) (by simp only [List.mem_cons, List.not_mem_nil, or_false]; omega) (by rw [A7.t]; exact t28) (Int.le_refl _) n0 (by rw [A7.l, l28]; omega) (by rw [A7.l, l28]; decide) (by rw [a10]; exact hcap) (fun j j0 j1 => by rw [a11, m28]; exact hit j j0 (by omega)) (fun h9 pl hs9 hc9 => ?_)
  · rw [show 0 + zd h e 50 = zd h e 50 by omega] at LL; exact LL
  obtain ⟨L1, L2, L3, L4, L5, L6⟩ := pl
  rw [a10] at L2 L3 L6
  have B9 : yA [e, e + 1, e + 2, e + 3, e + 4, e + 5, e + 6, e + 7, e + 8, e + 9, e + 10, e + 19, e + 20] h h9 := (A7.mono (by simp)).tr (L1.mono (by simp))
  have F9 : ∀ j, zd h9 e j = if j = 25 then zd h e 25 + 1 else if j = 26 then zd h e 26 + zd h e 50 else if j = 10 then zd h e 10 + zd h e 50 else zd h e j := by
    intro j
    rw [L2 j, f7]
    by_cases c : j = 10
    · rw [if_pos c, if_neg (by omega), if_neg (by omega), if_pos c]
    · rw [if_neg c, if_neg c]
  have q1 : ∀ j, zd h9 (e + 1) j = if j = 564 + zd h e 25 then zd h e 10 else zd h (e + 1) j := fun j => by rw [L3, k7 (e + 1) (by omega) (by omega) (by omega)]
  have q2 : ∀ j, zd h9 (e + 2) j = if j = 564 + zd h e 25 then zd h e 50 else zd h (e + 2) j := fun j => by rw [L4, k7 (e + 2) (by omega) (by omega) (by omega)]
  have q5 : ∀ j, zd h9 (e + 5) j = if j = 564 + zd h e 25 then 1 else zd h (e + 5) j := fun j => by rw [L5, k7 (e + 5) (by omega) (by omega) (by omega)]
  have q7 : ∀ j, zd h9 (e + 7) j = if zd h e 10 ≤ j ∧ j < zd h e 10 + zd h e 50 then zd h (e + 28) (j - zd h e 10) else zd h (e + 7) j := by
    intro j
    rw [L6, m28, k7 (e + 7) (by omega) (by omega) (by omega), show 0 + (j - zd h e 10) = j - zd h e 10 by omega]
  have q20 : ∀ j, zd h9 (e + 20) j = if j = zd h e 25 then 0 else zd h (e + 20) j := fun j => by rw [L1.d (b := e + 20) (by simp only [List.mem_cons, List.not_mem_nil, or_false]; omega)]; exact u7 j
  have q19 : ∀ j, zd h9 (e + 19) j = if zd h e 25 * 8 ≤ j ∧ j < zd h e 25 * 8 + 8 then zd h (e + 29) (j - zd h e 25 * 8) else zd h (e + 19) j := fun j => by rw [L1.d (b := e + 19) (by simp only [List.mem_cons, List.not_mem_nil, or_false]; omega)]; exact s7 j
  refine zif_i (fun c => ⟨⟨by omega, by omega⟩, ?_⟩) (fun c => ?_)
  · intro h10 e10
    rw [zbit_0] at e10
    have k10 : ∀ b, b ≠ e + 5 → zd h10 b = zd h9 b := fun b hb => by rw [e10, zw_f hb]
    have v10 : ∀ j, zd h10 (e + 5) j = if j = 564 + zd h e 25 then 0 else zd h9 (e + 5) j := by
      intro j
      rw [e10]
      by_cases z : j = 564 + zd h e 25
      · rw [if_pos z, z, zd_s]
      · rw [if_neg z, zd_i z]
    refine L_look (by omega) (by omega) (fun t t0 t1 tn => ?_) (fun w => by rw [k10 _ (by omega)]; exact hc9.2.1.2.1 w) (fun t t0 t1 => by rw [k10 _ (by omega)]; exact hc9.2.1.2.2 t t0 t1) (fun v hh => ?_)
    · have := hc9.2.1.1 t t0 t1
      unfold hotok at this ⊢
      rw [k10 (e + 6) (by omega), v10, if_neg tn, k10 (e + 4) (by omega), k10 (e + 2) (by omega), k10 (e + 3) (by omega)]; exact this
    · generalize eg : zw h10 (e + 6) ((564 + zd h e 25) / 64) v = g at hh ⊢
      have kg : ∀ b, b ≠ e + 5 → b ≠ e + 6 → zd g b = zd h9 b := fun b b1 b2 => by rw [← eg, zw_f b2, k10 b b1]
      have vg : ∀ j, zd g (e + 5) j = if j = 564 + zd h e 25 then 0 else zd h9 (e + 5) j := fun j => by rw [← eg, zd_a (by omega)]; exact v10 j
      have ld : ∀ s, elaid e g s → elaid e h9 s := by
        rintro s (⟨s0, s1, s2⟩ | ⟨c', c0, c1, c2⟩)
        · rw [vg] at s2
          by_cases z : s = 564 + zd h e 25
          · rw [if_pos z] at s2; omega
          · rw [if_neg z] at s2; exact Or.inl ⟨s0, s1, s2⟩
        · rw [kg e (by omega) (by omega)] at c1
          rw [kg (e + 8) (by omega) (by omega)] at c2
          exact Or.inr ⟨c', c0, c1, c2⟩
      refine k g ⟨by rw [← eg, e10]; exact (B9.w (by simp)).w (by simp), fun j => ?_, fun j => by rw [kg _ (by omega) (by omega)]; exact q1 j, fun j => by rw [kg _ (by omega) (by omega)]; exact q2 j, fun j => ?_, fun j => by rw [kg _ (by omega) (by omega)]; exact q7 j, fun j => by rw [kg _ (by omega) (by omega)]; exact q20 j, fun j => by rw [kg _ (by omega) (by omega)]; exact q19 j⟩ ?_ ?_
      · rw [kg e (by omega) (by omega), F9, if_neg (show ¬ (j = 37 ∧ a ≠ 0) from fun w => w.2 c)]
      · rw [vg, q5, if_pos c]
        by_cases z : j = 564 + zd h e 25
        · rw [if_pos z, if_pos z]
        · rw [if_neg z, if_neg z, if_neg z]
      · obtain ⟨p1', p2', p3', p4', p5', p6', p7'⟩ := hs9
        refine ⟨by rw [kg e (by omega) (by omega)]; exact p1', by rw [kg e (by omega) (by omega)]; exact p2', p3', ?_, ?_, fun s ls => ?_, fun s s0 s1 => ?_⟩
        · rw [kg e (by omega) (by omega), kg (e + 10) (by omega) (by omega), kg (e + 7) (by omega) (by omega)]; exact p4'
        · rw [kg e (by omega) (by omega), kg (e + 9) (by omega) (by omega), kg (e + 7) (by omega) (by omega)]; exact p5'
        · have := p6' s (ld s ls)
          unfold erow at this ⊢
          rw [kg e (by omega) (by omega), kg (e + 1) (by omega) (by omega), kg (e + 2) (by omega) (by omega), kg (e + 8) (by omega) (by omega)]; exact this
        · rw [vg]; split
          · exact Or.inl rfl
          · exact p7' s s0 s1
      · refine ⟨fun s ls => ?_, hh, ?_⟩
        · have := hc9.1 s (ld s ls)
          unfold ecnt est at this ⊢
          rw [kg (e + 4) (by omega) (by omega), kg (e + 3) (by omega) (by omega), kg (e + 11) (by omega) (by omega), kg (e + 7) (by omega) (by omega), kg (e + 1) (by omega) (by omega), kg (e + 2) (by omega) (by omega)]; exact this
        · rw [kg e (by omega) (by omega), kg (e + 11) (by omega) (by omega)]; exact hc9.2.2
  · intro h13 e13
    have k13 : ∀ b, b ≠ e → zd h13 b = zd h9 b := fun b hb => by rw [e13, zw_f hb]
    have f13 : ∀ j, j ≠ 37 → zd h13 e j = zd h9 e j := fun j hj => by rw [e13, zd_i hj]
    refine k h13 ⟨by rw [e13]; exact B9.w (by simp), fun j => ?_, fun j => by rw [k13 _ (by omega)]; exact q1 j, fun j => by rw [k13 _ (by omega)]; exact q2 j, fun j => by rw [k13 _ (by omega), q5, if_neg c], fun j => by rw [k13 _ (by omega)]; exact q7 j, fun j => by rw [k13 _ (by omega)]; exact q20 j, fun j => by rw [k13 _ (by omega)]; exact q19 j⟩ ?_ ?_
    · by_cases z : j = 37
      · rw [z, e13, zd_s, F9]; simp [c]
      · rw [f13 j z, F9, if_neg (show ¬ (j = 37 ∧ a ≠ 0) from fun w => z w.1)]
    · exact hs9.cg (f13 10 (by decide)) (f13 11 (by decide)) (k13 _ (by omega)) (k13 _ (by omega)) (k13 _ (by omega)) (k13 _ (by omega)) (k13 _ (by omega)) (k13 _ (by omega)) (k13 _ (by omega))
    · refine ⟨fun s ls => ?_, hc9.2.1.cg (k13 _ (by omega)) (k13 _ (by omega)) (k13 _ (by omega)) (k13 _ (by omega)) (k13 _ (by omega)), ?_⟩
      · have := hc9.1 s ((elaid.cg (f13 10 (by decide)) (k13 _ (by omega)) (k13 _ (by omega))).mp ls)
        unfold ecnt est at this ⊢
        rw [k13 (e + 4) (by omega), k13 (e + 3) (by omega), k13 (e + 11) (by omega), k13 (e + 7) (by omega), k13 (e + 1) (by omega), k13 (e + 2) (by omega)]; exact this
      · rw [f13 11 (by decide), k13 (e + 11) (by omega)]; exact hc9.2.2
/-- a row is recorded there -/
def MrecP (q n : Int) (m m' : zH) : Prop := yA [152, 153, 154, 158] m m' ∧ (∀ j, zd m' 153 j = if 8050 * q + zd m 152 (801 * q + zd m 154 q) ≤ j ∧ j < 8050 * q + zd m 152 (801 * q + zd m 154 q) + n then zd m 167 (j - (8050 * q + zd m 152 (801 * q + zd m 154 q))) else zd m 153 j) ∧ (∀ j, zd m' 152 j = if j = 801 * q + zd m 154 q + 1 then zd m 152 (801 * q + zd m 154 q) + n else zd m 152 j) ∧ (∀ j, zd m' 154 j = if j = q then zd m 154 q + 1 else zd m 154 j) ∧ (∀ j, zd m' 158 j = if 8 * (800 * q + zd m 154 q) ≤ j ∧ j < 8 * (800 * q + zd m 154 q) + 8 then zd m 160 (j - 8 * (800 * q + zd m 154 q)) else zd m 158 j)
theorem M_record {q n : Int} {m : zH} {Q : Int → zH → Prop} (q0 : 0 ≤ q) (q1 : q ≤ 1) (n0 : 0 ≤ n) (n1 : n ≤ 300) (r0 : 0 ≤ zd m 154 q) (r1 : zd m 154 q < 800) (a0 : 0 ≤ zd m 152 (801 * q + zd m 154 q)) (a1 : zd m 152 (801 * q + zd m 154 q) + n ≤ 8000) (k : ∀ m', MrecP q n m m' → Q 0 m') : P_M_record q n m Q := by
  generalize er : zd m 154 q = r at *
  generalize ea : zd m 152 (801 * q + r) = at' at *
  have k1 : ∀ (d f : Nat) (y : Int) (g : zH) (K : zH → Prop), y = n - d → 0 ≤ y → d < f → yA [153] m g → (∀ j, zd g 153 j = if 8050 * q + at' ≤ j ∧ j < 8050 * q + at' + y then zd m 167 (j - (8050 * q + at')) else zd m 153 j) → (∀ g, yA [153] m g → (∀ j, zd g 153 j = if 8050 * q + at' ≤ j ∧ j < 8050 * q + at' + n then zd m 167 (j - (8050 * q + at')) else zd m 153 j) → K g) → P_M_record_L24 q n r at' Q K f y g := by
    intro d
    induction d with
    | zero =>
      intro f y g K hy y0 hf gA iv kk
      obtain ⟨f, rfl⟩ : ∃ m, f = m + 1 := ⟨f - 1, by omega⟩
      have ey : y = n := by omega
      rw [ey] at iv
      unfold P_M_record_L24
      rw [if_pos (by omega)]
      exact kk g gA iv
    | succ d ih =>
      intro f y g K hy y0 hf gA iv kk
      obtain ⟨f, rfl⟩ : ∃ m, f = m + 1 := ⟨f - 1, by omega⟩
      unfold P_M_record_L24
      simp only [w32_al, w32_ar, w32_sl, w32_sr, w32_ml, w32_mr]
      rw [if_neg (by omega), gA.d (b := 167) (by decide), w32_of (x := 8050 * q + at' + y) (by omega) (by omega)]
      refine ⟨⟨by omega, by omega⟩, ⟨by omega, by omega⟩, ?_⟩
      intro h3 e3 x5 e5
      rw [w32_of (by omega) (by omega)] at e5
      rw [e5, e3]
      refine ih f (y + 1) _ K (by omega) (by omega) (by omega) (gA.w (by simp)) (fun j => ?_) kk
      by_cases c : j = 8050 * q + at' + y
      · rw [c, zd_s, if_pos (by omega)]; congr 1; omega
      · rw [zd_i c, iv j]
        by_cases z : 8050 * q + at' ≤ j ∧ j < 8050 * q + at' + y
        · rw [if_pos z, if_pos (by omega)]
        · rw [if_neg z, if_neg (by omega)]
  have k2 : ∀ (d f : Nat) (y : Int) (g g0 : zH), y = 8 - d → 0 ≤ y → d < f → yA [158] g0 g → zd g0 154 q = r → (∀ j, zd g 158 j = if 8 * (800 * q + r) ≤ j ∧ j < 8 * (800 * q + r) + y then zd g0 160 (j - 8 * (800 * q + r)) else zd g0 158 j) → (∀ g', yA [154, 158] g0 g' → (∀ j, zd g' 154 j = if j = q then r + 1 else zd g0 154 j) → (∀ j, zd g' 158 j = if 8 * (800 * q + r) ≤ j ∧ j < 8 * (800 * q + r) + 8 then zd g0 160 (j - 8 * (800 * q + r)) else zd g0 158 j) → Q 0 g') → P_M_record_L80 q r Q f y g := by
    intro d
    induction d with
    | zero =>
      intro f y g g0 hy y0 hf gA g4 iv kk
      obtain ⟨f, rfl⟩ : ∃ m, f = m + 1 := ⟨f - 1, by omega⟩
      have ey : y = 8 := by omega
      rw [ey] at iv
      unfold P_M_record_L80
      rw [if_pos (by omega), gA.d (b := 154) (by decide), g4, w32_of (x := r + 1) (by omega) (by omega)]
      refine ⟨⟨by omega, by omega⟩, ⟨by omega, by omega⟩, ?_⟩
      intro h7 e7
      refine kk h7 (by rw [e7]; exact (gA.mono (by simp)).w (by simp)) (fun j => ?_) (fun j => by rw [e7, zd_a (by decide)]; exact iv j)
      rw [e7]
      by_cases c : j = q
      · rw [if_pos c, c, zd_s]
      · rw [if_neg c, zd_i c, gA.d (b := 154) (by decide)]
    | succ d ih =>
      intro f y g g0 hy y0 hf gA g4 iv kk
      obtain ⟨f, rfl⟩ : ∃ m, f = m + 1 := ⟨f - 1, by omega⟩
      unfold P_M_record_L80
      simp only [w32_al, w32_ar, w32_sl, w32_sr, w32_ml, w32_mr]
      rw [if_neg (by omega), gA.d (b := 160) (by decide), w32_of (x := 8 * (800 * q + r) + y) (by omega) (by omega)]
      refine ⟨⟨by omega, by omega⟩, ⟨by omega, by omega⟩, ?_⟩
      intro h8 e8 x5 e5
      rw [w32_of (by omega) (by omega)] at e5
      rw [e5, e8]
      refine ih f (y + 1) _ g0 (by omega) (by omega) (by omega) (gA.w (by simp)) g4 (fun j => ?_) kk
      by_cases c : j = 8 * (800 * q + r) + y
      · rw [c, zd_s, if_pos (by omega)]; congr 1; omega
      · rw [zd_i c, iv j]
        by_cases z : 8 * (800 * q + r) ≤ j ∧ j < 8 * (800 * q + r) + y
        · rw [if_pos z, if_pos (by omega)]
        · rw [if_neg z, if_neg (by omega)]
  unfold P_M_record
  simp only [w32_al, w32_ar, w32_sl, w32_sr, w32_ml, w32_mr]
  refine ⟨⟨by omega, by omega⟩, ?_⟩
  intro x3 e3
  rw [e3, er, w32_of (x := 801 * q + r) (by omega) (by omega), w32_of (x := 801 * q + r + 1) (by omega) (by omega)]
  refine ⟨⟨by omega, by omega⟩, ?_⟩
  intro x4 e4
  rw [e4, ea]
  refine ⟨n.toNat + 1, k1 n.toNat _ 0 m _ (by omega) (by omega) (by omega) (yA.rf _ _) (fun j => by rw [if_neg (by omega)]) (fun h5 p1 p2 => ?_)⟩
  rw [w32_of (x := at' + n) (by omega) (by omega)]
  refine ⟨⟨by omega, by omega⟩, ?_⟩
  intro h6 e6
  have A6 : yA [152, 153] m h6 := by rw [e6]; exact (p1.mono (by simp)).w (by simp)
  refine ⟨9, k2 8 9 0 h6 h6 (by decide) (by decide) (by decide) (yA.rf _ _) (by rw [A6.d (b := 154) (by decide)]; exact er) (fun j => by rw [if_neg (by omega)]) (fun g' r1' r2' r3' => ?_)⟩
  refine k g' ⟨(A6.mono (by simp)).tr (r1'.mono (by simp)), fun j => ?_, fun j => ?_, fun j => ?_, fun j => ?_⟩
  · rw [er, ea, r1'.d (b := 153) (by decide), e6, zd_a (by decide)]; exact p2 j
  · rw [er, ea, r1'.d (b := 152) (by decide), e6]
    by_cases c : j = 801 * q + r + 1
    · rw [if_pos c, c, zd_s]
    · rw [if_neg c, zd_i c, p1.d (b := 152) (by decide)]
  · rw [er, r2' j, A6.d (b := 154) (by decide)]
  · rw [er, r3' j, A6.d (b := 160) (by decide), A6.d (b := 158) (by decide)]
