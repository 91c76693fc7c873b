/-! marking a row's names, here and there -/
theorem E_marks {e s but top : Int} {h : zH} {Q : Int → zH → Prop} (hs : ES e h top) (ls : elaid e h s) (s0 : 0 ≤ s) (s1 : s < 1364) (t29 : zt h (e + 29) = 53) (l29 : zl h (e + 29) = 8) (hg : ∀ n, 1 ≤ n → n ≤ zd h e 11 → zd h (e + 25) n = 0 ∨ zd h (e + 25) n = 1)
    (k : ∀ h', yA [e + 25, e + 29] h h' → (∀ n, 1 ≤ n → n ≤ zd h e 11 → (zd h' (e + 25) n = 0 ∨ zd h' (e + 25) n = 1) ∧ (zd h' (e + 25) n = 1 ↔ zd h (e + 25) n = 1 ∨ ∃ c, zd h (e + 1) s ≤ c ∧ c < zd h (e + 1) s + zd h (e + 2) s ∧ zab (zd h (e + 7) c) = n ∧ n ≠ but)) → (∀ w b, 0 ≤ w → w < 8 → b < 64 → hb (zd h' (e + 29) w) b = (hb (zd h (e + 29) w) b || srcE e h s w b)) → Q 0 h') : P_E_marks e s but h Q := by
  obtain ⟨-, ⟨f0, z0, f1⟩, -⟩ := hs.2.2.2.2.2.1 s ls
  have A3 := hs.1
  have C3 := hs.2.1
  unfold P_E_marks
  refine L_addSource t29 (by decide) (by rw [l29]; decide) (by rw [l29]; decide) s0 s1 (by omega) (fun h2 a2 _ b2 => ?_)
  have e1 : zd h2 (e + 1) = zd h (e + 1) := a2.f (by simp only [List.mem_cons, List.not_mem_nil, or_false]; omega)
  have e2 : zd h2 (e + 2) = zd h (e + 2) := a2.f (by simp only [List.mem_cons, List.not_mem_nil, or_false]; omega)
  have e7 : zd h2 (e + 7) = zd h (e + 7) := a2.f (by simp only [List.mem_cons, List.not_mem_nil, or_false]; omega)
  have e25 : zd h2 (e + 25) = zd h (e + 25) := a2.f (by simp only [List.mem_cons, List.not_mem_nil, or_false]; omega)
  have key : ∀ (d f : Nat) (y : Int) (g : zH), y = zd h (e + 1) s + zd h (e + 2) s - d → zd h (e + 1) s ≤ y → d < f → yA [e + 25] h2 g → (∀ n, 1 ≤ n → n ≤ zd h e 11 → (zd g (e + 25) n = 0 ∨ zd g (e + 25) n = 1) ∧ (zd g (e + 25) n = 1 ↔ zd h (e + 25) n = 1 ∨ ∃ c, zd h (e + 1) s ≤ c ∧ c < y ∧ zab (zd h (e + 7) c) = n ∧ n ≠ but)) → P_E_marks_L17 e s but Q f y g := by
    intro d
    induction d with
    | zero =>
      intro f y g hy y0 hf gA gm
      obtain ⟨f, rfl⟩ : ∃ m, f = m + 1 := ⟨f - 1, by omega⟩
      unfold P_E_marks_L17
      rw [gA.f (b := e + 1) (by simp only [List.mem_cons, List.not_mem_nil, or_false]; omega), gA.f (b := e + 2) (by simp only [List.mem_cons, List.not_mem_nil, or_false]; omega), e1, e2, w32_of (x := zd h (e + 1) s + zd h (e + 2) s) (by omega) (by omega), if_pos (by omega)]
      refine ⟨⟨by omega, by omega⟩, ⟨by omega, by omega⟩, ?_⟩
      have ey : y = zd h (e + 1) s + zd h (e + 2) s := by omega
      rw [ey] at gm
      refine k g ((a2.mono (by simp)).tr (gA.mono (by simp))) gm (fun w b w0 w1 bb => ?_)
      rw [gA.f (b := e + 29) (by simp only [List.mem_cons, List.not_mem_nil, or_false]; omega)]
      have := b2 w b w0 w1 bb
      rw [Int.zero_add] at this
      exact this
    | succ d ih =>
      intro f y g hy y0 hf gA gm
      obtain ⟨f, rfl⟩ : ∃ m, f = m + 1 := ⟨f - 1, by omega⟩
      have it := (hs.2.2.2.2.1 y (by omega) (by omega)).1
      have ir := zab_r it
      unfold P_E_marks_L17 P_E_marks_J67
      rw [gA.f (b := e + 1) (by simp only [List.mem_cons, List.not_mem_nil, or_false]; omega), gA.f (b := e + 2) (by simp only [List.mem_cons, List.not_mem_nil, or_false]; omega), gA.f (b := e + 7) (by simp only [List.mem_cons, List.not_mem_nil, or_false]; omega), e1, e2, e7, w32_of (x := zd h (e + 1) s + zd h (e + 2) s) (by omega) (by omega), if_neg (by omega), zabs_of it A3.2, w32_of (x := y + 1) (by omega) (by omega)]
      refine ⟨⟨by omega, by omega⟩, ⟨by omega, by omega⟩, ⟨by omega, by omega⟩, ⟨by omega, by omega⟩, ⟨by omega, by omega⟩, ⟨by omega, by omega⟩, ?_⟩
      intro h4 e4 x3 ex
      rw [ex]
      have old := (gm _ ir.1 ir.2).1
      have val : zbit (zor (zd g (e + 25) (zab (zd h (e + 7) y))) (if zab (zd h (e + 7) y) = but then 0 else 1)) = if zd g (e + 25) (zab (zd h (e + 7) y)) = 1 ∨ zab (zd h (e + 7) y) ≠ but then 1 else 0 := by
        by_cases c : zab (zd h (e + 7) y) = but
        · rw [if_pos c, zor_b old (Or.inl rfl)]
          rcases old with o | o
          · rw [o, if_pos rfl, if_neg (by exact fun x => x.elim (fun z => by omega) (fun z => z c)), zbit_0]
          · rw [o, if_neg (by decide), if_pos (Or.inl rfl), zbit_1]
        · rw [if_neg c, zor_b old (Or.inr rfl), if_pos (Or.inr c)]
          rcases old with o | o
          · rw [o, if_pos rfl, zbit_1]
          · rw [o, if_neg (by decide), zbit_1]
      rw [val] at e4
      refine ih f (y + 1) h4 (by omega) (by omega) (by omega) (by rw [e4]; exact gA.w (by simp)) (fun n n0 n1 => ?_)
      obtain ⟨o1, o2⟩ := gm n n0 n1
      rw [e4, zd_zw]
      by_cases c : n = zab (zd h (e + 7) y)
      · rw [if_pos ⟨rfl, c⟩, ← c]
        by_cases d1 : zd g (e + 25) n = 1 ∨ n ≠ but
        · rw [if_pos d1]
          refine ⟨Or.inr rfl, fun _ => ?_, fun _ => rfl⟩
          by_cases d2 : zd g (e + 25) n = 1
          · rcases o2.mp d2 with x | ⟨c', c0, c1, c2⟩
            · exact Or.inl x
            · exact Or.inr ⟨c', c0, by omega, c2⟩
          · exact Or.inr ⟨y, y0, by omega, c.symm, d1.resolve_left d2⟩
        · rw [if_neg d1]
          refine ⟨Or.inl rfl, fun x => absurd x (by decide), fun x => ?_⟩
          exfalso
          apply d1
          rcases x with x | ⟨c', c0, c1, c2, c3⟩
          · exact Or.inl (o2.mpr (Or.inl x))
          · exact Or.inr c3
      · rw [if_neg (by exact fun x => c x.2)]
        refine ⟨o1, o2.trans (or_congr Iff.rfl ⟨fun ⟨c', c0, c1, c2, c3⟩ => ⟨c', c0, by omega, c2, c3⟩, fun ⟨c', c0, c1, c2, c3⟩ => ⟨c', c0, ?_, c2, c3⟩⟩)⟩
        by_cases z : c' = y
        · rw [z] at c2; exact absurd c2.symm c
        · omega
  refine ⟨⟨by omega, by omega⟩, ?_⟩
  intro x3 ex
  rw [ex, e1]
  refine ⟨(zd h (e + 2) s).toNat + 1, key (zd h (e + 2) s).toNat _ _ h2 (by omega) (Int.le_refl _) (by omega) (yA.rf _ _) (fun n n0 n1 => ?_)⟩
  rw [e25]
  exact ⟨hg n n0 n1, fun x => Or.inl x, fun x => x.elim id (fun ⟨c, c0, c1, _⟩ => by omega)⟩
theorem M_markRow {q A r : Int} {m : zH} {Q : Int → zH → Prop} (q0 : 0 ≤ q) (q1 : q ≤ 1) (hA : A ≤ 300) (hr : MR m q A r) (hg : ∀ n, 1 ≤ n → n ≤ A → zd m 168 n = 0 ∨ zd m 168 n = 1)
    (k : ∀ m', yA [168] m m' → (∀ n, 1 ≤ n → n ≤ A → (zd m' 168 n = 0 ∨ zd m' 168 n = 1) ∧ (zd m' 168 n = 1 ↔ zd m 168 n = 1 ∨ ∃ i, 0 ≤ i ∧ i < msz m q r ∧ zab (mit m q r i) = n)) → Q 0 m') : P_M_markRow q r m Q := by
  have zr := hr.z
  have key : ∀ (d f : Nat) (y : Int) (g : zH), y = msz m q r - d → 0 ≤ y → d < f → yA [168] m g → (∀ n, 1 ≤ n → n ≤ A → (zd g 168 n = 0 ∨ zd g 168 n = 1) ∧ (zd g 168 n = 1 ↔ zd m 168 n = 1 ∨ ∃ i, 0 ≤ i ∧ i < y ∧ zab (mit m q r i) = n)) → P_M_markRow_L10 q r (msz m q r) Q f y g := by
    intro d
    induction d with
    | zero =>
      intro f y g hy y0 hf gA gm
      obtain ⟨f, rfl⟩ : ∃ m, f = m + 1 := ⟨f - 1, by omega⟩
      unfold P_M_markRow_L10
      rw [if_pos (by omega)]
      have ey : y = msz m q r := by omega
      rw [ey] at gm
      exact k g gA gm
    | succ d ih =>
      intro f y g hy y0 hf gA gm
      obtain ⟨f, rfl⟩ : ∃ m, f = m + 1 := ⟨f - 1, by omega⟩
      have it := hr.2 y y0 (by omega)
      have ir := zab_r it
      have g66 : zd g 101 66 = zd m 101 66 := gA.d (by decide) _
      have sz : msz g q r = msz m q r := msz_cg (gA.f (by decide)) g66 (gA.f (by decide)) (gA.f (by decide))
      have mi : ∀ i, mit g q r i = mit m q r i := fun i => mit_cg (gA.f (by decide)) g66 (gA.f (by decide)) (gA.f (by decide)) (gA.f (by decide)) (gA.f (by decide))
      have gr' : MR g q A r := by
        unfold MR
        rw [gA.f (b := 119) (by decide), gA.f (b := 123) (by decide), gA.f (b := 152) (by decide), g66, sz]
        exact ⟨hr.1, fun i i0 i1 => by rw [mi]; exact hr.2 i i0 i1⟩
      unfold P_M_markRow_L10
      rw [if_neg (by omega)]
      refine M_itemOf q0 q1 gr' y0 (by rw [sz]; omega) ?_
      rw [mi]
      refine M_nameOf it hA ⟨⟨by omega, by omega⟩, ?_⟩
      intro h7 e7 x4 ex
      rw [zbit_1] at e7
      rw [w32_of (by omega) (by omega)] at ex
      rw [ex]
      refine ih f (y + 1) h7 (by omega) (by omega) (by omega) (by rw [e7]; exact gA.w (by simp)) (fun n n0 n1 => ?_)
      obtain ⟨o1, o2⟩ := gm n n0 n1
      rw [e7, zd_zw]
      by_cases c : n = zab (mit m q r y)
      · rw [if_pos ⟨rfl, c⟩]
        exact ⟨Or.inr rfl, fun _ => Or.inr ⟨y, y0, by omega, c.symm⟩, fun _ => rfl⟩
      · rw [if_neg (by exact fun x => c x.2)]
        refine ⟨o1, o2.trans (or_congr Iff.rfl ⟨fun ⟨i, i0, i1, i2⟩ => ⟨i, i0, by omega, i2⟩, fun ⟨i, i0, i1, i2⟩ => ⟨i, i0, ?_, i2⟩⟩)⟩
        by_cases z : i = y
        · rw [z] at i2; exact absurd i2.symm c
        · omega
  unfold P_M_markRow
  refine M_sizeOf q0 q1 hr ⟨(msz m q r).toNat + 1, key (msz m q r).toNat _ 0 m (by omega) (by decide) (by omega) (yA.rf _ _) (fun n n0 n1 => ⟨hg n n0 n1, fun x => Or.inl x, fun x => x.elim id (fun ⟨i, i0, i1, _⟩ => by omega)⟩)⟩
