/-! weights rise, here and there -/
def hv1 (was w : Int → Int) (rise n : Int) : Int := if was n = 0 then w n else w n + rise
def hbig (was w : Int → Int) (rise A : Int) : Prop := ∃ n, 1 ≤ n ∧ n ≤ A ∧ 1000000000000 < hv1 was w rise n
/-- what rises -/
def hvP (was w : Int → Int) (rise A : Int) (w' : Int → Int) (rise' : Int) : Prop := (¬ hbig was w rise A ∧ (∀ n, 1 ≤ n → n ≤ A → w' n = hv1 was w rise n) ∧ rise' = rise + rise / 8) ∨ (hbig was w rise A ∧ (∀ n, 1 ≤ n → n ≤ A → w' n = hv1 was w rise n / 1048576) ∧ rise' = if (rise + rise / 8) / 1048576 < 1 then 1 else (rise + rise / 8) / 1048576)
theorem hv_u {was was' w w2 w' w2' : Int → Int} {rise A r' r2' : Int} (h1 : ∀ n, 1 ≤ n → n ≤ A → was n = was' n) (h2 : ∀ n, 1 ≤ n → n ≤ A → w n = w2 n) (p : hvP was w rise A w' r') (q : hvP was' w2 rise A w2' r2') : (∀ n, 1 ≤ n → n ≤ A → w' n = w2' n) ∧ r' = r2' := by
  have e : ∀ n, 1 ≤ n → n ≤ A → hv1 was w rise n = hv1 was' w2 rise n := fun n n0 n1 => by unfold hv1; rw [h1 n n0 n1, h2 n n0 n1]
  have eb : hbig was w rise A ↔ hbig was' w2 rise A := by
    unfold hbig
    constructor
    · rintro ⟨n, n0, n1, n2⟩; exact ⟨n, n0, n1, by rw [← e n n0 n1]; exact n2⟩
    · rintro ⟨n, n0, n1, n2⟩; exact ⟨n, n0, n1, by rw [e n n0 n1]; exact n2⟩
  rcases p with ⟨p1, p2, p3⟩ | ⟨p1, p2, p3⟩
  · rcases q with ⟨q1, q2, q3⟩ | ⟨q1, q2, q3⟩
    · exact ⟨fun n n0 n1 => by rw [p2 n n0 n1, q2 n n0 n1, e n n0 n1], p3.trans q3.symm⟩
    · exact absurd (eb.mpr q1) p1
  · rcases q with ⟨q1, q2, q3⟩ | ⟨q1, q2, q3⟩
    · exact absurd (eb.mp p1) q1
    · exact ⟨fun n n0 n1 => by rw [p2 n n0 n1, q2 n n0 n1, e n n0 n1], p3.trans q3.symm⟩
theorem hv_b {was w w' : Int → Int} {rise A r' : Int} (hw : ∀ n, 1 ≤ n → n ≤ A → 0 ≤ w n ∧ w n ≤ 1000000000000) (r0 : 1 ≤ rise) (r1 : rise ≤ 1200000000000) (hx : ∃ n, 1 ≤ n ∧ n ≤ A ∧ was n ≠ 0) (p : hvP was w rise A w' r') : (∀ n, 1 ≤ n → n ≤ A → 0 ≤ w' n ∧ w' n ≤ 1000000000000) ∧ 1 ≤ r' ∧ r' ≤ 1200000000000 := by
  rcases p with ⟨p1, p2, p3⟩ | ⟨p1, p2, p3⟩
  · have nb : ∀ n, 1 ≤ n → n ≤ A → hv1 was w rise n ≤ 1000000000000 := by
      intro n n0 n1
      rcases Int.lt_or_le 1000000000000 (hv1 was w rise n) with c | c
      · exact absurd ⟨n, n0, n1, c⟩ p1
      · exact c
    refine ⟨fun n n0 n1 => ?_, ?_⟩
    · rw [p2 n n0 n1]
      have a := nb n n0 n1
      have b := hw n n0 n1
      refine ⟨?_, a⟩
      unfold hv1; split <;> omega
    · obtain ⟨n, n0, n1, n2⟩ := hx
      have a := nb n n0 n1
      have b := hw n n0 n1
      unfold hv1 at a
      rw [if_neg n2] at a
      omega
  · refine ⟨fun n n0 n1 => ?_, ?_⟩
    · rw [p2 n n0 n1]
      have b := hw n n0 n1
      have : 0 ≤ hv1 was w rise n ∧ hv1 was w rise n ≤ 2200000000000 := by unfold hv1; split <;> omega
      omega
    · rw [p3]; split <;> omega
theorem w64i {x : Int} (h1 : -4000000000000 ≤ x) (h2 : x ≤ 4000000000000) : w64 x = x := w64_of (by omega) (by omega)
theorem td8 {x : Int} (h : 0 ≤ x) : Int.tdiv x 8 = x / 8 := Int.tdiv_eq_ediv_of_nonneg h
theorem td20 {x : Int} (h : 0 ≤ x) : Int.tdiv x 1048576 = x / 1048576 := Int.tdiv_eq_ediv_of_nonneg h
theorem zor_b {a b : Int} (ha : a = 0 ∨ a = 1) (hb : b = 0 ∨ b = 1) : zor a b = if a = 0 then b else 1 := by
  rcases ha with rfl | rfl <;> rcases hb with rfl | rfl <;> decide
theorem zcmp_gt {x y : Int} : ¬ zcmp x y ≤ 0 ↔ y < x := by rw [zcmp_le]; omega
theorem E_heavier {e : Int} {h : zH} {Q : Int → zH → Prop} (hA0 : 0 ≤ zd h e 11) (hA : zd h e 11 ≤ 300) (hw : ∀ n, 1 ≤ n → n ≤ zd h e 11 → 0 ≤ zd h (e + 15) n ∧ zd h (e + 15) n ≤ 1000000000000) (r0 : 1 ≤ zd h e 22) (r1 : zd h e 22 ≤ 1200000000000)
    (k : ∀ h', yA [e, e + 15] h h' → (∀ j, j ≠ 22 → zd h' e j = zd h e j) → hvP (zd h (e + 26)) (zd h (e + 15)) (zd h e 22) (zd h e 11) (zd h' (e + 15)) (zd h' e 22) → Q 0 h') : P_E_heavier e h Q := by
  have k1 : ∀ (d f : Nat) (a y : Int) (g : zH) (K : Int → zH → Prop), y = zd h e 11 + 1 - d → 1 ≤ y → d < f → yA [e + 15] h g → (∀ n, 1 ≤ n → n < y → zd g (e + 15) n = hv1 (zd h (e + 26)) (zd h (e + 15)) (zd h e 22) n) → (∀ n, y ≤ n → zd g (e + 15) n = zd h (e + 15) n) → ((a = 0 ∧ ∀ n, 1 ≤ n → n < y → hv1 (zd h (e + 26)) (zd h (e + 15)) (zd h e 22) n ≤ 1000000000000) ∨ (a = 1 ∧ ∃ n, 1 ≤ n ∧ n < y ∧ 1000000000000 < hv1 (zd h (e + 26)) (zd h (e + 15)) (zd h e 22) n)) →
      (∀ a g, yA [e + 15] h g → (∀ n, 1 ≤ n → n ≤ zd h e 11 → zd g (e + 15) n = hv1 (zd h (e + 26)) (zd h (e + 15)) (zd h e 22) n) → ((a = 0 ∧ ¬ hbig (zd h (e + 26)) (zd h (e + 15)) (zd h e 22) (zd h e 11)) ∨ (a = 1 ∧ hbig (zd h (e + 26)) (zd h (e + 15)) (zd h e 22) (zd h e 11))) → K a g) → P_E_heavier_L4 e Q K f a y g := by
    intro d
    induction d with
    | zero =>
      intro f a y g K hy y0 hf gA iv iu ia kk
      obtain ⟨f, rfl⟩ : ∃ m, f = m + 1 := ⟨f - 1, by omega⟩
      unfold P_E_heavier_L4
      rw [gA.f (b := e) (by simp only [List.mem_cons, List.not_mem_nil, or_false]; omega), if_pos (by omega)]
      refine kk a g gA (fun n n0 n1 => iv n n0 (by omega)) ?_
      rcases ia with ⟨a0, a1⟩ | ⟨a0, n, n0, n1, n2⟩
      · exact Or.inl ⟨a0, fun ⟨n, n0, n1, n2⟩ => by have := a1 n n0 (by omega); omega⟩
      · exact Or.inr ⟨a0, n, n0, by omega, n2⟩
    | succ d ih =>
      intro f a y g K hy y0 hf gA iv iu ia kk
      obtain ⟨f, rfl⟩ : ∃ m, f = m + 1 := ⟨f - 1, by omega⟩
      have wy := hw y y0 (by omega)
      unfold P_E_heavier_L4 P_E_heavier_J36 P_E_heavier_J57
      rw [gA.f (b := e) (by simp only [List.mem_cons, List.not_mem_nil, or_false]; omega), gA.f (b := e + 26) (by simp only [List.mem_cons, List.not_mem_nil, or_false]; omega), if_neg (by omega), iu y (Int.le_refl _)]
      refine ⟨⟨by omega, by omega⟩, ⟨by omega, by omega⟩, ⟨by omega, by omega⟩, ?_⟩
      have ehv : zd h (e + 15) y + (if zd h (e + 26) y = 0 then 0 else zd h e 22) = hv1 (zd h (e + 26)) (zd h (e + 15)) (zd h e 22) y := by unfold hv1; split <;> omega
      have hr : 0 ≤ hv1 (zd h (e + 26)) (zd h (e + 15)) (zd h e 22) y ∧ hv1 (zd h (e + 26)) (zd h (e + 15)) (zd h e 22) y ≤ 2200000000000 := by unfold hv1; split <;> omega
      rw [ehv, w64i (by omega) (by omega)]
      intro h1 e1
      have v1 : zd h1 (e + 15) y = hv1 (zd h (e + 26)) (zd h (e + 15)) (zd h e 22) y := by rw [e1, zd_s]
      rw [v1]
      refine ⟨⟨by omega, by omega⟩, ?_⟩
      have ab : a = 0 ∨ a = 1 := by rcases ia with ⟨z, _⟩ | ⟨z, _⟩ <;> omega
      have cb : (if zcmp (hv1 (zd h (e + 26)) (zd h (e + 15)) (zd h e 22) y) 1000000000000 ≤ 0 then (0 : Int) else 1) = 0 ∨ (if zcmp (hv1 (zd h (e + 26)) (zd h (e + 15)) (zd h e 22) y) 1000000000000 ≤ 0 then (0 : Int) else 1) = 1 := by split <;> omega
      rw [zor_b ab cb]
      intro x1 ex1 x2 ex2
      rw [w32_of (by omega) (by omega)] at ex2
      rw [ex2, ex1]
      refine ih f _ (y + 1) h1 K (by omega) (by omega) (by omega) (by rw [e1]; exact gA.w (by simp)) (fun n n0 n1 => ?_) (fun n n0 => by rw [e1, zd_i (by omega)]; exact iu n (by omega)) ?_ kk
      · by_cases c : n = y
        · rw [c, v1]
        · rw [e1, zd_i c]; exact iv n n0 (by omega)
      · rcases ia with ⟨a0, a1⟩ | ⟨a0, n, n0, n1, n2⟩
        · rw [if_pos a0]
          by_cases c : zcmp (hv1 (zd h (e + 26)) (zd h (e + 15)) (zd h e 22) y) 1000000000000 ≤ 0
          · rw [if_pos c]
            refine Or.inl ⟨rfl, fun n n0 n1 => ?_⟩
            by_cases z : n = y
            · rw [z]; exact zcmp_le.mp c
            · exact a1 n n0 (by omega)
          · rw [if_neg c]
            exact Or.inr ⟨rfl, y, y0, by omega, zcmp_gt.mp c⟩
        · rw [if_neg (by omega)]
          exact Or.inr ⟨rfl, n, n0, by omega, n2⟩
  have k2 : ∀ (d f : Nat) (y : Int) (g g0 : zH), y = zd h e 11 + 1 - d → 1 ≤ y → d < f → yA [e + 15] g0 g → zd g0 e 11 = zd h e 11 → (∀ n, 1 ≤ n → n ≤ zd h e 11 → 0 ≤ zd g0 (e + 15) n ∧ zd g0 (e + 15) n ≤ 2200000000000) → (0 ≤ zd g0 e 22 ∧ zd g0 e 22 ≤ 2000000000000) → (∀ n, 1 ≤ n → n < y → zd g (e + 15) n = zd g0 (e + 15) n / 1048576) → (∀ n, y ≤ n → zd g (e + 15) n = zd g0 (e + 15) n) → (∀ g', yA [e, e + 15] g0 g' → (∀ j, j ≠ 22 → zd g' e j = zd g0 e j) → (∀ n, 1 ≤ n → n ≤ zd h e 11 → zd g' (e + 15) n = zd g0 (e + 15) n / 1048576) → zd g' e 22 = (if zd g0 e 22 / 1048576 < 1 then 1 else zd g0 e 22 / 1048576) → Q 0 g') → P_E_heavier_L88 e Q f y g := by
    intro d
    induction d with
    | zero =>
      intro f y g g0 hy y0 hf gA g11 gw gr iv iu kk
      obtain ⟨f, rfl⟩ : ∃ m, f = m + 1 := ⟨f - 1, by omega⟩
      unfold P_E_heavier_L88
      rw [gA.f (b := e) (by simp only [List.mem_cons, List.not_mem_nil, or_false]; omega), g11, if_pos (by omega), td20 gr.1, w64i (by omega) (by omega)]
      intro h6 e6
      refine kk h6 (by rw [e6]; exact (gA.mono (by simp)).w (by simp)) (fun j nj => by rw [e6, zd_i nj, gA.d (b := e) (by simp only [List.mem_cons, List.not_mem_nil, or_false]; omega)]) (fun n n0 n1 => by rw [e6, zd_a (by omega)]; exact iv n n0 (by omega)) ?_
      rw [e6, zd_s]; unfold zmaxl; rfl
    | succ d ih =>
      intro f y g g0 hy y0 hf gA g11 gw gr iv iu kk
      obtain ⟨f, rfl⟩ : ∃ m, f = m + 1 := ⟨f - 1, by omega⟩
      have wy := gw y y0 (by omega)
      unfold P_E_heavier_L88
      rw [gA.f (b := e) (by simp only [List.mem_cons, List.not_mem_nil, or_false]; omega), g11, if_neg (by omega), iu y (Int.le_refl _), td20 wy.1, w64i (by omega) (by omega)]
      refine ⟨⟨by omega, by omega⟩, ⟨by omega, by omega⟩, ?_⟩
      intro h7 e7 x2 ex2
      rw [w32_of (by omega) (by omega)] at ex2
      rw [ex2, e7]
      refine ih f (y + 1) _ g0 (by omega) (by omega) (by omega) (gA.w (by simp)) g11 gw gr (fun n n0 n1 => ?_) (fun n n0 => by rw [zd_i (by omega)]; exact iu n (by omega)) kk
      by_cases c : n = y
      · rw [c, zd_s]
      · rw [zd_i c]; exact iv n n0 (by omega)
  unfold P_E_heavier
  refine ⟨(zd h e 11).toNat + 1, k1 (zd h e 11).toNat _ 0 1 h _ (by omega) (by omega) (by omega) (yA.rf _ _) (fun n n0 n1 => by omega) (fun _ _ => rfl) (Or.inl ⟨rfl, fun n n0 n1 => by omega⟩) (fun a g gA iv ia => ?_)⟩
  rw [gA.f (b := e) (by simp only [List.mem_cons, List.not_mem_nil, or_false]; omega), td8 (by omega), w64i (x := zd h e 22 / 8) (by omega) (by omega), w64i (by omega) (by omega)]
  intro h5 e5
  have hr : ∀ n, 1 ≤ n → n ≤ zd h e 11 → 0 ≤ hv1 (zd h (e + 26)) (zd h (e + 15)) (zd h e 22) n ∧ hv1 (zd h (e + 26)) (zd h (e + 15)) (zd h e 22) n ≤ 2200000000000 := by
    intro n n0 n1
    have := hw n n0 n1
    unfold hv1; split <;> omega
  have A5 : yA [e, e + 15] h h5 := by rw [e5]; exact (gA.mono (by simp)).w (by simp)
  have f5 : ∀ j, j ≠ 22 → zd h5 e j = zd h e j := fun j nj => by rw [e5, zd_i nj, gA.d (b := e) (by simp only [List.mem_cons, List.not_mem_nil, or_false]; omega)]
  have r5 : zd h5 e 22 = zd h e 22 + zd h e 22 / 8 := by rw [e5, zd_s]
  have v5 : ∀ n, 1 ≤ n → n ≤ zd h e 11 → zd h5 (e + 15) n = hv1 (zd h (e + 26)) (zd h (e + 15)) (zd h e 22) n := fun n n0 n1 => by rw [e5, zd_a (by omega)]; exact iv n n0 n1
  rcases ia with ⟨a0, nb⟩ | ⟨a0, b⟩
  · rw [if_pos a0]
    exact k h5 A5 f5 (Or.inl ⟨nb, v5, r5⟩)
  · rw [if_neg (by omega)]
    refine ⟨(zd h e 11).toNat + 1, k2 (zd h e 11).toNat _ 1 h5 h5 (by omega) (by omega) (by omega) (yA.rf _ _) (f5 11 (by decide)) (fun n n0 n1 => by rw [v5 n n0 n1]; exact hr n n0 n1) (by rw [r5]; omega) (fun n n0 n1 => by omega) (fun _ _ => rfl) (fun g' p1 p2 p3 p4 => ?_)⟩
    refine k g' (A5.tr p1) (fun j nj => by rw [p2 j nj, f5 j nj]) (Or.inr ⟨b, fun n n0 n1 => by rw [p3 n n0 n1, v5 n n0 n1], by rw [p4, r5]⟩)
theorem M_raise {q A : Int} {m : zH} {Q : Int → zH → Prop} (q0 : 0 ≤ q) (q1 : q ≤ 1) (hA0 : 0 ≤ A) (hA : A ≤ 300) (hn : zd m 137 q = A) (hg : ∀ n, 1 ≤ n → n ≤ A → zd m 169 n = 0 ∨ zd m 169 n = 1) (hw : ∀ n, 1 ≤ n → n ≤ A → 0 ≤ zd m 147 (301 * q + n) ∧ zd m 147 (301 * q + n) ≤ 1000000000000) (r0 : 1 ≤ zd m 148 q) (r1 : zd m 148 q ≤ 1200000000000)
    (k : ∀ m', yA [147, 148] m m' → (∀ j, j ≠ q → zd m' 148 j = zd m 148 j) → (∀ j, j < 301 * q + 1 ∨ 301 * q + A < j → zd m' 147 j = zd m 147 j) → hvP (zd m 169) (fun n => zd m 147 (301 * q + n)) (zd m 148 q) A (fun n => zd m' 147 (301 * q + n)) (zd m' 148 q) → Q (zct (zd m 169) 1 1 A.toNat) m') : P_M_raise q m Q := by
  have k1 : ∀ (d f : Nat) (c a y : Int) (g : zH) (K : Int → Int → zH → Prop), y = A + 1 - d → 1 ≤ y → d < f → yA [147] m g → c = zct (zd m 169) 1 1 (y - 1).toNat → (∀ j, j < 301 * q + 1 ∨ 301 * q + A < j → zd g 147 j = zd m 147 j) → (∀ n, 1 ≤ n → n < y → zd g 147 (301 * q + n) = hv1 (zd m 169) (fun n => zd m 147 (301 * q + n)) (zd m 148 q) n) → (∀ n, y ≤ n → zd g 147 (301 * q + n) = zd m 147 (301 * q + n)) → ((a = 0 ∧ ∀ n, 1 ≤ n → n < y → hv1 (zd m 169) (fun n => zd m 147 (301 * q + n)) (zd m 148 q) n ≤ 1000000000000) ∨ (a = 1 ∧ ∃ n, 1 ≤ n ∧ n < y ∧ 1000000000000 < hv1 (zd m 169) (fun n => zd m 147 (301 * q + n)) (zd m 148 q) n)) →
      (∀ a g, yA [147] m g → (∀ j, j < 301 * q + 1 ∨ 301 * q + A < j → zd g 147 j = zd m 147 j) → (∀ n, 1 ≤ n → n ≤ A → zd g 147 (301 * q + n) = hv1 (zd m 169) (fun n => zd m 147 (301 * q + n)) (zd m 148 q) n) → ((a = 0 ∧ ¬ hbig (zd m 169) (fun n => zd m 147 (301 * q + n)) (zd m 148 q) A) ∨ (a = 1 ∧ hbig (zd m 169) (fun n => zd m 147 (301 * q + n)) (zd m 148 q) A)) → K (zct (zd m 169) 1 1 A.toNat) a g) → P_M_raise_L7 q Q K f c a y g := by
    intro d
    induction d with
    | zero =>
      intro f c a y g K hy y0 hf gA hc io iv iu ia kk
      obtain ⟨f, rfl⟩ : ∃ m, f = m + 1 := ⟨f - 1, by omega⟩
      unfold P_M_raise_L7
      rw [gA.d (b := 137) (by decide), hn, if_pos (by omega)]
      rw [show (y - 1).toNat = A.toNat by omega] at hc
      rw [hc]
      refine ⟨⟨by omega, by omega⟩, kk a g gA io (fun n n0 n1 => iv n n0 (by omega)) ?_⟩
      rcases ia with ⟨a0, a1⟩ | ⟨a0, n, n0, n1, n2⟩
      · exact Or.inl ⟨a0, fun ⟨n, n0, n1, n2⟩ => by have := a1 n n0 (by omega); omega⟩
      · exact Or.inr ⟨a0, n, n0, by omega, n2⟩
    | succ d ih =>
      intro f c a y g K hy y0 hf gA hc io iv iu ia kk
      obtain ⟨f, rfl⟩ : ∃ m, f = m + 1 := ⟨f - 1, by omega⟩
      have wy := hw y y0 (by omega)
      have gy := hg y y0 (by omega)
      have zl := zct_le (zd m 169) 1 1 (y - 1).toNat
      have st : w32 (y + 1) = y + 1 := w32_of (by omega) (by omega)
      have cnt : zct (zd m 169) 1 1 (y + 1 - 1).toNat = zct (zd m 169) 1 1 (y - 1).toNat + if zd m 169 y = 1 then 1 else 0 := by
        rw [show (y + 1 - 1).toNat = (y - 1).toNat + 1 by omega]
        show zct (zd m 169) 1 1 (y - 1).toNat + (if zd m 169 (1 + ((y - 1).toNat : Int)) = 1 then 1 else 0) = _
        rw [show 1 + ((y - 1).toNat : Int) = y by omega]
      unfold P_M_raise_L7 P_M_raise_J82 P_M_raise_J83
      simp only [w32_al, w32_ar, w32_sl, w32_sr, w32_ml, w32_mr]
      rw [gA.d (b := 137) (by decide), hn, if_neg (by omega), gA.d (b := 169) (by decide), gA.d (b := 148) (by decide), w32_of (x := 301 * q + y) (by omega) (by omega), st, iu y (Int.le_refl _)]
      refine ⟨⟨by omega, by omega⟩, ⟨by omega, by omega⟩, zif_i (fun z => ?_) (fun z => ?_)⟩
      · intro x4 e4
        rw [e4]
        have ehv : hv1 (zd m 169) (fun n => zd m 147 (301 * q + n)) (zd m 148 q) y = zd m 147 (301 * q + y) := by unfold hv1; rw [if_pos z]
        refine ih f c a (y + 1) g K (by omega) (by omega) (by omega) gA (by rw [cnt, if_neg (by omega)]; omega) io (fun n n0 n1 => ?_) (fun n n0 => iu n (by omega)) ?_ kk
        · by_cases w : n = y
          · rw [w, ehv]; exact iu y (Int.le_refl _)
          · exact iv n n0 (by omega)
        · rcases ia with ⟨a0, a1⟩ | ⟨a0, n, n0, n1, n2⟩
          · refine Or.inl ⟨a0, fun n n0 n1 => ?_⟩
            by_cases w : n = y
            · rw [w, ehv]; exact wy.2
            · exact a1 n n0 (by omega)
          · exact Or.inr ⟨a0, n, n0, by omega, n2⟩
      · have ehv : hv1 (zd m 169) (fun n => zd m 147 (301 * q + n)) (zd m 148 q) y = zd m 147 (301 * q + y) + zd m 148 q := by unfold hv1; rw [if_neg z]
        rw [w64i (by omega) (by omega), w32_of (x := c + 1) (by omega) (by omega)]
        refine ⟨⟨by omega, by omega⟩, ⟨by omega, by omega⟩, ⟨by omega, by omega⟩, ?_⟩
        intro h2 e2 x2 ex2
        refine ⟨zif_i (fun _ => ⟨⟨by omega, by omega⟩, trivial⟩) (fun _ => trivial), ?_⟩
        have v2 : zd h2 147 (301 * q + y) = hv1 (zd m 169) (fun n => zd m 147 (301 * q + n)) (zd m 148 q) y := by rw [e2, zd_s, ehv]
        rw [v2, ex2]
        intro x4 e4
        rw [e4]
        refine ih f _ _ (y + 1) h2 K (by omega) (by omega) (by omega) (by rw [e2]; exact gA.w (by simp)) (by rw [cnt, if_pos (by omega), hc]) (fun j hj => by rw [e2, zd_i (by omega)]; exact io j hj) (fun n n0 n1 => ?_) (fun n n0 => by rw [e2, zd_i (by omega)]; exact iu n (by omega)) ?_ kk
        · by_cases w : n = y
          · rw [w, v2]
          · rw [e2, zd_i (by omega)]; exact iv n n0 (by omega)
        · rcases ia with ⟨a0, a1⟩ | ⟨a0, n, n0, n1, n2⟩
          · rw [if_pos a0]
            by_cases w : zcmp (hv1 (zd m 169) (fun n => zd m 147 (301 * q + n)) (zd m 148 q) y) 1000000000000 ≤ 0
            · rw [if_pos w]
              refine Or.inl ⟨rfl, fun n n0 n1 => ?_⟩
              by_cases z : n = y
              · rw [z]; exact zcmp_le.mp w
              · exact a1 n n0 (by omega)
            · rw [if_neg w]
              exact Or.inr ⟨rfl, y, y0, by omega, zcmp_gt.mp w⟩
          · rw [if_neg (by omega)]
            exact Or.inr ⟨rfl, n, n0, by omega, n2⟩
  have k2 : ∀ (d f : Nat) (c y : Int) (g g0 : zH) (K : zH → Prop), y = A + 1 - d → 1 ≤ y → d < f → yA [147] g0 g → zd g0 137 q = A → (∀ n, 1 ≤ n → n ≤ A → 0 ≤ zd g0 147 (301 * q + n) ∧ zd g0 147 (301 * q + n) ≤ 2200000000000) → (∀ j, j < 301 * q + 1 ∨ 301 * q + A < j → zd g 147 j = zd g0 147 j) → (∀ n, 1 ≤ n → n < y → zd g 147 (301 * q + n) = zd g0 147 (301 * q + n) / 1048576) → (∀ n, y ≤ n → zd g 147 (301 * q + n) = zd g0 147 (301 * q + n)) → (∀ g', yA [147] g0 g' → (∀ j, j < 301 * q + 1 ∨ 301 * q + A < j → zd g' 147 j = zd g0 147 j) → (∀ n, 1 ≤ n → n ≤ A → zd g' 147 (301 * q + n) = zd g0 147 (301 * q + n) / 1048576) → K g') → P_M_raise_L115 q c Q K f y g := by
    intro d
    induction d with
    | zero =>
      intro f c y g g0 K hy y0 hf gA g11 gw io iv iu kk
      obtain ⟨f, rfl⟩ : ∃ m, f = m + 1 := ⟨f - 1, by omega⟩
      unfold P_M_raise_L115
      rw [gA.d (b := 137) (by decide), g11, if_pos (by omega)]
      exact ⟨⟨by omega, by omega⟩, kk g gA io (fun n n0 n1 => iv n n0 (by omega))⟩
    | succ d ih =>
      intro f c y g g0 K hy y0 hf gA g11 gw io iv iu kk
      obtain ⟨f, rfl⟩ : ∃ m, f = m + 1 := ⟨f - 1, by omega⟩
      have wy := gw y y0 (by omega)
      unfold P_M_raise_L115
      simp only [w32_al, w32_ar, w32_sl, w32_sr, w32_ml, w32_mr]
      rw [gA.d (b := 137) (by decide), g11, if_neg (by omega), w32_of (x := 301 * q + y) (by omega) (by omega), iu y (Int.le_refl _), td20 wy.1, w64i (by omega) (by omega)]
      refine ⟨⟨by omega, by omega⟩, ⟨by omega, by omega⟩, ⟨by omega, by omega⟩, ?_⟩
      intro h6 e6 x4 e4
      rw [w32_of (by omega) (by omega)] at e4
      rw [e4, e6]
      refine ih f c (y + 1) _ g0 K (by omega) (by omega) (by omega) (gA.w (by simp)) g11 gw (fun j hj => by rw [zd_i (by omega)]; exact io j hj) (fun n n0 n1 => ?_) (fun n n0 => by rw [zd_i (by omega)]; exact iu n (by omega)) kk
      by_cases w : n = y
      · rw [w, zd_s]
      · rw [zd_i (by omega)]; exact iv n n0 (by omega)
  unfold P_M_raise
  refine ⟨A.toNat + 1, k1 A.toNat _ 0 0 1 m _ (by omega) (by omega) (by omega) (yA.rf _ _) rfl (fun _ _ => rfl) (fun n n0 n1 => by omega) (fun _ _ => rfl) (Or.inl ⟨rfl, fun n n0 n1 => by omega⟩) (fun a g gA io iv ia => ?_)⟩
  rw [gA.d (b := 148) (by decide), td8 (by omega), w64i (x := zd m 148 q / 8) (by omega) (by omega), w64i (by omega) (by omega)]
  refine ⟨⟨by omega, by omega⟩, ⟨by omega, by omega⟩, ⟨by omega, by omega⟩, ?_⟩
  intro h5 e5
  have hr : ∀ n, 1 ≤ n → n ≤ A → 0 ≤ hv1 (zd m 169) (fun n => zd m 147 (301 * q + n)) (zd m 148 q) n ∧ hv1 (zd m 169) (fun n => zd m 147 (301 * q + n)) (zd m 148 q) n ≤ 2200000000000 := by
    intro n n0 n1
    have := hw n n0 n1
    simp only [hv1]; split <;> omega
  have A5 : yA [147, 148] m h5 := by rw [e5]; exact (gA.mono (by simp)).w (by simp)
  have o5 : ∀ j, j ≠ q → zd h5 148 j = zd m 148 j := fun j nj => by rw [e5, zd_i nj, gA.d (b := 148) (by decide)]
  have r5 : zd h5 148 q = zd m 148 q + zd m 148 q / 8 := by rw [e5, zd_s]
  have i5 : ∀ j, j < 301 * q + 1 ∨ 301 * q + A < j → zd h5 147 j = zd m 147 j := fun j hj => by rw [e5, zd_a (by decide)]; exact io j hj
  have v5 : ∀ n, 1 ≤ n → n ≤ A → zd h5 147 (301 * q + n) = hv1 (zd m 169) (fun n => zd m 147 (301 * q + n)) (zd m 148 q) n := fun n n0 n1 => by rw [e5, zd_a (by decide)]; exact iv n n0 n1
  rcases ia with ⟨a0, nb⟩ | ⟨a0, b⟩
  · rw [if_pos a0]
    exact k h5 A5 o5 i5 (Or.inl ⟨nb, v5, r5⟩)
  · rw [if_neg (by omega)]
    refine ⟨A.toNat + 1, k2 A.toNat _ _ 1 h5 h5 _ (by omega) (by omega) (by omega) (yA.rf _ _) (by rw [A5.d (b := 137) (by decide)]; exact hn) (fun n n0 n1 => by rw [v5 n n0 n1]; exact hr n n0 n1) (fun _ _ => rfl) (fun n n0 n1 => by omega) (fun _ _ => rfl) (fun g' p1 p2 p3 => ?_)⟩
    rw [p1.d (b := 148) (by decide), r5, td20 (by omega), w64i (by omega) (by omega)]
    refine ⟨⟨by omega, by omega⟩, ⟨by omega, by omega⟩, ?_⟩
    intro h9 e9
    have r9 : zd h9 148 q = (zd m 148 q + zd m 148 q / 8) / 1048576 := by rw [e9, zd_s]
    rw [r9]
    refine ⟨⟨by omega, by omega⟩, zif_i (fun _ => ⟨⟨by omega, by omega⟩, trivial⟩) (fun _ => trivial), ⟨by omega, by omega⟩, ?_⟩
    intro h10 e10
    refine k h10 (by rw [e10, e9]; exact ((A5.tr (p1.mono (by simp))).w (by simp)).w (by simp)) (fun j nj => by rw [e10, zd_i nj, e9, zd_i nj, p1.d (b := 148) (by decide), o5 j nj]) (fun j hj => by rw [e10, zd_a (by decide), e9, zd_a (by decide), p2 j hj, i5 j hj]) (Or.inr ⟨b, fun n n0 n1 => ?_, ?_⟩)
    · show zd h10 147 (301 * q + n) = _
      rw [e10, zd_a (by decide), e9, zd_a (by decide), p3 n n0 n1, v5 n n0 n1]
    · rw [e10, zd_s]
      have : 0 ≤ zcmp ((zd m 148 q + zd m 148 q / 8) / 1048576) 1 ↔ ¬ (zd m 148 q + zd m 148 q / 8) / 1048576 < 1 := by unfold zcmp; split <;> (try split) <;> omega
      by_cases z : (zd m 148 q + zd m 148 q / 8) / 1048576 < 1
      · rw [if_pos z, if_neg (by rw [this]; omega)]
      · rw [if_neg z, if_pos (this.mpr z)]
