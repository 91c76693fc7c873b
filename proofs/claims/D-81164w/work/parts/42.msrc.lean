/-! the model's sources; become, goBack -/
def srcM (m : zH) (q r w : Int) (k : Nat) : Bool := if r < 1000 then decide (w = r / 64 ∧ (k : Int) = r % 64) else if r < 2000 then false else hb (zd m 158 (8 * (800 * q + r - 2000) + w)) k
theorem td64 {x : Int} (h : 0 ≤ x) : Int.tdiv x 64 = x / 64 := Int.tdiv_eq_ediv_of_nonneg h
theorem tm64 {x : Int} (h : 0 ≤ x) : Int.tmod x 64 = x % 64 := Int.tmod_eq_emod_of_nonneg h
theorem M_clearSources {m : zH} {Q : Int → zH → Prop} (k : ∀ m', yA [160] m m' → (∀ w, 0 ≤ w → w < 8 → zd m' 160 w = 0) → Q 0 m') : P_M_clearSources m Q := by
  have key : ∀ (d f : Nat) (y : Int) (g : zH), y = 8 - d → 0 ≤ y → d < f → yA [160] m g → (∀ w, 0 ≤ w → w < y → zd g 160 w = 0) → P_M_clearSources_L2 Q f y g := by
    intro d
    induction d with
    | zero =>
      intro f y g hy y0 hf gA iv
      obtain ⟨f, rfl⟩ : ∃ m, f = m + 1 := ⟨f - 1, by omega⟩
      unfold P_M_clearSources_L2
      rw [if_pos (by omega)]
      exact k g gA (fun w w0 w1 => iv w w0 (by omega))
    | succ d ih =>
      intro f y g hy y0 hf gA iv
      obtain ⟨f, rfl⟩ : ∃ m, f = m + 1 := ⟨f - 1, by omega⟩
      unfold P_M_clearSources_L2
      rw [if_neg (by omega)]
      refine ⟨⟨by omega, by omega⟩, ?_⟩
      intro h1 e1 x1 ex1
      rw [w32_of (by omega) (by omega)] at ex1
      rw [ex1, e1]
      refine ih f (y + 1) _ (by omega) (by omega) (by omega) (gA.w (by simp)) (fun w w0 w1 => ?_)
      by_cases c : w = y
      · rw [c, zd_s]
      · rw [zd_i c]; exact iv w w0 (by omega)
  unfold P_M_clearSources
  exact ⟨9, key 8 9 0 m (by decide) (by decide) (by decide) (yA.rf _ _) (fun w w0 w1 => by omega)⟩
theorem M_addNameSources {q n : Int} {m : zH} {Q : Int → zH → Prop} (q0 : 0 ≤ q) (q1 : q ≤ 1) (n0 : 0 ≤ n) (n1 : n ≤ 300) (k : ∀ m', yA [160] m m' → (∀ w b, 0 ≤ w → w < 8 → hb (zd m' 160 w) b = (hb (zd m 160 w) b || hb (zd m 159 (8 * (301 * q + n) + w)) b)) → Q 0 m') : P_M_addNameSources q n m Q := by
  have key : ∀ (d f : Nat) (y : Int) (g : zH), y = 8 - d → 0 ≤ y → d < f → yA [160] m g → (∀ w b, 0 ≤ w → w < y → hb (zd g 160 w) b = (hb (zd m 160 w) b || hb (zd m 159 (8 * (301 * q + n) + w)) b)) → (∀ w, y ≤ w → zd g 160 w = zd m 160 w) → P_M_addNameSources_L2 q n Q f y g := by
    intro d
    induction d with
    | zero =>
      intro f y g hy y0 hf gA iv iu
      obtain ⟨f, rfl⟩ : ∃ m, f = m + 1 := ⟨f - 1, by omega⟩
      unfold P_M_addNameSources_L2
      rw [if_pos (by omega)]
      exact k g gA (fun w b w0 w1 => iv w b w0 (by omega))
    | succ d ih =>
      intro f y g hy y0 hf gA iv iu
      obtain ⟨f, rfl⟩ : ∃ m, f = m + 1 := ⟨f - 1, by omega⟩
      unfold P_M_addNameSources_L2
      simp only [w32_al, w32_ar, w32_sl, w32_sr, w32_ml, w32_mr]
      rw [if_neg (by omega), w32_of (x := 8 * (301 * q + n) + y) (by omega) (by omega)]
      refine ⟨⟨by omega, by omega⟩, ⟨by omega, by omega⟩, ⟨by omega, by omega⟩, ?_⟩
      intro h1 e1 x1 ex1
      rw [w32_of (by omega) (by omega)] at ex1
      rw [ex1, e1]
      refine ih f (y + 1) _ (by omega) (by omega) (by omega) (gA.w (by simp)) (fun w b w0 w1 => ?_) (fun w w0 => by rw [zd_i (by omega)]; exact iu w (by omega))
      by_cases c : w = y
      · rw [c, zd_s, hb_or, iu y (by omega), gA.d (b := 159) (by decide)]
      · rw [zd_i c]; exact iv w b w0 (by omega)
  unfold P_M_addNameSources
  exact ⟨9, key 8 9 0 m (by decide) (by decide) (by decide) (yA.rf _ _) (fun w b w0 w1 => by omega) (fun _ _ => rfl)⟩
theorem M_addSources {q r : Int} {m : zH} {Q : Int → zH → Prop} (q0 : 0 ≤ q) (q1 : q ≤ 1) (hr : (0 ≤ r ∧ r < 500) ∨ (1000 ≤ r ∧ r < 2800)) (k : ∀ m', yA [160] m m' → (∀ w b, 0 ≤ w → w < 8 → b < 64 → hb (zd m' 160 w) b = (hb (zd m 160 w) b || srcM m q r w b)) → Q 0 m') : P_M_addSources q r m Q := by
  have key : ∀ (d f : Nat) (y : Int) (g : zH), 2000 ≤ r → y = 8 - d → 0 ≤ y → d < f → yA [160] m g → (∀ w b, 0 ≤ w → w < y → hb (zd g 160 w) b = (hb (zd m 160 w) b || hb (zd m 158 (8 * (800 * q + r - 2000) + w)) b)) → (∀ w, y ≤ w → zd g 160 w = zd m 160 w) → P_M_addSources_L37 q r Q f y g := by
    intro d
    induction d with
    | zero =>
      intro f y g hr2 hy y0 hf gA iv iu
      obtain ⟨f, rfl⟩ : ∃ m, f = m + 1 := ⟨f - 1, by omega⟩
      unfold P_M_addSources_L37
      rw [if_pos (by omega)]
      refine k g gA (fun w b w0 w1 b1 => ?_)
      rw [iv w b w0 (by omega)]; unfold srcM; rw [if_neg (by omega), if_neg (by omega)]
    | succ d ih =>
      intro f y g hr2 hy y0 hf gA iv iu
      obtain ⟨f, rfl⟩ : ∃ m, f = m + 1 := ⟨f - 1, by omega⟩
      unfold P_M_addSources_L37
      simp only [w32_al, w32_ar, w32_sl, w32_sr, w32_ml, w32_mr]
      rw [if_neg (by omega), w32_of (x := 8 * (800 * q + r - 2000) + y) (by omega) (by omega)]
      refine ⟨⟨by omega, by omega⟩, ⟨by omega, by omega⟩, ⟨by omega, by omega⟩, ?_⟩
      intro h1 e1 x1 ex1
      rw [w32_of (by omega) (by omega)] at ex1
      rw [ex1, e1]
      refine ih f (y + 1) _ hr2 (by omega) (by omega) (by omega) (gA.w (by simp)) (fun w b w0 w1 => ?_) (fun w w0 => by rw [zd_i (by omega)]; exact iu w (by omega))
      by_cases c : w = y
      · rw [c, zd_s, hb_or, iu y (by omega), gA.d (b := 158) (by decide)]
      · rw [zd_i c]; exact iv w b w0 (by omega)
  unfold P_M_addSources
  refine zif_i (fun c => zif_i (fun c2 => ?_) (fun c2 => ?_)) (fun c => ?_)
  · refine k m (yA.rf _ _) (fun w b w0 w1 b1 => ?_)
    unfold srcM; rw [if_neg (by omega), if_pos c2]; simp
  · exact ⟨9, key 8 9 0 m (by omega) (by decide) (by decide) (by decide) (yA.rf _ _) (fun w b w0 w1 => by omega) (fun _ _ => rfl)⟩
  · rw [td64 (by omega), tm64 (by omega), w32_of (x := r / 64) (by omega) (by omega)]
    refine ⟨⟨by omega, by omega⟩, ⟨by omega, by omega⟩, ?_⟩
    intro h3 e3
    rw [e3]
    refine k _ ((yA.rf [160] m).w (by simp)) (fun w b w0 w1 b1 => ?_)
    unfold srcM; rw [if_pos (by omega)]
    by_cases d : w = r / 64
    · rw [d, zd_s, hb_or, hb_one (by omega) (by omega) b1]; simp
    · rw [zd_i d, decide_eq_false (by exact fun q => d q.1)]; simp
/-- what the names of no level in a row give -/
def lowM (m : zH) (q r but w : Int) (b : Nat) : Prop := ∃ i, 0 ≤ i ∧ i < msz m q r ∧ zab (mit m q r i) ≠ but ∧ zd m 143 (301 * q + zab (mit m q r i)) ≠ 2 ∧ zd m 144 (301 * q + zab (mit m q r i)) = 0 ∧ hb (zd m 159 (8 * (301 * q + zab (mit m q r i)) + w)) b = true
/-- m' is m but for the sources -/
theorem msz_160 {m g : zH} (p : yA [160] m g) (q r : Int) : msz g q r = msz m q r := msz_cg (p.f (by decide)) (by rw [p.f (b := 101) (by decide)]) (p.f (by decide)) (p.f (by decide))
theorem mit_160 {m g : zH} (p : yA [160] m g) (q r i : Int) : mit g q r i = mit m q r i := mit_cg (p.f (by decide)) (by rw [p.f (b := 101) (by decide)]) (p.f (by decide)) (p.f (by decide)) (p.f (by decide)) (p.f (by decide))
theorem MR_160 {m g : zH} (p : yA [160] m g) {q A r : Int} (h : MR m q A r) : MR g q A r := by
  unfold MR
  rw [p.f (b := 119) (by decide), p.f (b := 123) (by decide), p.f (b := 152) (by decide), p.f (b := 101) (by decide), msz_160 p]
  refine ⟨h.1, fun i i0 i1 => ?_⟩
  rw [mit_160 p]; exact h.2 i i0 i1
theorem M_addLowest {q A r but : Int} {m : zH} {Q : Int → zH → Prop} (q0 : 0 ≤ q) (q1 : q ≤ 1) (hA : A ≤ 300) (hr : MR m q A r) (k : ∀ m', yA [160] m m' → (∀ w b, 0 ≤ w → w < 8 → (hb (zd m' 160 w) b = true ↔ hb (zd m 160 w) b = true ∨ lowM m q r but w b)) → Q 0 m') : P_M_addLowest q r but m Q := by
  have zr := hr.z
  have key : ∀ (d f : Nat) (y : Int) (g : zH), y = msz m q r - d → 0 ≤ y → d < f → yA [160] m g → (∀ w b, 0 ≤ w → w < 8 → (hb (zd g 160 w) b = true ↔ hb (zd m 160 w) b = true ∨ ∃ i, 0 ≤ i ∧ i < y ∧ zab (mit m q r i) ≠ but ∧ zd m 143 (301 * q + zab (mit m q r i)) ≠ 2 ∧ zd m 144 (301 * q + zab (mit m q r i)) = 0 ∧ hb (zd m 159 (8 * (301 * q + zab (mit m q r i)) + w)) b = true)) → P_M_addLowest_L11 q r but (msz m q r) Q f y g := by
    intro d
    induction d with
    | zero =>
      intro f y g hy y0 hf gA iv
      obtain ⟨f, rfl⟩ : ∃ m, f = m + 1 := ⟨f - 1, by omega⟩
      unfold P_M_addLowest_L11
      rw [if_pos (by omega)]
      have ey : y = msz m q r := by omega
      rw [ey] at iv
      exact k g gA iv
    | succ d ih =>
      intro f y g hy y0 hf gA iv
      obtain ⟨f, rfl⟩ : ∃ m, f = m + 1 := ⟨f - 1, by omega⟩
      have it := hr.2 y y0 (by omega)
      have ir := zab_r it
      have old : ∀ g', yA [160] m g' → (∀ w b, 0 ≤ w → w < 8 → (hb (zd g' 160 w) b = true ↔ hb (zd g 160 w) b = true ∨ (zab (mit m q r y) ≠ but ∧ zd m 143 (301 * q + zab (mit m q r y)) ≠ 2 ∧ zd m 144 (301 * q + zab (mit m q r y)) = 0 ∧ hb (zd m 159 (8 * (301 * q + zab (mit m q r y)) + w)) b = true))) → P_M_addLowest_J77 q r but (msz m q r) y g' Q (P_M_addLowest_L11 q r but (msz m q r) Q f) := by
        intro g' g'A u
        unfold P_M_addLowest_J77
        intro x5 e5
        rw [w32_of (by omega) (by omega)] at e5
        rw [e5]
        refine ih f (y + 1) g' (by omega) (by omega) (by omega) g'A (fun w b w0 w1 => ?_)
        rw [u w b w0 w1, iv w b w0 w1]
        constructor
        · rintro ((p | ⟨i, i0, i1, i2⟩) | p)
          · exact Or.inl p
          · exact Or.inr ⟨i, i0, by omega, i2⟩
          · exact Or.inr ⟨y, y0, by omega, p⟩
        · rintro (p | ⟨i, i0, i1, i2⟩)
          · exact Or.inl (Or.inl p)
          · by_cases c : i = y
            · rw [c] at i2; exact Or.inr i2
            · exact Or.inl (Or.inr ⟨i, i0, by omega, i2⟩)
      have same : (¬ (zab (mit m q r y) ≠ but ∧ zd m 143 (301 * q + zab (mit m q r y)) ≠ 2 ∧ zd m 144 (301 * q + zab (mit m q r y)) = 0)) → P_M_addLowest_J77 q r but (msz m q r) y g Q (P_M_addLowest_L11 q r but (msz m q r) Q f) := by
        intro no
        refine old g gA (fun w b w0 w1 => ⟨Or.inl, fun p => p.elim id (fun p => absurd ⟨p.1, p.2.1, p.2.2.1⟩ no)⟩)
      unfold P_M_addLowest_L11
      rw [if_neg (by omega)]
      refine M_itemOf q0 q1 (MR_160 gA hr) y0 (by rw [msz_160 gA]; omega) ?_
      rw [mit_160 gA]
      refine M_nameOf it hA ?_
      simp only [w32_al, w32_ar, w32_sl, w32_sr, w32_ml, w32_mr]
      rw [w32_of (x := 301 * q + zab (mit m q r y)) (by omega) (by omega), gA.d (b := 143) (by decide), gA.d (b := 144) (by decide)]
      refine zif_i (fun c => same (fun p => p.1 c)) (fun c => ⟨⟨by omega, by omega⟩, zif_i (fun c2 => same (fun p => p.2.1 c2)) (fun c2 => ⟨⟨by omega, by omega⟩, zif_i (fun c3 => ?_) (fun c3 => same (fun p => c3 p.2.2))⟩)⟩)
      refine M_addNameSources q0 q1 (by omega) (by omega) (fun g' g'A u => old g' (gA.tr g'A) (fun w b w0 w1 => ?_))
      rw [u w b w0 w1, Bool.or_eq_true, gA.d (b := 159) (by decide)]
      exact or_congr Iff.rfl ⟨fun p => ⟨c, c2, c3, p⟩, fun p => p.2.2.2⟩
  unfold P_M_addLowest
  refine M_sizeOf q0 q1 hr ⟨(msz m q r).toNat + 1, key (msz m q r).toNat _ 0 m (by omega) (by omega) (by omega) (yA.rf _ _) (fun w b w0 w1 => ⟨Or.inl, fun p => p.elim id (fun ⟨i, i0, i1, _⟩ => by omega)⟩)⟩
/-- what become leaves -/
def MbecP (q x why : Int) (m m' : zH) : Prop := yA [143, 144, 145, 149, 150, 159, 160] m m' ∧ (∀ j, zd m' 143 j = if j = 301 * q + zab x then (if x ≤ 0 then 0 else 1) else zd m 143 j) ∧ (∀ j, zd m' 144 j = if j = 301 * q + zab x then zd m 151 q else zd m 144 j) ∧ (∀ j, zd m' 145 j = if j = 301 * q + zab x then why else zd m 145 j) ∧ (∀ j, zd m' 149 j = if j = 300 * q + zd m 150 q then x else zd m 149 j) ∧ (∀ j, zd m' 150 j = if j = q then zd m 150 q + 1 else zd m 150 j) ∧
  ((zd m 151 q ≠ 0 ∨ why < 0) → zd m' 159 = zd m 159) ∧ (zd m 151 q = 0 → 0 ≤ why → (∀ j, j < 8 * (301 * q + zab x) ∨ 8 * (301 * q + zab x) + 8 ≤ j → zd m' 159 j = zd m 159 j) ∧ ∀ w b, 0 ≤ w → w < 8 → b < 64 → (hb (zd m' 159 (8 * (301 * q + zab x) + w)) b = true ↔ srcM m q why w b = true ∨ lowM m q why (zab x) w b))
theorem M_become {q A x why : Int} {m : zH} {Q : Int → zH → Prop} (q0 : 0 ≤ q) (q1 : q ≤ 1) (hA : A ≤ 300) (hx : eit A x) (ht0 : 0 ≤ zd m 150 q) (ht1 : zd m 150 q < 300) (hr : zd m 151 q = 0 → 0 ≤ why → MR m q A why) (k : ∀ m', MbecP q x why m m' → Q 0 m') : P_M_become q x why m Q := by
  have xr := zab_r hx
  have fin : ∀ g, yA [159, 160] m g → ((zd m 151 q ≠ 0 ∨ why < 0) → zd g 159 = zd m 159) → (zd m 151 q = 0 → 0 ≤ why → (∀ j, j < 8 * (301 * q + zab x) ∨ 8 * (301 * q + zab x) + 8 ≤ j → zd g 159 j = zd m 159 j) ∧ ∀ w b, 0 ≤ w → w < 8 → b < 64 → (hb (zd g 159 (8 * (301 * q + zab x) + w)) b = true ↔ srcM m q why w b = true ∨ lowM m q why (zab x) w b)) → P_M_become_J79 q x why (zab x) g Q := by
    intro g gA s1 s2
    unfold P_M_become_J79 P_M_become_J100
    simp only [w32_al, w32_ar, w32_sl, w32_sr, w32_ml, w32_mr]
    rw [w32_of (x := 301 * q + zab x) (by omega) (by omega)]
    refine ⟨⟨by omega, by omega⟩, ?_⟩
    intro h3 e3
    refine ⟨⟨by omega, by omega⟩, ⟨by omega, by omega⟩, ?_⟩
    have t3 : zd h3 151 q = zd m 151 q := by rw [e3, zd_a (by decide), gA.d (by decide)]
    rw [t3]
    intro h4 e4
    refine ⟨⟨by omega, by omega⟩, ?_⟩
    intro h5 e5
    have t5 : zd h5 150 q = zd m 150 q := by rw [e5, zd_a (by decide), e4, zd_a (by decide), e3, zd_a (by decide), gA.d (by decide)]
    rw [t5, w32_of (x := 300 * q + zd m 150 q) (by omega) (by omega)]
    refine ⟨⟨by omega, by omega⟩, ⟨by omega, by omega⟩, ?_⟩
    intro h6 e6
    have t6 : zd h6 150 q = zd m 150 q := by rw [e6, zd_a (by decide), t5]
    rw [t6, w32_of (x := zd m 150 q + 1) (by omega) (by omega)]
    refine ⟨⟨by omega, by omega⟩, ⟨by omega, by omega⟩, ?_⟩
    intro h7 e7
    have up : ∀ {h : zH} {a i v j : Int}, zd (zw h a i v) a j = if j = i then v else zd h a j := by
      intro h a i v j
      rw [zd_zw]
      by_cases c : j = i
      · rw [if_pos ⟨rfl, c⟩, if_pos c]
      · rw [if_neg (by exact fun p => c p.2), if_neg c]
    have v159 : zd h7 159 = zd g 159 := by rw [e7, zw_f (by decide), e6, zw_f (by decide), e5, zw_f (by decide), e4, zw_f (by decide), e3, zw_f (by decide)]
    refine k h7 ⟨?_, fun j => ?_, fun j => ?_, fun j => ?_, fun j => ?_, fun j => ?_, fun p => by rw [v159]; exact s1 p, fun p1 p2 => by rw [v159]; exact s2 p1 p2⟩
    · rw [e7, e6, e5, e4, e3]
      exact ((((((gA.mono (by simp)).w (by simp)).w (by simp)).w (by simp)).w (by simp)).w (by simp))
    · rw [e7, zd_a (by decide), e6, zd_a (by decide), e5, zd_a (by decide), e4, zd_a (by decide), e3, up, gA.d (by decide)]
    · rw [e7, zd_a (by decide), e6, zd_a (by decide), e5, zd_a (by decide), e4, up, e3, zd_a (by decide), gA.d (by decide)]
    · rw [e7, zd_a (by decide), e6, zd_a (by decide), e5, up, e4, zd_a (by decide), e3, zd_a (by decide), gA.d (by decide)]
    · rw [e7, zd_a (by decide), e6, up, e5, zd_a (by decide), e4, zd_a (by decide), e3, zd_a (by decide), gA.d (by decide)]
    · rw [e7, up, e6, zd_a (by decide), e5, zd_a (by decide), e4, zd_a (by decide), e3, zd_a (by decide), gA.d (by decide)]
  have l40 : ∀ (d f : Nat) (y : Int) (g g0 : zH) (K : zH → Prop), y = 8 - d → 0 ≤ y → d < f → yA [159] g0 g → (∀ j, j < 8 * (301 * q + zab x) ∨ 8 * (301 * q + zab x) + y ≤ j → zd g 159 j = zd g0 159 j) → (∀ w, 0 ≤ w → w < y → zd g 159 (8 * (301 * q + zab x) + w) = zd g0 160 w) → (∀ g', yA [159] g0 g' → (∀ j, j < 8 * (301 * q + zab x) ∨ 8 * (301 * q + zab x) + 8 ≤ j → zd g' 159 j = zd g0 159 j) → (∀ w, 0 ≤ w → w < 8 → zd g' 159 (8 * (301 * q + zab x) + w) = zd g0 160 w) → K g') → P_M_become_L40 q x why (zab x) Q K f y g := by
    intro d
    induction d with
    | zero =>
      intro f y g g0 K hy y0 hf gA o n kk
      obtain ⟨f, rfl⟩ : ∃ m, f = m + 1 := ⟨f - 1, by omega⟩
      unfold P_M_become_L40
      rw [if_pos (by omega)]
      have ey : y = 8 := by omega
      rw [ey] at o n
      exact kk g gA o n
    | succ d ih =>
      intro f y g g0 K hy y0 hf gA o n kk
      obtain ⟨f, rfl⟩ : ∃ m, f = m + 1 := ⟨f - 1, by omega⟩
      unfold P_M_become_L40
      simp only [w32_al, w32_ar, w32_sl, w32_sr, w32_ml, w32_mr]
      rw [if_neg (by omega), w32_of (x := 8 * (301 * q + zab x) + y) (by omega) (by omega), gA.d (b := 160) (by decide)]
      refine ⟨⟨by omega, by omega⟩, ⟨by omega, by omega⟩, ?_⟩
      intro h14 e14 x5 e5
      rw [w32_of (by omega) (by omega)] at e5
      rw [e5, e14]
      refine ih f (y + 1) _ g0 K (by omega) (by omega) (by omega) (gA.w (by simp)) (fun j hj => by rw [zd_i (by omega)]; exact o j (by omega)) (fun w w0 w1 => ?_) kk
      by_cases c : w = y
      · rw [c, zd_s]
      · rw [zd_i (by omega)]; exact n w w0 (by omega)
  unfold P_M_become
  refine M_nameOf hx hA ⟨⟨by omega, by omega⟩, zif_i (fun c => zif_i (fun c2 => ?_) (fun c2 => ?_)) (fun c => ?_)⟩
  · exact fin m (yA.rf _ _) (fun _ => rfl) (fun _ p => by omega)
  · have hw := hr c (by omega)
    refine M_clearSources (fun h9 p1 p2 => ?_)
    refine M_addSources q0 q1 (by rcases hw.1 with r | r | r <;> omega) (fun h11 r1 r2 => ?_)
    have A11 : yA [160] m h11 := p1.tr r1
    refine M_addLowest q0 q1 hA (MR_160 A11 hw) (fun h13 s1 s2 => ?_)
    have A13 : yA [160] m h13 := A11.tr s1
    refine ⟨9, l40 8 9 0 h13 h13 _ (by decide) (by decide) (by decide) (yA.rf _ _) (fun _ _ => rfl) (fun w w0 w1 => by omega) (fun g' t1 t2 t3 => ?_)⟩
    refine fin g' ((A13.mono (by simp)).tr (t1.mono (by simp))) (fun p => by omega) (fun _ _ => ⟨fun j hj => by rw [t2 j hj, A13.d (by decide)], fun w b w0 w1 b1 => ?_⟩)
    rw [t3 w w0 w1, s2 w b w0 w1, r2 w b w0 w1 b1, p2 w w0 w1, hb_0, Bool.false_or]
    refine or_congr ?_ ?_
    · unfold srcM; rw [p1.f (b := 158) (by decide)]
    · unfold lowM
      simp only [msz_160 A11, mit_160 A11, A11.d (b := 143) (by decide), A11.d (b := 144) (by decide), A11.d (b := 159) (by decide)]
  · exact fin m (yA.rf _ _) (fun _ => rfl) (fun p => absurd p c)
/-- what going back to a level leaves: E names stay -/
def MbackP (q E to : Int) (m m' : zH) : Prop := yA [143, 146, 150, 151] m m' ∧ (∀ j, zd m' 150 j = if j = q then E else zd m 150 j) ∧ (∀ j, zd m' 151 j = if j = q then to else zd m 151 j) ∧ (∀ i, E ≤ i → i < zd m 150 q → zd m' 143 (301 * q + zab (zd m 149 (300 * q + i))) = 2 ∧ zd m' 146 (301 * q + zab (zd m 149 (300 * q + i))) = zd m 143 (301 * q + zab (zd m 149 (300 * q + i)))) ∧ (∀ n, (∀ i, E ≤ i → i < zd m 150 q → 301 * q + zab (zd m 149 (300 * q + i)) ≠ n) → zd m' 143 n = zd m 143 n ∧ zd m' 146 n = zd m 146 n)
theorem M_goBack {q A to E : Int} {m : zH} {Q : Int → zH → Prop} (q0 : 0 ≤ q) (q1 : q ≤ 1) (hA : A ≤ 300) (hE0 : 0 ≤ E) (hE1 : E ≤ zd m 150 q) (ht1 : zd m 150 q ≤ 300) (hit : ∀ i, 0 ≤ i → i < zd m 150 q → eit A (zd m 149 (300 * q + i))) (hds : ∀ i j, 0 ≤ i → i < j → j < zd m 150 q → zab (zd m 149 (300 * q + i)) ≠ zab (zd m 149 (300 * q + j))) (hlv : ∀ i, 0 ≤ i → i < zd m 150 q → (to < zd m 144 (301 * q + zab (zd m 149 (300 * q + i))) ↔ E ≤ i)) (k : ∀ m', MbackP q E to m m' → Q 0 m') : P_M_goBack q to m Q := by
  have up : ∀ {h : zH} {a i v j : Int}, zd (zw h a i v) a j = if j = i then v else zd h a j := by
    intro h a i v j
    rw [zd_zw]
    by_cases c : j = i
    · rw [if_pos ⟨rfl, c⟩, if_pos c]
    · rw [if_neg (by exact fun p => c p.2), if_neg c]
  have key : ∀ (d f : Nat) (y T : Int) (g : zH), T = E + d → d + 1 < f → T ≤ zd m 150 q → yA [143, 146, 150] m g → (∀ j, zd g 150 j = if j = q then T else zd m 150 j) → (∀ i, T ≤ i → i < zd m 150 q → zd g 143 (301 * q + zab (zd m 149 (300 * q + i))) = 2 ∧ zd g 146 (301 * q + zab (zd m 149 (300 * q + i))) = zd m 143 (301 * q + zab (zd m 149 (300 * q + i)))) → (∀ n, (∀ i, T ≤ i → i < zd m 150 q → 301 * q + zab (zd m 149 (300 * q + i)) ≠ n) → zd g 143 n = zd m 143 n ∧ zd g 146 n = zd m 146 n) → (y = if T ≤ 0 then 0 else 1) ∨ (y = 0 ∧ T = E) → P_M_goBack_L15 q to Q f y g := by
    have stop : ∀ (f : Nat) (g : zH), yA [143, 146, 150] m g → (∀ j, zd g 150 j = if j = q then E else zd m 150 j) → (∀ i, E ≤ i → i < zd m 150 q → zd g 143 (301 * q + zab (zd m 149 (300 * q + i))) = 2 ∧ zd g 146 (301 * q + zab (zd m 149 (300 * q + i))) = zd m 143 (301 * q + zab (zd m 149 (300 * q + i)))) → (∀ n, (∀ i, E ≤ i → i < zd m 150 q → 301 * q + zab (zd m 149 (300 * q + i)) ≠ n) → zd g 143 n = zd m 143 n ∧ zd g 146 n = zd m 146 n) → P_M_goBack_L15 q to Q (f + 1) 0 g := by
      intro f g gA g1 g2 g3
      unfold P_M_goBack_L15
      rw [if_pos rfl]
      refine ⟨⟨by omega, by omega⟩, ?_⟩
      intro h1 e1
      refine k h1 ⟨by rw [e1]; exact (gA.mono (by simp)).w (by simp), fun j => ?_, fun j => ?_, fun i i0 i1 => ?_, fun n hn => ?_⟩
      · rw [e1, zd_a (by decide)]; exact g1 j
      · rw [e1, up, gA.d (b := 151) (by decide)]
      · rw [e1, zd_a (by decide), zd_a (by decide)]; exact g2 i i0 i1
      · rw [e1, zd_a (by decide), zd_a (by decide)]; exact g3 n hn
    intro d
    induction d with
    | zero =>
      intro f y T g hT hf hT2 gA g1 g2 g3 hy
      obtain ⟨f, rfl⟩ : ∃ m, f = m + 1 := ⟨f - 1, by omega⟩
      have eT : T = E := by omega
      rw [eT] at g1 g2 g3 hy
      have fin : y = 0 ∨ (y = 1 ∧ 0 < E) := by
        rcases hy with h | h
        · by_cases c : E ≤ 0
          · rw [if_pos c] at h; exact Or.inl h
          · rw [if_neg c] at h; exact Or.inr ⟨h, by omega⟩
        · exact Or.inl h.1
      rcases fin with h | ⟨h, hpos⟩
      · rw [h]; exact stop f g gA g1 g2 g3
      · obtain ⟨f, rfl⟩ : ∃ m, f = m + 1 := ⟨f - 1, by omega⟩
        rw [h]
        unfold P_M_goBack_L15 P_M_goBack_J65 P_M_goBack_J135
        simp only [w32_al, w32_ar, w32_sl, w32_sr, w32_ml, w32_mr]
        rw [if_neg (by decide), g1 q, if_pos rfl, gA.d (b := 149) (by decide), w32_of (x := 300 * q + E - 1) (by omega) (by omega)]
        refine ⟨⟨by omega, by omega⟩, ⟨by omega, by omega⟩, ?_⟩
        have it := hit (E - 1) (by omega) (by omega)
        rw [show 300 * q + (E - 1) = 300 * q + E - 1 by omega] at it
        have ir := zab_r it
        refine M_nameOf it hA ?_
        have lv := hlv (E - 1) (by omega) (by omega)
        rw [show 300 * q + (E - 1) = 300 * q + E - 1 by omega] at lv
        rw [w32_of (x := 301 * q + zab (zd m 149 (300 * q + E - 1))) (by omega) (by omega), gA.d (b := 144) (by decide), if_pos (show zd m 144 (301 * q + zab (zd m 149 (300 * q + E - 1))) ≤ to by omega), if_pos rfl]
        exact ⟨⟨by omega, by omega⟩, stop f g gA g1 g2 g3⟩
    | succ d ih =>
      intro f y T g hT hf hT2 gA g1 g2 g3 hy
      obtain ⟨f, rfl⟩ : ∃ m, f = m + 1 := ⟨f - 1, by omega⟩
      have y1 : y = 1 := by
        rcases hy with h | h
        · rw [if_neg (by omega)] at h; exact h
        · omega
      rw [y1]
      unfold P_M_goBack_L15 P_M_goBack_J65 P_M_goBack_J134 P_M_goBack_J135
      simp only [w32_al, w32_ar, w32_sl, w32_sr, w32_ml, w32_mr]
      rw [if_neg (by decide), g1 q, if_pos rfl, gA.d (b := 149) (by decide), w32_of (x := 300 * q + T - 1) (by omega) (by omega)]
      refine ⟨⟨by omega, by omega⟩, ⟨by omega, by omega⟩, ?_⟩
      have it := hit (T - 1) (by omega) (by omega)
      have lv := hlv (T - 1) (by omega) (by omega)
      rw [show 300 * q + (T - 1) = 300 * q + T - 1 by omega] at it lv
      have ir := zab_r it
      refine M_nameOf it hA ?_
      rw [w32_of (x := 301 * q + zab (zd m 149 (300 * q + T - 1))) (by omega) (by omega), gA.d (b := 144) (by decide), if_neg (show ¬ zd m 144 (301 * q + zab (zd m 149 (300 * q + T - 1))) ≤ to by omega), if_neg (by decide)]
      refine ⟨⟨by omega, by omega⟩, ⟨by omega, by omega⟩, ⟨by omega, by omega⟩, ?_⟩
      generalize en : zab (zd m 149 (300 * q + T - 1)) = n at ir ⊢
      have apart : ∀ i, T ≤ i → i < zd m 150 q → 301 * q + zab (zd m 149 (300 * q + i)) ≠ 301 * q + n := by
        intro i i0 i1 p
        have := hds (T - 1) i (by omega) (by omega) i1
        rw [show 300 * q + (T - 1) = 300 * q + T - 1 by omega, en] at this
        omega
      have cur := g3 (301 * q + n) apart
      rw [cur.1]
      intro h4 e4
      refine ⟨⟨by omega, by omega⟩, ?_⟩
      intro h5 e5
      refine ⟨⟨by omega, by omega⟩, ⟨by omega, by omega⟩, ?_⟩
      have t5 : zd h5 150 q = T := by rw [e5, zd_a (by decide), e4, zd_a (by decide), g1 q, if_pos rfl]
      rw [t5, w32_of (x := T - 1) (by omega) (by omega)]
      intro h6 e6
      have t6 : zd h6 150 q = T - 1 := by rw [e6, zd_s]
      rw [t6]
      refine ⟨⟨by omega, by omega⟩, ?_⟩
      have v143 : ∀ j, zd h6 143 j = if j = 301 * q + n then 2 else zd g 143 j := fun j => by rw [e6, zd_a (by decide), e5, up, e4, zd_a (by decide)]
      have v146 : ∀ j, zd h6 146 j = if j = 301 * q + n then zd m 143 (301 * q + n) else zd g 146 j := fun j => by rw [e6, zd_a (by decide), e5, zd_a (by decide), e4, up]
      have v150 : ∀ j, zd h6 150 j = if j = q then T - 1 else zd m 150 j := by
        intro j
        rw [e6, up]
        by_cases c : j = q
        · rw [if_pos c, if_pos c]
        · rw [if_neg c, if_neg c, e5, zd_a (by decide), e4, zd_a (by decide), g1, if_neg c]
      refine ih f _ (T - 1) h6 (by omega) (by omega) (by omega) ?_ v150 (fun i i0 i1 => ?_) (fun j hj => ?_) (Or.inl rfl)
      · rw [e6, e5, e4]; exact ((gA.w (by simp)).w (by simp)).w (by simp)
      · by_cases c : i = T - 1
        · rw [c, show 300 * q + (T - 1) = 300 * q + T - 1 by omega, en, v143, v146, if_pos rfl, if_pos rfl]; exact ⟨rfl, rfl⟩
        · have := apart i (by omega) i1
          rw [v143, v146, if_neg this, if_neg this]; exact g2 i (by omega) i1
      · have nj : j ≠ 301 * q + n := fun p => hj (T - 1) (by omega) (by omega) (by rw [show 300 * q + (T - 1) = 300 * q + T - 1 by omega, en, p])
        rw [v143, v146, if_neg nj, if_neg nj]
        exact g3 j (fun i i0 i1 => hj i (by omega) i1)
  unfold P_M_goBack P_M_goBack_J14
  refine ⟨⟨by omega, by omega⟩, (zd m 150 q - E).toNat + 2, key (zd m 150 q - E).toNat _ _ (zd m 150 q) m (by omega) (by omega) (by omega) (yA.rf _ _) (fun j => ?_) (fun i i0 i1 => by omega) (fun n _ => ⟨rfl, rfl⟩) (Or.inl rfl)⟩
  by_cases c : j = q
  · rw [if_pos c, c]
  · rw [if_neg c]
