/-! the model's rows, as they are read -/
theorem w32_al (x y : Int) : w32 (w32 x + y) = w32 (x + y) := by unfold w32; rw [Int32.ofInt_add, Int32.ofInt_toInt, ← Int32.ofInt_add]
theorem w32_ar (x y : Int) : w32 (x + w32 y) = w32 (x + y) := by unfold w32; rw [Int32.ofInt_add, Int32.ofInt_toInt, ← Int32.ofInt_add]
theorem w32_sl (x y : Int) : w32 (w32 x - y) = w32 (x - y) := by unfold w32; rw [Int32.ofInt_sub, Int32.ofInt_toInt, ← Int32.ofInt_sub]
theorem w32_sr (x y : Int) : w32 (x - w32 y) = w32 (x - y) := by unfold w32; rw [Int32.ofInt_sub, Int32.ofInt_toInt, ← Int32.ofInt_sub]
theorem w32_ml (x y : Int) : w32 (w32 x * y) = w32 (x * y) := by unfold w32; rw [Int32.ofInt_mul, Int32.ofInt_toInt, ← Int32.ofInt_mul]
theorem w32_mr (x y : Int) : w32 (x * w32 y) = w32 (x * y) := by unfold w32; rw [Int32.ofInt_mul, Int32.ofInt_toInt, ← Int32.ofInt_mul]
def msz (m : zH) (q r : Int) : Int := if r < 1000 then zd m 119 (r + 1) - zd m 119 r else if r < 2000 then zd m 123 (zd m 101 66 + r - 1000) else zd m 152 (801 * q + r - 1999) - zd m 152 (801 * q + r - 2000)
def mit (m : zH) (q r i : Int) : Int := if r < 1000 then zd m 120 (zd m 119 r + i) else if r < 2000 then zd m 124 (20 * (zd m 101 66 + r - 1000) + i) else zd m 153 (8050 * q + zd m 152 (801 * q + r - 2000) + i)
/-- a row that may be read -/
def MR (m : zH) (q A r : Int) : Prop := ((0 ≤ r ∧ r < 500 ∧ 0 ≤ zd m 119 r ∧ zd m 119 r ≤ zd m 119 (r + 1) ∧ zd m 119 (r + 1) ≤ 2500) ∨ (1000 ≤ r ∧ r < 1064 ∧ (zd m 101 66 = 0 ∨ zd m 101 66 = 64) ∧ 0 ≤ zd m 123 (zd m 101 66 + r - 1000) ∧ zd m 123 (zd m 101 66 + r - 1000) ≤ 20) ∨ (2000 ≤ r ∧ r < 2800 ∧ 0 ≤ zd m 152 (801 * q + r - 2000) ∧ zd m 152 (801 * q + r - 2000) ≤ zd m 152 (801 * q + r - 1999) ∧ zd m 152 (801 * q + r - 1999) ≤ 8000)) ∧ ∀ i, 0 ≤ i → i < msz m q r → eit A (mit m q r i)
theorem MR.z {m : zH} {q A r : Int} (h : MR m q A r) : 0 ≤ msz m q r ∧ msz m q r ≤ 8000 := by
  unfold msz
  rcases h.1 with c | c | c
  · rw [if_pos (by omega)]; omega
  · rw [if_neg (by omega), if_pos (by omega)]; omega
  · rw [if_neg (by omega), if_neg (by omega)]; omega
theorem M_sizeOf {q A r : Int} {m : zH} {Q : Int → zH → Prop} (q0 : 0 ≤ q) (q1 : q ≤ 1) (hr : MR m q A r) (k : Q (msz m q r) m) : P_M_sizeOf q r m Q := by
  unfold P_M_sizeOf; unfold msz at k
  simp only [w32_al, w32_ar, w32_sl, w32_sr, w32_ml, w32_mr]
  rcases hr.1 with c | c | c
  · rw [if_pos (by omega)] at k
    rw [if_neg (by omega), w32_of (x := r + 1) (by omega) (by omega), w32_of (by omega) (by omega)]
    exact ⟨⟨by omega, by omega⟩, ⟨by omega, by omega⟩, k⟩
  · rw [if_neg (by omega), if_pos (by omega)] at k
    rw [if_pos (by omega), if_neg (by omega), if_neg (by omega), w32_of (by omega) (by omega)]
    exact ⟨⟨⟨by omega, by omega⟩, trivial⟩, k⟩
  · rw [if_neg (by omega), if_neg (by omega)] at k
    rw [if_pos (by omega), if_pos (by omega), if_pos (by omega), w32_of (x := 801 * q + r - 1999) (by omega) (by omega), w32_of (x := 801 * q + r - 2000) (by omega) (by omega), w32_of (by omega) (by omega)]
    exact ⟨⟨⟨by omega, by omega⟩, ⟨by omega, by omega⟩, trivial⟩, k⟩
theorem M_itemOf {q A r i : Int} {m : zH} {Q : Int → zH → Prop} (q0 : 0 ≤ q) (q1 : q ≤ 1) (hr : MR m q A r) (i0 : 0 ≤ i) (i1 : i < msz m q r) (k : Q (mit m q r i) m) : P_M_itemOf q r i m Q := by
  unfold P_M_itemOf; unfold mit at k; unfold msz at i1
  simp only [w32_al, w32_ar, w32_sl, w32_sr, w32_ml, w32_mr]
  rcases hr.1 with c | c | c
  · rw [if_pos (by omega)] at k i1
    rw [if_neg (by omega), w32_of (by omega) (by omega)]
    exact ⟨⟨by omega, by omega⟩, ⟨by omega, by omega⟩, k⟩
  · rw [if_neg (by omega), if_pos (by omega)] at k i1
    rw [if_pos (by omega), if_neg (by omega), if_neg (by omega), w32_of (by omega) (by omega)]
    exact ⟨⟨⟨by omega, by omega⟩, trivial⟩, k⟩
  · rw [if_neg (by omega), if_neg (by omega)] at k i1
    rw [if_pos (by omega), if_pos (by omega), if_pos (by omega), w32_of (x := 801 * q + r - 2000) (by omega) (by omega), w32_of (by omega) (by omega)]
    exact ⟨⟨⟨by omega, by omega⟩, ⟨by omega, by omega⟩, trivial⟩, k⟩
theorem M_nameOf {A x : Int} {m : zH} {Q : Int → zH → Prop} (hx : eit A x) (hA : A ≤ 300) (k : Q (zab x) m) : P_M_nameOf x m Q := by
  unfold P_M_nameOf
  unfold zab eit at *
  by_cases c : 0 ≤ x
  · rw [if_pos c] at k
    first | (rw [if_pos c]; exact k) | (rw [if_neg (by omega)]; exact k)
  · rw [if_neg c] at k
    have e : w32 (-x) = -x := w32_of (by omega) (by omega)
    first | (rw [if_neg c, e]; exact k) | (rw [if_pos (by omega), e]; exact k)
/-- an item's state: 2 open, 1 true, 0 false -/
def mst (m : zH) (q x : Int) : Int := if zd m 143 (301 * q + zab x) = 2 then 2 else if x ≤ 0 then 1 - zd m 143 (301 * q + zab x) else zd m 143 (301 * q + zab x)
def MV (m : zH) (q A : Int) : Prop := (0 ≤ A ∧ A ≤ 300) ∧ ∀ n, 1 ≤ n → n ≤ A → zd m 143 (301 * q + n) = 0 ∨ zd m 143 (301 * q + n) = 1 ∨ zd m 143 (301 * q + n) = 2
theorem mst_r {m : zH} {q A x : Int} (hv : MV m q A) (hx : eit A x) : mst m q x = 0 ∨ mst m q x = 1 ∨ mst m q x = 2 := by
  have := hv.2 (zab x) (zab_r hx).1 (zab_r hx).2
  unfold mst
  split
  · omega
  · split <;> omega
theorem M_stateOf {q A x : Int} {m : zH} {Q : Int → zH → Prop} (q0 : 0 ≤ q) (q1 : q ≤ 1) (hv : MV m q A) (hx : eit A x) (k : Q (mst m q x) m) : P_M_stateOf q x m Q := by
  unfold P_M_stateOf
  have xr := zab_r hx
  have hA := hv.1
  refine M_nameOf hx hA.2 ?_
  simp only [w32_al, w32_ar, w32_sl, w32_sr, w32_ml, w32_mr]
  rw [w32_of (x := 301 * q + zab x) (by omega) (by omega)]
  refine ⟨⟨by omega, by omega⟩, ?_⟩
  intro x3 e3
  rw [e3]
  have vr := hv.2 (zab x) xr.1 xr.2
  unfold mst at k
  by_cases c : zd m 143 (301 * q + zab x) = 2
  · rw [if_pos c] at k ⊢; exact k
  · rw [if_neg c] at k ⊢
    rw [w32_of (by omega) (by omega)]; exact k
/-- what a look tells -/
def lookR (m : zH) (q r o : Int) (u : Int) : Prop := (o = 0 ∧ ∀ i, 0 ≤ i → i < msz m q r → mst m q (mit m q r i) = 0) ∨ (o = 1 ∧ ∃ i, 0 ≤ i ∧ i < msz m q r ∧ mst m q (mit m q r i) = 2 ∧ u = mit m q r i ∧ ∀ j, 0 ≤ j → j < msz m q r → j ≠ i → mst m q (mit m q r j) = 0) ∨ (o = 2 ∧ ((∃ i, 0 ≤ i ∧ i < msz m q r ∧ mst m q (mit m q r i) = 1) ∨ ∃ i j, 0 ≤ i ∧ i < j ∧ j < msz m q r ∧ mst m q (mit m q r i) = 2 ∧ mst m q (mit m q r j) = 2))
/-- what a row's look reads stays where 101's own fields change -/
theorem msz_cg {m m' : zH} {q r : Int} (h1 : zd m' 119 = zd m 119) (h2 : zd m' 101 66 = zd m 101 66) (h3 : zd m' 123 = zd m 123) (h4 : zd m' 152 = zd m 152) : msz m' q r = msz m q r := by unfold msz; rw [h1, h2, h3, h4]
theorem mit_cg {m m' : zH} {q r i : Int} (h1 : zd m' 119 = zd m 119) (h2 : zd m' 101 66 = zd m 101 66) (h3 : zd m' 120 = zd m 120) (h4 : zd m' 152 = zd m 152) (h5 : zd m' 124 = zd m 124) (h6 : zd m' 153 = zd m 153) : mit m' q r i = mit m q r i := by unfold mit; rw [h1, h2, h3, h4, h5, h6]
/-- m' is m but for some fields of the model itself, which a row's look does not read -/
def MF (m m' : zH) : Prop := yA [101] m m' ∧ ∀ j, j ≠ 97 → j ≠ 98 → j ≠ 99 → j ≠ 100 → zd m' 101 j = zd m 101 j
theorem MF.rf (m : zH) : MF m m := ⟨yA.rf _ _, fun _ _ _ _ _ => rfl⟩
theorem MF.tr {a b c : zH} (p : MF a b) (q : MF b c) : MF a c := ⟨p.1.tr q.1, fun j h1 h2 h3 h4 => (q.2 j h1 h2 h3 h4).trans (p.2 j h1 h2 h3 h4)⟩
theorem MF.w {a b : zH} (p : MF a b) {i v : Int} (h : i = 97 ∨ i = 98 ∨ i = 99 ∨ i = 100) : MF a (zw b 101 i v) :=
  ⟨p.1.w (by simp), fun j h1 h2 h3 h4 => by rw [zd_i (by omega)]; exact p.2 j h1 h2 h3 h4⟩
theorem MF.f {a b : zH} (p : MF a b) {c : Int} (hc : c ≠ 101) : zd b c = zd a c := p.1.f (by simp only [List.mem_cons, List.not_mem_nil, or_false]; exact hc)
theorem MF.sz {a b : zH} (p : MF a b) (q r : Int) : msz b q r = msz a q r := msz_cg (p.f (by decide)) (p.2 66 (by decide) (by decide) (by decide) (by decide)) (p.f (by decide)) (p.f (by decide))
theorem MF.it {a b : zH} (p : MF a b) (q r i : Int) : mit b q r i = mit a q r i := mit_cg (p.f (by decide)) (p.2 66 (by decide) (by decide) (by decide) (by decide)) (p.f (by decide)) (p.f (by decide)) (p.f (by decide)) (p.f (by decide))
theorem MF.st {a b : zH} (p : MF a b) (q x : Int) : mst b q x = mst a q x := by unfold mst; rw [p.f (c := 143) (by decide)]
theorem MF.v {a b : zH} (p : MF a b) {q A : Int} (h : MV a q A) : MV b q A := by unfold MV; rw [p.f (c := 143) (by decide)]; exact h
theorem MF.r {a b : zH} (p : MF a b) {q A r : Int} (h : MR a q A r) : MR b q A r := by
  have e := p.2 66 (by decide) (by decide) (by decide) (by decide)
  unfold MR
  rw [p.f (c := 119) (by decide), p.f (c := 123) (by decide), p.f (c := 152) (by decide), e, p.sz]
  refine ⟨h.1, fun i i0 i1 => ?_⟩
  rw [p.it]; exact h.2 i i0 i1
theorem M_look {q A r : Int} {m : zH} {Q : Int → zH → Prop} (q0 : 0 ≤ q) (q1 : q ≤ 1) (hv : MV m q A) (hr : MR m q A r) (k : ∀ o m', MF m m' → (∀ j, j ≠ 97 → zd m' 101 j = zd m 101 j) → lookR m q r o (zd m' 101 97) → Q o m') : P_M_look q r m Q := by
  have zr := hr.z
  have key : ∀ (d f : Nat) (o y : Int) (g : zH), y = msz m q r - d → 0 ≤ y → d < f → MF m g → (∀ j, j ≠ 97 → zd g 101 j = zd m 101 j) →
      ((o = 0 ∧ ∀ i, 0 ≤ i → i < y → mst m q (mit m q r i) = 0) ∨ (o = 1 ∧ ∃ i, 0 ≤ i ∧ i < y ∧ mst m q (mit m q r i) = 2 ∧ zd g 101 97 = mit m q r i ∧ ∀ j, 0 ≤ j → j < y → j ≠ i → mst m q (mit m q r j) = 0) ∨ (o = 2 ∧ ((∃ i, 0 ≤ i ∧ i < y ∧ mst m q (mit m q r i) = 1) ∨ ∃ i j, 0 ≤ i ∧ i < j ∧ j < y ∧ mst m q (mit m q r i) = 2 ∧ mst m q (mit m q r j) = 2))) → P_M_look_L13 q r (msz m q r) Q f o y g := by
    intro d
    induction d with
    | zero =>
      intro f o y g hy y0 hf gF g97 iv
      obtain ⟨f, rfl⟩ : ∃ m, f = m + 1 := ⟨f - 1, by omega⟩
      have ey : y = msz m q r := by omega
      unfold P_M_look_L13
      rw [if_pos (by omega)]
      rw [ey] at iv
      exact k o g gF g97 iv
    | succ d ih =>
      intro f o y g hy y0 hf gF g97 iv
      obtain ⟨f, rfl⟩ : ∃ m, f = m + 1 := ⟨f - 1, by omega⟩
      unfold P_M_look_L13 P_M_look_J60 P_M_look_J88
      rw [if_neg (by omega)]
      by_cases c2 : 2 ≤ o
      · rw [if_pos c2]
        refine k o g gF g97 ?_
        rcases iv with ⟨iv, _⟩ | ⟨iv, _⟩ | ⟨iv, iv2⟩
        · omega
        · omega
        · refine Or.inr (Or.inr ⟨iv, ?_⟩)
          rcases iv2 with ⟨i, a1, a2, a3⟩ | ⟨i, j, a1, a2, a3, a4⟩
          · exact Or.inl ⟨i, a1, by omega, a3⟩
          · exact Or.inr ⟨i, j, a1, a2, by omega, a4⟩
      · rw [if_neg c2]
        refine M_itemOf q0 q1 (gF.r hr) y0 (by rw [gF.sz]; omega) ?_
        rw [gF.it]
        have it := hr.2 y y0 (by omega)
        refine M_stateOf q0 q1 (gF.v hv) it ?_
        rw [gF.st]
        have sr := mst_r hv it
        intro h7 e7 x5 e5
        rw [w32_of (by omega) (by omega)] at e5
        rw [e5]
        have F7 : MF m h7 := by rw [e7]; exact gF.w (Or.inl rfl)
        have G7 : ∀ j, j ≠ 97 → zd h7 101 j = zd m 101 j := fun j nj => by rw [e7, zd_i nj]; exact g97 j nj
        have u7 : zd h7 101 97 = if mst m q (mit m q r y) = 2 then mit m q r y else zd g 101 97 := by rw [e7, zd_s]
        refine ih f _ (y + 1) h7 (by omega) (by omega) (by omega) F7 G7 ?_
        rcases iv with ⟨iv, iv2⟩ | ⟨iv, i, a1, a2, a3, a4, a5⟩ | ⟨iv, _⟩
        · rcases sr with s | s | s
          · rw [s, if_neg (by decide), if_neg (by decide)]
            refine Or.inl ⟨iv, fun i i0 i1 => ?_⟩
            by_cases c : i = y
            · rw [c]; exact s
            · exact iv2 i i0 (by omega)
          · rw [s, if_pos rfl]
            exact Or.inr (Or.inr ⟨rfl, Or.inl ⟨y, y0, by omega, s⟩⟩)
          · rw [s, if_neg (by decide), if_pos rfl, iv]
            rw [if_pos s] at u7
            refine Or.inr (Or.inl ⟨rfl, y, y0, by omega, s, u7, fun j j0 j1 j2 => iv2 j j0 (by omega)⟩)
        · rcases sr with s | s | s
          · rw [s, if_neg (by decide), if_neg (by decide)]
            rw [if_neg (by omega)] at u7
            refine Or.inr (Or.inl ⟨iv, i, a1, by omega, a3, u7.trans a4, fun j j0 j1 j2 => ?_⟩)
            by_cases c : j = y
            · rw [c]; exact s
            · exact a5 j j0 (by omega) j2
          · rw [s, if_pos rfl]
            exact Or.inr (Or.inr ⟨rfl, Or.inl ⟨y, y0, by omega, s⟩⟩)
          · rw [s, if_neg (by decide), if_pos rfl, iv]
            exact Or.inr (Or.inr ⟨by decide, Or.inr ⟨i, y, a1, a2, by omega, a3, s⟩⟩)
        · omega
  unfold P_M_look
  refine M_sizeOf q0 q1 hr ⟨(msz m q r).toNat + 1, key (msz m q r).toNat _ 0 0 m (by omega) (by omega) (by omega) (MF.rf m) (fun _ _ => rfl) (Or.inl ⟨rfl, fun i i0 i1 => by omega⟩)⟩
