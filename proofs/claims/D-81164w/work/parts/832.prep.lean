/-! the model prepares a solving -/
def PrepP (q : Int) (m m' : zH) : Prop := yA [101, 137, 138, 139, 141, 143, 146, 147, 148, 150, 151, 152, 154, 155, 161, 162, 163] m m' ∧ (∀ j, zd m' 101 j = if q = 1 ∧ (j = 66 ∨ j = 67) then 0 else zd m 101 j) ∧ (∀ j, zd m' 137 j = if j = q then zd m 101 1 else zd m 137 j) ∧ (∀ j, zd m' 138 j = if j = q then zd m 101 23 else zd m 138 j) ∧ (∀ j, zd m' 139 j = if 500 * q ≤ j ∧ j < 500 * q + 500 then 1 else zd m 139 j) ∧ (∀ j, zd m' 141 j = if j = q then 0 else zd m 141 j) ∧ (∀ n, 0 ≤ n → n ≤ 300 → zd m' 147 (301 * q + n) = zd m 102 n) ∧ MB q m' ∧
  ((∀ j, j < 301 * q ∨ 301 * q + 301 ≤ j → zd m' 143 j = zd m 143 j ∧ zd m' 146 j = zd m 146 j ∧ zd m' 147 j = zd m 147 j) ∧ (∀ j, j ≠ q → zd m' 148 j = zd m 148 j ∧ zd m' 150 j = zd m 150 j ∧ zd m' 151 j = zd m 151 j ∧ zd m' 154 j = zd m 154 j ∧ zd m' 155 j = zd m 155 j ∧ zd m' 161 j = zd m 161 j ∧ zd m' 162 j = zd m 162 j) ∧ (∀ j, j ≠ 801 * q → zd m' 152 j = zd m 152 j) ∧ ∀ j, j < 10 * q ∨ 10 * q + 10 ≤ j → zd m' 163 j = zd m 163 j)
theorem zup {h : zH} {a i v j : Int} : zd (zw h a i v) a j = if j = i then v else zd h a j := by
  rw [zd_zw]
  by_cases c : j = i
  · rw [if_pos ⟨rfl, c⟩, if_pos c]
  · rw [if_neg (by exact fun p => c p.2), if_neg c]
theorem M_prepare {q : Int} {m : zH} {Q : Int → zH → Prop} (q0 : 0 ≤ q) (q1 : q ≤ 1) (k : ∀ m', PrepP q m m' → Q 0 m') : P_M_prepare q m Q := by
  have l22 : ∀ (d f : Nat) (y : Int) (g g0 : zH) (K : zH → Prop), y = 500 - d → 0 ≤ y → d < f → yA [139] g0 g → (∀ j, zd g 139 j = if 500 * q ≤ j ∧ j < 500 * q + y then 1 else zd g0 139 j) → (∀ g, yA [139] g0 g → (∀ j, zd g 139 j = if 500 * q ≤ j ∧ j < 500 * q + 500 then 1 else zd g0 139 j) → K g) → P_M_prepare_L22 q Q K f y g := by
    intro d
    induction d with
    | zero =>
      intro f y g g0 K hy y0 hf gA gv kk
      obtain ⟨f, rfl⟩ : ∃ m, f = m + 1 := ⟨f - 1, by omega⟩
      unfold P_M_prepare_L22
      rw [if_pos (by omega)]
      have ey : y = 500 := by omega
      rw [ey] at gv
      exact kk g gA gv
    | succ d ih =>
      intro f y g g0 K hy y0 hf gA gv kk
      obtain ⟨f, rfl⟩ : ∃ m, f = m + 1 := ⟨f - 1, by omega⟩
      unfold P_M_prepare_L22
      simp only [w32_al, w32_ar, w32_sl, w32_sr, w32_ml, w32_mr]
      rw [if_neg (by omega), w32_of (x := 500 * q + y) (by omega) (by omega), zbit_1, w32_of (x := y + 1) (by omega) (by omega)]
      refine ⟨⟨by omega, by omega⟩, ?_⟩
      intro h3 e3 x2 ex
      rw [ex]
      refine ih f (y + 1) h3 g0 K (by omega) (by omega) (by omega) (by rw [e3]; exact gA.w (by simp)) (fun j => ?_) kk
      rw [e3, zup, gv]
      by_cases c : j = 500 * q + y
      · rw [if_pos c, if_pos (by omega)]
      · rw [if_neg c]
        by_cases d2 : 500 * q ≤ j ∧ j < 500 * q + y
        · rw [if_pos d2, if_pos (by omega)]
        · rw [if_neg d2, if_neg (by omega)]
  have l72 : ∀ (d f : Nat) (y : Int) (g g0 : zH) (K : zH → Prop), y = 301 - d → 0 ≤ y → d < f → yA [143, 146, 147] g0 g → (∀ n, 0 ≤ n → n < y → zd g 143 (301 * q + n) = 2 ∧ zd g 146 (301 * q + n) = 0 ∧ zd g 147 (301 * q + n) = zd g0 102 n) → (∀ j, j < 301 * q ∨ 301 * q + y ≤ j → zd g 143 j = zd g0 143 j ∧ zd g 146 j = zd g0 146 j ∧ zd g 147 j = zd g0 147 j) → (∀ g, yA [143, 146, 147] g0 g → (∀ n, 0 ≤ n → n ≤ 300 → zd g 143 (301 * q + n) = 2 ∧ zd g 146 (301 * q + n) = 0 ∧ zd g 147 (301 * q + n) = zd g0 102 n) → (∀ j, j < 301 * q ∨ 301 * q + 301 ≤ j → zd g 143 j = zd g0 143 j ∧ zd g 146 j = zd g0 146 j ∧ zd g 147 j = zd g0 147 j) → K g) → P_M_prepare_L72 q Q K f y g := by
    intro d
    induction d with
    | zero =>
      intro f y g g0 K hy y0 hf gA gv go kk
      obtain ⟨f, rfl⟩ : ∃ m, f = m + 1 := ⟨f - 1, by omega⟩
      unfold P_M_prepare_L72
      rw [if_pos (by omega)]
      have ey : y = 301 := by omega
      rw [ey] at go
      exact kk g gA (fun n n0 n1 => gv n n0 (by omega)) go
    | succ d ih =>
      intro f y g g0 K hy y0 hf gA gv go kk
      obtain ⟨f, rfl⟩ : ∃ m, f = m + 1 := ⟨f - 1, by omega⟩
      unfold P_M_prepare_L72
      simp only [w32_al, w32_ar, w32_sl, w32_sr, w32_ml, w32_mr]
      rw [if_neg (by omega), w32_of (x := 301 * q + y) (by omega) (by omega), w32_of (x := y + 1) (by omega) (by omega)]
      refine ⟨⟨by omega, by omega⟩, ?_⟩
      intro h7 e7
      refine ⟨⟨by omega, by omega⟩, ?_⟩
      intro h8 e8
      have v102 : zd h8 102 y = zd g0 102 y := by rw [e8, zd_a (by decide), e7, zd_a (by decide), gA.d (b := 102) (by decide)]
      rw [v102]
      refine ⟨⟨by omega, by omega⟩, ⟨by omega, by omega⟩, ?_⟩
      intro h9 e9 x2 ex
      rw [ex]
      have u143 : ∀ j, zd h9 143 j = if j = 301 * q + y then 2 else zd g 143 j := fun j => by rw [e9, zd_a (by decide), e8, zd_a (by decide), e7, zup]
      have u146 : ∀ j, zd h9 146 j = if j = 301 * q + y then 0 else zd g 146 j := fun j => by rw [e9, zd_a (by decide), e8, zup, e7, zd_a (by decide)]
      have u147 : ∀ j, zd h9 147 j = if j = 301 * q + y then zd g0 102 y else zd g 147 j := fun j => by rw [e9, zup, e8, zd_a (by decide), e7, zd_a (by decide)]
      refine ih f (y + 1) h9 g0 K (by omega) (by omega) (by omega) (by rw [e9, e8, e7]; exact ((gA.w (by simp)).w (by simp)).w (by simp)) (fun n n0 n1 => ?_) (fun j hj => ?_) kk
      · rw [u143, u146, u147]
        by_cases c : n = y
        · rw [if_pos (by omega), if_pos (by omega), if_pos (by omega), c]; exact ⟨rfl, rfl, rfl⟩
        · rw [if_neg (by omega), if_neg (by omega), if_neg (by omega)]; exact gv n n0 (by omega)
      · rw [u143, u146, u147, if_neg (by omega), if_neg (by omega), if_neg (by omega)]; exact go j (by omega)
  have l194 : ∀ (d f : Nat) (y : Int) (g g0 : zH), y = 10 - d → 0 ≤ y → d < f → yA [163] g0 g → (∀ j, zd g 163 j = if 10 * q ≤ j ∧ j < 10 * q + y then 0 else zd g0 163 j) → (∀ g, yA [163] g0 g → (∀ j, zd g 163 j = if 10 * q ≤ j ∧ j < 10 * q + 10 then 0 else zd g0 163 j) → Q 0 g) → P_M_prepare_L194 q Q f y g := by
    intro d
    induction d with
    | zero =>
      intro f y g g0 hy y0 hf gA gv kk
      obtain ⟨f, rfl⟩ : ∃ m, f = m + 1 := ⟨f - 1, by omega⟩
      unfold P_M_prepare_L194
      rw [if_pos (by omega)]
      have ey : y = 10 := by omega
      rw [ey] at gv
      exact kk g gA gv
    | succ d ih =>
      intro f y g g0 hy y0 hf gA gv kk
      obtain ⟨f, rfl⟩ : ∃ m, f = m + 1 := ⟨f - 1, by omega⟩
      unfold P_M_prepare_L194
      simp only [w32_al, w32_ar, w32_sl, w32_sr, w32_ml, w32_mr]
      rw [if_neg (by omega), w32_of (x := 10 * q + y) (by omega) (by omega), w32_of (x := y + 1) (by omega) (by omega)]
      refine ⟨⟨by omega, by omega⟩, ?_⟩
      intro h3 e3 x2 ex
      rw [ex]
      refine ih f (y + 1) h3 g0 (by omega) (by omega) (by omega) (by rw [e3]; exact gA.w (by simp)) (fun j => ?_) kk
      rw [e3, zup, gv]
      by_cases c : j = 10 * q + y
      · rw [if_pos c, if_pos (by omega)]
      · rw [if_neg c]
        by_cases d2 : 10 * q ≤ j ∧ j < 10 * q + y
        · rw [if_pos d2, if_pos (by omega)]
        · rw [if_neg d2, if_neg (by omega)]
  have rest : ∀ g, yA [101, 137, 138, 139, 141] m g → (∀ j, zd g 101 j = if q = 1 ∧ (j = 66 ∨ j = 67) then 0 else zd m 101 j) → (∀ j, zd g 137 j = if j = q then zd m 101 1 else zd m 137 j) → (∀ j, zd g 138 j = if j = q then zd m 101 23 else zd m 138 j) → (∀ j, zd g 139 j = if 500 * q ≤ j ∧ j < 500 * q + 500 then 1 else zd m 139 j) → (∀ j, zd g 141 j = if j = q then 0 else zd m 141 j) → P_M_prepare_J70 q g Q := by
    intro g gA g101 g137 g138 g139 g141
    unfold P_M_prepare_J70
    refine ⟨302, l72 301 302 0 g g _ (by decide) (by decide) (by decide) (yA.rf _ _) (fun n n0 n1 => by omega) (fun j _ => ⟨rfl, rfl, rfl⟩) (fun h11 a11 v11 o11 => ?_)⟩
    rw [w32_of (x := 801 * q) (by omega) (by omega)]
    refine ⟨⟨by omega, by omega⟩, ?_⟩
    intro h12 e12
    refine ⟨⟨by omega, by omega⟩, ?_⟩
    intro h13 e13
    refine ⟨⟨by omega, by omega⟩, ?_⟩
    intro h14 e14
    refine ⟨⟨by omega, by omega⟩, ?_⟩
    intro h15 e15
    refine ⟨⟨by omega, by omega⟩, ?_⟩
    intro h16 e16
    refine ⟨⟨by omega, by omega⟩, ?_⟩
    intro h17 e17
    refine ⟨⟨by omega, by omega⟩, ?_⟩
    intro h18 e18
    refine ⟨⟨by omega, by omega⟩, ?_⟩
    intro h19 e19
    have A19 : yA [148, 150, 151, 152, 154, 155, 161, 162] h11 h19 := by
      rw [e19, e18, e17, e16, e15, e14, e13, e12]
      exact ((((((((yA.rf _ h11).w (by simp)).w (by simp)).w (by simp)).w (by simp)).w (by simp)).w (by simp)).w (by simp)).w (by simp)
    have w148 : ∀ j, zd h19 148 j = if j = q then 64 else zd h11 148 j := fun j => by rw [e19, zd_a (by decide), e18, zd_a (by decide), e17, zd_a (by decide), e16, zd_a (by decide), e15, zd_a (by decide), e14, zd_a (by decide), e13, zd_a (by decide), e12, zup]
    have w150 : ∀ j, zd h19 150 j = if j = q then 0 else zd h11 150 j := fun j => by rw [e19, zd_a (by decide), e18, zd_a (by decide), e17, zd_a (by decide), e16, zd_a (by decide), e15, zd_a (by decide), e14, zd_a (by decide), e13, zup, e12, zd_a (by decide)]
    have w151 : ∀ j, zd h19 151 j = if j = q then 0 else zd h11 151 j := fun j => by rw [e19, zd_a (by decide), e18, zd_a (by decide), e17, zd_a (by decide), e16, zd_a (by decide), e15, zd_a (by decide), e14, zup, e13, zd_a (by decide), e12, zd_a (by decide)]
    have w152 : ∀ j, zd h19 152 j = if j = 801 * q then 0 else zd h11 152 j := fun j => by rw [e19, zd_a (by decide), e18, zd_a (by decide), e17, zd_a (by decide), e16, zd_a (by decide), e15, zup, e14, zd_a (by decide), e13, zd_a (by decide), e12, zd_a (by decide)]
    have w154 : ∀ j, zd h19 154 j = if j = q then 0 else zd h11 154 j := fun j => by rw [e19, zd_a (by decide), e18, zd_a (by decide), e17, zd_a (by decide), e16, zup, e15, zd_a (by decide), e14, zd_a (by decide), e13, zd_a (by decide), e12, zd_a (by decide)]
    have w155 : ∀ j, zd h19 155 j = if j = q then 0 else zd h11 155 j := fun j => by rw [e19, zd_a (by decide), e18, zd_a (by decide), e17, zup, e16, zd_a (by decide), e15, zd_a (by decide), e14, zd_a (by decide), e13, zd_a (by decide), e12, zd_a (by decide)]
    have w161 : ∀ j, zd h19 161 j = if j = q then 0 else zd h11 161 j := fun j => by rw [e19, zd_a (by decide), e18, zup, e17, zd_a (by decide), e16, zd_a (by decide), e15, zd_a (by decide), e14, zd_a (by decide), e13, zd_a (by decide), e12, zd_a (by decide)]
    have w162 : ∀ j, zd h19 162 j = if j = q then 1 else zd h11 162 j := fun j => by rw [e19, zup, e18, zd_a (by decide), e17, zd_a (by decide), e16, zd_a (by decide), e15, zd_a (by decide), e14, zd_a (by decide), e13, zd_a (by decide), e12, zd_a (by decide)]
    refine ⟨11, l194 10 11 0 h19 h19 (by decide) (by decide) (by decide) (yA.rf _ _) (fun j => by rw [if_neg (by omega)]) (fun g2 a2 v2 => ?_)⟩
    have A1 : yA [143, 146, 147, 148, 150, 151, 152, 154, 155, 161, 162, 163] g g2 := ((a11.mono (by simp)).tr (A19.mono (by simp))).tr (a2.mono (by simp))
    have AA : yA [101, 137, 138, 139, 141, 143, 146, 147, 148, 150, 151, 152, 154, 155, 161, 162, 163] m g2 := (gA.mono (by simp)).tr (A1.mono (by simp))
    have x143 : zd g2 143 = zd h11 143 := by rw [a2.f (b := 143) (by decide), A19.f (b := 143) (by decide)]
    have x146 : zd g2 146 = zd h11 146 := by rw [a2.f (b := 146) (by decide), A19.f (b := 146) (by decide)]
    have x147 : zd g2 147 = zd h11 147 := by rw [a2.f (b := 147) (by decide), A19.f (b := 147) (by decide)]
    have y : ∀ b, b ∈ ([143, 146, 147, 148, 150, 151, 152, 154, 155, 161, 162, 163] : List Int) → zd g b = zd m b := fun b hb => gA.f (by simp only [List.mem_cons, List.not_mem_nil, or_false] at hb ⊢; omega)
    have z : ∀ b, b ∈ ([148, 150, 151, 152, 154, 155, 161, 162, 163] : List Int) → zd h11 b = zd m b := fun b hb => by rw [a11.f (b := b) (by simp only [List.mem_cons, List.not_mem_nil, or_false] at hb ⊢; omega)]; exact y b (by simp only [List.mem_cons, List.not_mem_nil, or_false] at hb ⊢; omega)
    refine k g2 ⟨AA, fun j => by rw [A1.d (b := 101) (by decide), g101], fun j => by rw [A1.d (b := 137) (by decide), g137], fun j => by rw [A1.d (b := 138) (by decide), g138], fun j => by rw [A1.d (b := 139) (by decide), g139], fun j => by rw [A1.d (b := 141) (by decide), g141], fun n n0 n1 => ?_, ⟨fun n n0 n1 => ?_, ?_, ?_, ?_, ?_, ?_, ?_, ?_, ?_, fun k' k0 k1 => ?_⟩, fun j hj => ?_, fun j hj => ?_, fun j hj => ?_, fun j hj => ?_⟩
    · rw [x147, (v11 n n0 n1).2.2, gA.d (b := 102) (by decide)]
    · rw [x143, x146]; exact ⟨(v11 n n0 n1).1, (v11 n n0 n1).2.1⟩
    · rw [a2.d (b := 148) (by decide), w148, if_pos rfl]
    · rw [a2.d (b := 150) (by decide), w150, if_pos rfl]
    · rw [a2.d (b := 151) (by decide), w151, if_pos rfl]
    · rw [a2.d (b := 152) (by decide), w152, if_pos rfl]
    · rw [a2.d (b := 154) (by decide), w154, if_pos rfl]
    · rw [a2.d (b := 155) (by decide), w155, if_pos rfl]
    · rw [a2.d (b := 161) (by decide), w161, if_pos rfl]
    · rw [a2.d (b := 162) (by decide), w162, if_pos rfl]
    · rw [v2, if_pos (by omega)]
    · rw [x143, x146, x147, ← y 143 (by decide), ← y 146 (by decide), ← y 147 (by decide)]; exact o11 j hj
    · rw [a2.d (b := 148) (by decide), w148, if_neg hj, z 148 (by decide), a2.d (b := 150) (by decide), w150, if_neg hj, z 150 (by decide), a2.d (b := 151) (by decide), w151, if_neg hj, z 151 (by decide), a2.d (b := 154) (by decide), w154, if_neg hj, z 154 (by decide), a2.d (b := 155) (by decide), w155, if_neg hj, z 155 (by decide), a2.d (b := 161) (by decide), w161, if_neg hj, z 161 (by decide), a2.d (b := 162) (by decide), w162, if_neg hj, z 162 (by decide)]
      exact ⟨rfl, rfl, rfl, rfl, rfl, rfl, rfl⟩
    · rw [a2.d (b := 152) (by decide), w152, if_neg hj, z 152 (by decide)]
    · rw [v2, if_neg (by omega), A19.d (b := 163) (by decide), z 163 (by decide)]
  unfold P_M_prepare
  refine ⟨⟨by omega, by omega⟩, ?_⟩
  intro h1 e1
  refine ⟨⟨by omega, by omega⟩, ?_⟩
  intro h2 e2
  have A2 : yA [137, 138] m h2 := by rw [e2, e1]; exact ((yA.rf _ m).w (by simp)).w (by simp)
  refine ⟨501, l22 500 501 0 h2 h2 _ (by decide) (by decide) (by decide) (yA.rf _ _) (fun j => by rw [if_neg (by omega)]) (fun h5 a5 v5 => ⟨⟨by omega, by omega⟩, ?_⟩)⟩
  intro h6 e6
  have A6 : yA [101, 137, 138, 139, 141] m h6 := by rw [e6]; exact ((A2.mono (by simp)).tr (a5.mono (by simp))).w (by simp)
  have w137 : ∀ j, zd h6 137 j = if j = q then zd m 101 1 else zd m 137 j := fun j => by rw [e6, zd_a (by decide), a5.d (b := 137) (by decide), e2, zd_a (by decide), e1, zup]
  have w138 : ∀ j, zd h6 138 j = if j = q then zd m 101 23 else zd m 138 j := fun j => by rw [e6, zd_a (by decide), a5.d (b := 138) (by decide), e2, zup, e1, zd_a (by decide), zd_a (by decide)]
  have w139 : ∀ j, zd h6 139 j = if 500 * q ≤ j ∧ j < 500 * q + 500 then 1 else zd m 139 j := fun j => by rw [e6, zd_a (by decide), v5, A2.d (b := 139) (by decide)]
  have w141 : ∀ j, zd h6 141 j = if j = q then 0 else zd m 141 j := fun j => by rw [e6, zup, a5.d (b := 141) (by decide), A2.d (b := 141) (by decide)]
  have w101 : ∀ j, zd h6 101 j = zd m 101 j := fun j => by rw [e6, zd_a (by decide), a5.d (b := 101) (by decide), A2.d (b := 101) (by decide)]
  refine zif_i (fun c => ?_) (fun c => ?_)
  · intro h22 e22 h23 e23
    have B : yA [101] h6 h23 := by rw [e23, e22]; exact ((yA.rf _ h6).w (by simp)).w (by simp)
    refine rest h23 (A6.tr (B.mono (by simp))) (fun j => ?_) (by rw [B.f (b := 137) (by decide)]; exact w137) (by rw [B.f (b := 138) (by decide)]; exact w138) (by rw [B.f (b := 139) (by decide)]; exact w139) (by rw [B.f (b := 141) (by decide)]; exact w141)
    rw [e23, zup, e22, zup, w101]
    by_cases c1 : j = 67
    · rw [if_pos c1, if_pos ⟨c, Or.inr c1⟩]
    · rw [if_neg c1]
      by_cases c2 : j = 66
      · rw [if_pos c2, if_pos ⟨c, Or.inl c2⟩]
      · rw [if_neg c2, if_neg (by exact fun x => x.2.elim c2 c1)]
  · exact rest h6 A6 (fun j => by rw [if_neg (by exact fun x => c x.1)]; exact w101 j) w137 w138 w139 w141
/-- what is assumed is asked -/
theorem M_askAll {q : Int} {m : zH} {Q : Int → zH → Prop} (q0 : 0 ≤ q) (q1 : q ≤ 1) (n0 : 0 ≤ zd m 101 29) (n1 : zd m 101 29 ≤ 20) (k : ∀ m', yA [140, 141] m m' → (∀ k, 0 ≤ k → k < zd m 101 29 → zd m' 140 (20 * q + k) = zd m 122 k) → (∀ j, j < 20 * q ∨ 20 * q + 20 ≤ j → zd m' 140 j = zd m 140 j) → (∀ j, zd m' 141 j = if j = q then zd m 101 29 else zd m 141 j) → Q 0 m') : P_M_askAll q m Q := by
  have key : ∀ (d f : Nat) (y : Int) (g : zH), y = zd m 101 29 - d → 0 ≤ y → d < f → yA [140] m g → (∀ k, 0 ≤ k → k < y → zd g 140 (20 * q + k) = zd m 122 k) → (∀ j, j < 20 * q ∨ 20 * q + 20 ≤ j → zd g 140 j = zd m 140 j) → P_M_askAll_L2 q Q f y g := by
    intro d
    induction d with
    | zero =>
      intro f y g hy y0 hf gA gv go
      obtain ⟨f, rfl⟩ : ∃ m, f = m + 1 := ⟨f - 1, by omega⟩
      unfold P_M_askAll_L2
      rw [gA.d (b := 101) (by decide), if_pos (by omega)]
      refine ⟨⟨by omega, by omega⟩, ?_⟩
      intro h1 e1
      refine k h1 (by rw [e1]; exact (gA.mono (by simp)).w (by simp)) (fun k k0 k1 => by rw [e1, zd_a (by decide)]; exact gv k k0 (by omega)) (fun j hj => by rw [e1, zd_a (by decide)]; exact go j hj) (fun j => by rw [e1, zup, gA.d (b := 141) (by decide)])
    | succ d ih =>
      intro f y g hy y0 hf gA gv go
      obtain ⟨f, rfl⟩ : ∃ m, f = m + 1 := ⟨f - 1, by omega⟩
      unfold P_M_askAll_L2
      simp only [w32_al, w32_ar, w32_sl, w32_sr, w32_ml, w32_mr]
      rw [gA.d (b := 101) (by decide), if_neg (by omega), w32_of (x := 20 * q + y) (by omega) (by omega), w32_of (x := y + 1) (by omega) (by omega), gA.d (b := 122) (by decide)]
      refine ⟨⟨by omega, by omega⟩, ⟨by omega, by omega⟩, ?_⟩
      intro h2 e2 x2 ex
      rw [ex]
      refine ih f (y + 1) h2 (by omega) (by omega) (by omega) (by rw [e2]; exact gA.w (by simp)) (fun k k0 k1 => ?_) (fun j hj => by rw [e2, zup, if_neg (by omega)]; exact go j hj)
      rw [e2, zup]
      by_cases c : k = y
      · rw [if_pos (by omega), c]
      · rw [if_neg (by omega)]; exact gv k k0 (by omega)
  unfold P_M_askAll
  exact ⟨(zd m 101 29).toNat + 1, key (zd m 101 29).toNat _ 0 m (by omega) (by decide) (by omega) (yA.rf _ _) (fun k k0 k1 => by omega) (fun _ _ => rfl)⟩
/-- the end is noted -/
theorem M_ended {r : Int} {m : zH} {Q : Int → zH → Prop} (A0 : 0 ≤ zd m 137 0) (A3 : zd m 137 0 ≤ 300) (k : ∀ m', yA [101, 136, 142] m m' → (∀ j, zd m' 101 j = if j = 57 then (if r = -1004 then 1 else 0) else zd m 101 j) → (∀ j, zd m' 142 j = if j = 0 then r else zd m 142 j) → (r = 1 → ∀ n, 1 ≤ n → n ≤ zd m 137 0 → zd m' 136 n = zd m 143 n) → (r ≠ 1 → zd m' 136 = zd m 136) → Q r m') : P_M_ended r m Q := by
  unfold P_M_ended P_M_ended_J20
  intro h1 e1
  refine ⟨by split <;> omega, ?_⟩
  intro h2 e2
  have A2 : yA [101, 142] m h2 := by rw [e2, e1]; exact ((yA.rf _ m).w (by simp)).w (by simp)
  have w101 : ∀ j, zd h2 101 j = if j = 57 then (if r = -1004 then 1 else 0) else zd m 101 j := fun j => by rw [e2, zup, e1, zd_a (by decide)]
  have w142 : ∀ j, zd h2 142 j = if j = 0 then r else zd m 142 j := fun j => by rw [e2, zd_a (by decide), e1, zup]
  by_cases c : r = 1
  · have key : ∀ (d f : Nat) (y : Int) (g : zH), y = zd m 137 0 + 1 - d → 1 ≤ y → d < f → yA [136] h2 g → (∀ n, 1 ≤ n → n < y → zd g 136 n = zd m 143 n) → P_M_ended_L25 r Q f y g := by
      intro d
      induction d with
      | zero =>
        intro f y g hy y0 hf gA gv
        obtain ⟨f, rfl⟩ : ∃ m, f = m + 1 := ⟨f - 1, by omega⟩
        unfold P_M_ended_L25
        rw [gA.d (b := 137) (by decide), A2.d (b := 137) (by decide), if_pos (by omega)]
        exact k g ((A2.mono (by simp)).tr (gA.mono (by simp))) (fun j => by rw [gA.d (b := 101) (by decide), w101]) (fun j => by rw [gA.d (b := 142) (by decide), w142]) (fun _ n n0 n1 => gv n n0 (by omega)) (fun z => absurd c z)
      | succ d ih =>
        intro f y g hy y0 hf gA gv
        obtain ⟨f, rfl⟩ : ∃ m, f = m + 1 := ⟨f - 1, by omega⟩
        unfold P_M_ended_L25
        rw [gA.d (b := 137) (by decide), A2.d (b := 137) (by decide), if_neg (by omega), if_pos c, gA.d (b := 143) (by decide), A2.d (b := 143) (by decide), w32_of (x := y + 1) (by omega) (by omega)]
        refine ⟨⟨by omega, by omega⟩, ⟨by omega, by omega⟩, ?_⟩
        intro h3 e3 x2 ex
        rw [ex]
        refine ih f (y + 1) h3 (by omega) (by omega) (by omega) (by rw [e3]; exact gA.w (by simp)) (fun n n0 n1 => ?_)
        rw [e3, zup]
        by_cases z : n = y
        · rw [if_pos z, z]
        · rw [if_neg z]; exact gv n n0 (by omega)
    exact ⟨(zd m 137 0).toNat + 1, key (zd m 137 0).toNat _ 1 h2 (by omega) (by decide) (by omega) (yA.rf _ _) (fun n n0 n1 => by omega)⟩
  · refine ⟨1, ?_⟩
    unfold P_M_ended_L25
    have fin := k h2 (A2.mono (by simp)) w101 w142 (fun z => absurd z c) (fun _ => A2.f (by decide))
    by_cases z : zd h2 137 0 < 1
    · rw [if_pos z]; exact fin
    · rw [if_neg z, if_neg c]; exact fin
