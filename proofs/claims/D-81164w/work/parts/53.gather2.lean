/-! gather, beginSet; the model's useRow, clearMarks -/
def EgatP (e s but l : Int) (h h' : zH) (r : Int) : Prop := yA [e, e + 25, e + 26, e + 29, e + 30] h h' ∧ (∀ j, j ≠ 52 → j ≠ 54 → zd h' e j = zd h e j) ∧ EG e h' ∧
  (∀ n, 1 ≤ n → n ≤ zd h e 11 → (zd h' (e + 25) n = 1 ↔ zd h (e + 25) n = 1 ∨ rowHas e h s but n (zd h (e + 1) s)) ∧ (zd h' (e + 26) n = 1 ↔ zd h (e + 26) n = 1 ∨ rowHas e h s but n (zd h (e + 1) s))) ∧
  r = cmk e h' l - cmk e h l ∧ (zd h' e 52 - zd h e 52 = cwas e h' - cwas e h) ∧
  (∀ w b, 0 ≤ w → w < 8 → b < 64 → (hb (zd h' (e + 29) w) b = true ↔ hb (zd h (e + 29) w) b = true ∨ srcE e h s w b = true ∨ lowE e h s but w b (zd h (e + 1) s))) ∧
  (s < 564 → zd h' e 54 = zd h e 54 ∧ zd h' (e + 30) = zd h (e + 30)) ∧ (564 ≤ s → zd h' e 54 = zd h e 54 + 1 ∧ ∀ j, zd h' (e + 30) j = if j = zd h e 54 then s - 564 else zd h (e + 30) j)
theorem E_gather {e s but l top : Int} {h : zH} {Q : Int → zH → Prop} (hs : ES e h top) (hg : EG e h) (t29 : zt h (e + 29) = 53) (l29 : zl h (e + 29) = 8) (ls : elaid e h s) (hu : 0 ≤ zd h e 54 ∧ zd h e 54 < 301) (hm : -100000 ≤ zd h e 52 ∧ zd h e 52 ≤ 100000) (k : ∀ r h', EgatP e s but l h h' r → Q r h') : P_E_gather e s but l h Q := by
  obtain ⟨⟨s0, s1⟩, ⟨f0, z0, f1⟩, -⟩ := hs.2.2.2.2.2.1 s ls
  have tp := hs.2.2.1
  have A3 := hs.1
  -- behind the first part: sources, and what was of use
  have rest : ∀ g, yA [e, e + 29, e + 30] h g → (∀ j, j ≠ 54 → zd g e j = zd h e j) → (∀ w b, 0 ≤ w → w < 8 → b < 64 → hb (zd g (e + 29) w) b = (hb (zd h (e + 29) w) b || srcE e h s w b)) → (s < 564 → zd g e 54 = zd h e 54 ∧ zd g (e + 30) = zd h (e + 30)) → (564 ≤ s → zd g e 54 = zd h e 54 + 1 ∧ ∀ j, zd g (e + 30) j = if j = zd h e 54 then s - 564 else zd h (e + 30) j) → P_E_gather_J41 e s but l 0 g Q := by
    intro g gA g0 gs u1 u2
    have k2 : ∀ b, b ≠ e → b ≠ e + 29 → b ≠ e + 30 → zd g b = zd h b := fun b h1 h2 h3 => gA.f (by simp only [List.mem_cons, List.not_mem_nil, or_false]; omega)
    have a11 : zd g e 11 = zd h e 11 := g0 11 (by decide)
    have hs2 : ES e g top := hs.cg (g0 10 (by decide)) a11 (k2 _ (by omega) (by omega) (by omega)) (k2 _ (by omega) (by omega) (by omega)) (k2 _ (by omega) (by omega) (by omega)) (k2 _ (by omega) (by omega) (by omega)) (k2 _ (by omega) (by omega) (by omega)) (k2 _ (by omega) (by omega) (by omega)) (k2 _ (by omega) (by omega) (by omega))
    have e1 : zd g (e + 1) = zd h (e + 1) := k2 _ (by omega) (by omega) (by omega)
    have e2 : zd g (e + 2) = zd h (e + 2) := k2 _ (by omega) (by omega) (by omega)
    unfold P_E_gather_J41
    refine ⟨⟨by omega, by omega⟩, ?_⟩
    intro x5 e5
    rw [e1] at e5
    rw [e5]
    refine ⟨(zd h (e + 2) s).toNat + 1, E_gather_L (zd h (e + 2) s).toNat _ g 0 _ hs2 (by unfold EG at hg ⊢; rw [a11, k2 (e + 25) (by omega) (by omega) (by omega), k2 (e + 26) (by omega) (by omega) (by omega)]; exact hg) (by rw [gA.t]; exact t29) (by rw [gA.l]; exact l29) ((elaid.cg (g0 10 (by decide)) (k2 _ (by omega) (by omega) (by omega)) (k2 _ (by omega) (by omega) (by omega))).mpr ls) (by rw [e1, e2]; omega) (by rw [e1]; omega) (by omega) (by rw [e1]; omega) (by rw [g0 52 (by decide), e1]; omega) (fun r h' u => ?_)⟩
    obtain ⟨v1, v2, v3, v4, v5, v6, v7, v8⟩ := u
    rw [show 0 + r = r by omega]
    have l12 : zd g (e + 12) = zd h (e + 12) := k2 _ (by omega) (by omega) (by omega)
    refine k r h' ⟨(gA.mono (by simp)).tr (v1.mono (by simp)), fun j j1 j2 => by rw [v2 j j1, g0 j j2], v3, fun n n0 n1 => ?_, ?_, ?_, fun w b w0 w1 b1 => ?_, fun q => ?_, fun q => ?_⟩
    · have := v4 n n0 (by rw [a11]; exact n1)
      unfold rowHas at this ⊢
      rw [k2 (e + 25) (by omega) (by omega) (by omega), k2 (e + 26) (by omega) (by omega) (by omega), e1, e2, k2 (e + 7) (by omega) (by omega) (by omega), l12] at this
      exact this
    · rw [v5]; unfold cmk; rw [a11, k2 (e + 25) (by omega) (by omega) (by omega), l12]
    · rw [← g0 52 (by decide), v6]; unfold cwas; rw [a11, k2 (e + 26) (by omega) (by omega) (by omega)]
    · rw [v8 w b w0 w1, gs w b w0 w1 b1, Bool.or_eq_true, or_assoc]
      unfold lowE
      rw [e1, e2, k2 (e + 7) (by omega) (by omega) (by omega), l12, k2 (e + 16) (by omega) (by omega) (by omega)]
    · rw [v2 54 (by decide), v1.f (b := e + 30) (by simp only [List.mem_cons, List.not_mem_nil, or_false]; omega)]; exact u1 q
    · rw [v2 54 (by decide), v1.f (b := e + 30) (by simp only [List.mem_cons, List.not_mem_nil, or_false]; omega)]; exact u2 q
  unfold P_E_gather
  refine L_addSource t29 (by decide) (by rw [l29]; decide) (by rw [l29]; decide) s0 (by omega) (by omega) (fun h2 p1 p2 p3 => ?_)
  have q0 : zd h2 e = zd h e := p1.f (by simp only [List.mem_cons, List.not_mem_nil, or_false]; omega)
  have q3 : ∀ w b, 0 ≤ w → w < 8 → b < 64 → hb (zd h2 (e + 29) w) b = (hb (zd h (e + 29) w) b || srcE e h s w b) := by
    intro w b w0 w1 b1
    have := p3 w b w0 w1 b1
    rw [show 0 + w = w by omega] at this; exact this
  refine zif_i (fun c => ?_) (fun c => ?_)
  · exact rest h2 (p1.mono (by simp)) (fun j _ => by rw [q0]) q3 (fun _ => ⟨by rw [q0], p1.f (by simp only [List.mem_cons, List.not_mem_nil, or_false]; omega)⟩) (fun q => by omega)
  · rw [q0, w32_of (x := zd h e 54 + 1) (by omega) (by omega), w32_of (x := s - 564) (by omega) (by omega)]
    intro h12 e12
    refine ⟨hu, ?_⟩
    intro h13 e13
    refine rest h13 (by rw [e13, e12]; exact ((p1.mono (by simp)).w (by simp)).w (by simp)) (fun j hj => by rw [e13, zd_a (by omega), e12, zd_i hj, q0]) (fun w b w0 w1 b1 => by rw [e13, zd_a (by omega), e12, zd_a (by omega)]; exact q3 w b w0 w1 b1) (fun q => absurd q c) (fun _ => ⟨by rw [e13, zd_a (by omega), e12, zd_s], fun j => ?_⟩)
    rw [e13, zd_zw, e12, zd_a (by omega), p1.f (b := e + 30) (by simp only [List.mem_cons, List.not_mem_nil, or_false]; omega)]
    by_cases z : j = zd h e 54
    · rw [if_pos ⟨rfl, z⟩, if_pos z]
    · rw [if_neg (by exact fun q => z q.2), if_neg z]
/-- the set is empty -/
def EbegP (e : Int) (h h' : zH) : Prop := yA [e, e + 25, e + 26, e + 29] h h' ∧ (∀ j, zd h' e j = if j = 50 ∨ j = 52 ∨ j = 54 then 0 else zd h e j) ∧ (∀ n, 1 ≤ n → n ≤ zd h e 11 → zd h' (e + 25) n = 0 ∧ zd h' (e + 26) n = 0) ∧ ∀ w, 0 ≤ w → w < 8 → zd h' (e + 29) w = 0
theorem E_beginSet {e : Int} {h : zH} {Q : Int → zH → Prop} (hA0 : 0 ≤ zd h e 11) (hA : zd h e 11 ≤ 300) (k : ∀ h', EbegP e h h' → Q 0 h') : P_E_beginSet e h Q := by
  have k1 : ∀ (d f : Nat) (y : Int) (g : zH) (K : zH → Prop), y = zd h e 11 + 1 - d → 1 ≤ y → d < f → yA [e + 25, e + 26] h g → (∀ n, 1 ≤ n → n < y → zd g (e + 25) n = 0 ∧ zd g (e + 26) n = 0) → (∀ g, yA [e + 25, e + 26] h g → (∀ n, 1 ≤ n → n ≤ zd h e 11 → zd g (e + 25) n = 0 ∧ zd g (e + 26) n = 0) → K g) → P_E_beginSet_L2 e Q K f y g := by
    intro d
    induction d with
    | zero =>
      intro f y g K hy y0 hf gA iv kk
      obtain ⟨f, rfl⟩ : ∃ m, f = m + 1 := ⟨f - 1, by omega⟩
      unfold P_E_beginSet_L2
      rw [gA.f (b := e) (by simp only [List.mem_cons, List.not_mem_nil, or_false]; omega), if_pos (by omega)]
      exact kk g gA (fun n n0 n1 => iv n n0 (by omega))
    | succ d ih =>
      intro f y g K hy y0 hf gA iv kk
      obtain ⟨f, rfl⟩ : ∃ m, f = m + 1 := ⟨f - 1, by omega⟩
      unfold P_E_beginSet_L2
      rw [gA.f (b := e) (by simp only [List.mem_cons, List.not_mem_nil, or_false]; omega), if_neg (by omega), zbit_0]
      refine ⟨⟨by omega, by omega⟩, ?_⟩
      intro h1 e1
      refine ⟨⟨by omega, by omega⟩, ?_⟩
      intro h2 e2 x1 ex1
      rw [w32_of (by omega) (by omega)] at ex1
      rw [ex1]
      refine ih f (y + 1) h2 K (by omega) (by omega) (by omega) (by rw [e2, e1]; exact (gA.w (by simp)).w (by simp)) (fun n n0 n1 => ?_) kk
      by_cases c : n = y
      · rw [e2, zd_a (by omega), e1, c, zd_s, zd_s]; exact ⟨rfl, rfl⟩
      · rw [e2, zd_a (by omega), zd_i c, e1, zd_i c, zd_a (by omega)]; exact iv n n0 (by omega)
  have k2 : ∀ (d f : Nat) (y : Int) (g g0 : zH) (K : zH → Prop), y = 8 - d → 0 ≤ y → d < f → yA [e + 29] g0 g → (∀ w, 0 ≤ w → w < y → zd g (e + 29) w = 0) → (∀ g, yA [e + 29] g0 g → (∀ w, 0 ≤ w → w < 8 → zd g (e + 29) w = 0) → K g) → P_E_beginSet_L32 e Q K f y g := by
    intro d
    induction d with
    | zero =>
      intro f y g g0 K hy y0 hf gA iv kk
      obtain ⟨f, rfl⟩ : ∃ m, f = m + 1 := ⟨f - 1, by omega⟩
      unfold P_E_beginSet_L32
      rw [if_pos (by omega)]
      exact kk g gA (fun w w0 w1 => iv w w0 (by omega))
    | succ d ih =>
      intro f y g g0 K hy y0 hf gA iv kk
      obtain ⟨f, rfl⟩ : ∃ m, f = m + 1 := ⟨f - 1, by omega⟩
      unfold P_E_beginSet_L32
      rw [if_neg (by omega)]
      refine ⟨⟨by omega, by omega⟩, ?_⟩
      intro h5 e5 x1 ex1
      rw [w32_of (by omega) (by omega)] at ex1
      rw [ex1, e5]
      refine ih f (y + 1) _ g0 K (by omega) (by omega) (by omega) (gA.w (by simp)) (fun w w0 w1 => ?_) kk
      by_cases c : w = y
      · rw [c, zd_s]
      · rw [zd_i c]; exact iv w w0 (by omega)
  unfold P_E_beginSet
  refine ⟨(zd h e 11).toNat + 1, k1 (zd h e 11).toNat _ 1 h _ (by omega) (by omega) (by omega) (yA.rf _ _) (fun n n0 n1 => by omega) (fun h4 p1 p2 => ?_)⟩
  refine ⟨9, k2 8 9 0 h4 h4 _ (by decide) (by decide) (by decide) (yA.rf _ _) (fun w w0 w1 => by omega) (fun h7 r1 r2 => ?_)⟩
  intro h8 e8 h9 e9 h10 e10
  have kk : ∀ b, b ≠ e → zd h10 b = zd h7 b := fun b hb => by rw [e10, zw_f hb, e9, zw_f hb, e8, zw_f hb]
  refine k h10 ⟨by rw [e10, e9, e8]; exact (((((p1.mono (by simp)).tr (r1.mono (by simp))).w (by simp)).w (by simp)).w (by simp)), fun j => ?_, fun n n0 n1 => ?_, fun w w0 w1 => by rw [kk _ (by omega)]; exact r2 w w0 w1⟩
  · by_cases c : j = 54
    · rw [if_pos (by omega), c, e10, zd_s]
    · rw [e10, zd_i c]
      by_cases c2 : j = 52
      · rw [if_pos (by omega), c2, e9, zd_s]
      · rw [e9, zd_i c2]
        by_cases c3 : j = 50
        · rw [if_pos (by omega), c3, e8, zd_s]
        · rw [e8, zd_i c3, if_neg (by omega), r1.d (b := e) (by simp only [List.mem_cons, List.not_mem_nil, or_false]; omega), p1.d (b := e) (by simp only [List.mem_cons, List.not_mem_nil, or_false]; omega)]
  · rw [kk _ (by omega), kk _ (by omega), r1.d (b := e + 25) (by simp only [List.mem_cons, List.not_mem_nil, or_false]; omega), r1.d (b := e + 26) (by simp only [List.mem_cons, List.not_mem_nil, or_false]; omega)]; exact p2 n n0 n1
theorem M_clearMarks {m : zH} {Q : Int → zH → Prop} (k : ∀ m', yA [168, 169] m m' → (∀ n, 0 ≤ n → n ≤ 300 → zd m' 168 n = 0 ∧ zd m' 169 n = 0) → Q 0 m') : P_M_clearMarks m Q := by
  have k1 : ∀ (d f : Nat) (y : Int) (g : zH), y = 301 - d → 0 ≤ y → d < f → yA [168, 169] m g → (∀ n, 0 ≤ n → n < y → zd g 168 n = 0 ∧ zd g 169 n = 0) → P_M_clearMarks_L2 Q f y g := by
    intro d
    induction d with
    | zero =>
      intro f y g hy y0 hf gA iv
      obtain ⟨f, rfl⟩ : ∃ m, f = m + 1 := ⟨f - 1, by omega⟩
      unfold P_M_clearMarks_L2
      rw [if_pos (by omega)]
      exact k g gA (fun n n0 n1 => iv n n0 (by omega))
    | succ d ih =>
      intro f y g hy y0 hf gA iv
      obtain ⟨f, rfl⟩ : ∃ m, f = m + 1 := ⟨f - 1, by omega⟩
      unfold P_M_clearMarks_L2
      rw [if_neg (by omega), zbit_0]
      refine ⟨⟨by omega, by omega⟩, ?_⟩
      intro h1 e1
      refine ⟨⟨by omega, by omega⟩, ?_⟩
      intro h2 e2 x1 ex1
      rw [w32_of (by omega) (by omega)] at ex1
      rw [ex1]
      refine ih f (y + 1) h2 (by omega) (by omega) (by omega) (by rw [e2, e1]; exact (gA.w (by simp)).w (by simp)) (fun n n0 n1 => ?_)
      by_cases c : n = y
      · rw [e2, zd_a (by decide), e1, c, zd_s, zd_s]; exact ⟨rfl, rfl⟩
      · rw [e2, zd_a (by decide), zd_i c, e1, zd_i c, zd_a (by decide)]; exact iv n n0 (by omega)
  unfold P_M_clearMarks
  exact ⟨302, k1 301 302 0 m (by decide) (by decide) (by decide) (yA.rf _ _) (fun n n0 n1 => by omega)⟩
/-! the model's set -/
def mmk (q A : Int) (m : zH) (l : Int) : Int := zct (fun n => if zd m 168 n = 1 ∧ zd m 144 (301 * q + n) = l then 1 else 0) 1 1 A.toNat
def MG (A : Int) (m : zH) : Prop := ∀ n, 1 ≤ n → n ≤ A → (zd m 168 n = 0 ∨ zd m 168 n = 1) ∧ (zd m 169 n = 0 ∨ zd m 169 n = 1) ∧ (zd m 168 n = 1 → zd m 169 n = 1)
def mrHas (q : Int) (m : zH) (r but n y : Int) : Prop := ∃ i, y ≤ i ∧ i < msz m q r ∧ zab (mit m q r i) = n ∧ n ≠ but ∧ 0 < zd m 144 (301 * q + n)
def MuseP (q A r but : Int) (m m' : zH) : Prop := yA [101, 168, 169, 170] m m' ∧ (∀ j, j ≠ 104 → j ≠ 106 → zd m' 101 j = zd m 101 j) ∧ MG A m' ∧ (∀ n, 1 ≤ n → n ≤ A → (zd m' 168 n = 1 ↔ zd m 168 n = 1 ∨ mrHas q m r but n 0) ∧ (zd m' 169 n = 1 ↔ zd m 169 n = 1 ∨ mrHas q m r but n 0)) ∧ zd m' 101 104 = zd m 101 104 + (mmk q A m' (zd m 151 q) - mmk q A m (zd m 151 q)) ∧ zd m' 101 106 = zd m 101 106 + 1 ∧ ∀ j, zd m' 170 j = if j = zd m 101 106 then r else zd m 170 j
theorem M_useRow {q A r but : Int} {m : zH} {Q : Int → zH → Prop} (q0 : 0 ≤ q) (q1 : q ≤ 1) (hA0 : 0 ≤ A) (hA : A ≤ 300) (hr : MR m q A r) (hg : MG A m) (hu0 : 0 ≤ zd m 101 106) (hu1 : zd m 101 106 < 320) (ho0 : -100000 ≤ zd m 101 104) (ho1 : zd m 101 104 ≤ 100000) (k : ∀ m', MuseP q A r but m m' → Q 0 m') : P_M_useRow q r but m Q := by
  have zr := hr.z
  have key : ∀ (d f : Nat) (y : Int) (g : zH), y = msz m q r - d → 0 ≤ y → d < f → yA [101, 168, 169, 170] m g → (∀ j, j ≠ 104 → j ≠ 106 → zd g 101 j = zd m 101 j) → MG A g → (∀ n, 1 ≤ n → n ≤ A → (zd g 168 n = 1 ↔ zd m 168 n = 1 ∨ ∃ i, 0 ≤ i ∧ i < y ∧ zab (mit m q r i) = n ∧ n ≠ but ∧ 0 < zd m 144 (301 * q + n)) ∧ (zd g 169 n = 1 ↔ zd m 169 n = 1 ∨ ∃ i, 0 ≤ i ∧ i < y ∧ zab (mit m q r i) = n ∧ n ≠ but ∧ 0 < zd m 144 (301 * q + n))) → zd g 101 104 = zd m 101 104 + (mmk q A g (zd m 151 q) - mmk q A m (zd m 151 q)) → zd g 101 104 ≤ 100000 + y ∧ -100000 ≤ zd g 101 104 → zd g 101 106 = zd m 101 106 + 1 → (∀ j, zd g 170 j = if j = zd m 101 106 then r else zd m 170 j) → P_M_useRow_L31 q r but (msz m q r) Q f y g := by
    intro d
    induction d with
    | zero =>
      intro f y g hy y0 hf gA g0 gg gm gc gr gu gv
      obtain ⟨f, rfl⟩ : ∃ m, f = m + 1 := ⟨f - 1, by omega⟩
      have ey : y = msz m q r := by omega
      rw [ey] at gm
      unfold P_M_useRow_L31
      rw [if_pos (by omega)]
      exact k g ⟨gA, g0, gg, gm, gc, gu, gv⟩
    | succ d ih =>
      intro f y g hy y0 hf gA g0 gg gm gc gr gu gv
      obtain ⟨f, rfl⟩ : ∃ m, f = m + 1 := ⟨f - 1, by omega⟩
      have it := hr.2 y y0 (by omega)
      have ir := zab_r it
      have sz : msz g q r = msz m q r := msz_cg (gA.f (by decide)) (g0 66 (by decide) (by decide)) (gA.f (by decide)) (gA.f (by decide))
      have mi : ∀ i, mit g q r i = mit m q r i := fun i => mit_cg (gA.f (by decide)) (g0 66 (by decide) (by decide)) (gA.f (by decide)) (gA.f (by decide)) (gA.f (by decide)) (gA.f (by decide))
      have gr' : MR g q A r := by
        unfold MR
        rw [gA.f (b := 119) (by decide), gA.f (b := 123) (by decide), gA.f (b := 152) (by decide), g0 66 (by decide) (by decide), sz]
        exact ⟨hr.1, fun i i0 i1 => by rw [mi]; exact hr.2 i i0 i1⟩
      have st : w32 (y + 1) = y + 1 := w32_of (by omega) (by omega)
      have same : (zab (mit m q r y) = but ∨ zd m 144 (301 * q + zab (mit m q r y)) ≤ 0 ∨ zd g 168 (zab (mit m q r y)) = 1) → P_M_useRow_J135 q r but (msz m q r) y g Q (P_M_useRow_L31 q r but (msz m q r) Q f) := by
        intro no
        unfold P_M_useRow_J135
        intro x5 e5
        rw [e5, st]
        have ext : ∀ n, 1 ≤ n → n ≤ A → (zd g 168 n = 1 ∨ ∃ i, 0 ≤ i ∧ i < y + 1 ∧ zab (mit m q r i) = n ∧ n ≠ but ∧ 0 < zd m 144 (301 * q + n)) → zd g 168 n = 1 := by
          rintro n n0 n1 (p | ⟨i, i0, i1, i2, i3, i4⟩)
          · exact p
          · by_cases c : i = y
            · rw [c] at i2
              rcases no with no | no | no
              · exact absurd (i2.symm.trans no) i3
              · rw [i2] at no; omega
              · rw [i2] at no; exact no
            · exact ((gm n n0 n1).1).mpr (Or.inr ⟨i, i0, by omega, i2, i3, i4⟩)
        refine ih f (y + 1) g (by omega) (by omega) (by omega) gA g0 gg (fun n n0 n1 => ?_) gc (by omega) gu gv
        obtain ⟨a1, a2⟩ := gm n n0 n1
        refine ⟨⟨fun p => ?_, fun p => ?_⟩, ⟨fun p => ?_, fun p => ?_⟩⟩
        · rcases a1.mp p with p | ⟨i, i0, i1, i2⟩
          · exact Or.inl p
          · exact Or.inr ⟨i, i0, by omega, i2⟩
        · rcases p with p | p
          · exact a1.mpr (Or.inl p)
          · exact ext n n0 n1 (Or.inr p)
        · rcases a2.mp p with p | ⟨i, i0, i1, i2⟩
          · exact Or.inl p
          · exact Or.inr ⟨i, i0, by omega, i2⟩
        · rcases p with p | p
          · exact a2.mpr (Or.inl p)
          · exact (gg n n0 n1).2.2 (ext n n0 n1 (Or.inr p))
      unfold P_M_useRow_L31
      rw [if_neg (by omega)]
      refine M_itemOf q0 q1 gr' y0 (by rw [sz]; omega) ?_
      rw [mi]
      refine M_nameOf it hA ?_
      simp only [w32_al, w32_ar, w32_sl, w32_sr, w32_ml, w32_mr]
      rw [w32_of (x := 301 * q + zab (mit m q r y)) (by omega) (by omega), gA.d (b := 144) (by decide), zbit_1]
      refine zif_i (fun c => same (Or.inl c)) (fun c => ⟨⟨by omega, by omega⟩, zif_i (fun c2 => same (Or.inr (Or.inl c2))) (fun c2 => ⟨⟨by omega, by omega⟩, zif_i (fun c3 => ?_) (fun c3 => same (Or.inr (Or.inr (by have := (gg _ ir.1 ir.2).1; omega))))⟩)⟩)
      refine ⟨⟨by omega, by omega⟩, ?_⟩
      intro h10 e10
      refine ⟨⟨by omega, by omega⟩, ?_⟩
      intro h11 e11
      refine ⟨⟨by omega, by omega⟩, ⟨by omega, by omega⟩, ?_⟩
      have A11 : yA [168, 169] g h11 := by rw [e11, e10]; exact ((yA.rf _ g).w (by simp)).w (by simp)
      have v168 : ∀ j, zd h11 168 j = if j = zab (mit m q r y) then 1 else zd g 168 j := by
        intro j
        rw [e11, zd_a (by decide), e10, zd_zw]
        by_cases z : j = zab (mit m q r y)
        · rw [if_pos ⟨rfl, z⟩, if_pos z]
        · rw [if_neg (by exact fun q => z q.2), if_neg z]
      have v169 : ∀ j, zd h11 169 j = if j = zab (mit m q r y) then 1 else zd g 169 j := by
        intro j
        rw [e11, zd_zw, e10, zd_a (by decide)]
        by_cases z : j = zab (mit m q r y)
        · rw [if_pos ⟨rfl, z⟩, if_pos z]
        · rw [if_neg (by exact fun q => z q.2), if_neg z]
      have v144 : zd h11 144 = zd m 144 := (A11.f (by decide)).trans (gA.f (by decide))
      have v151 : zd h11 151 = zd m 151 := (A11.f (by decide)).trans (gA.f (by decide))
      have v101 : zd h11 101 = zd g 101 := A11.f (by decide)
      rw [v144, v151, v101]
      unfold P_M_useRow_J131 P_M_useRow_J135
      have lr : (if zd m 144 (301 * q + zab (mit m q r y)) = zd m 151 q then (1 : Int) else 0) ≤ 1 ∧ 0 ≤ (if zd m 144 (301 * q + zab (mit m q r y)) = zd m 151 q then (1 : Int) else 0) := by split <;> omega
      intro h12 e12
      rw [w32_of (by omega) (by omega)] at e12
      intro x5 e5
      rw [e5, st]
      have k12 : ∀ b, b ≠ 101 → zd h12 b = zd h11 b := fun b hb => by rw [e12, zw_f hb]
      have cm : mmk q A h12 (zd m 151 q) = mmk q A g (zd m 151 q) + (if zd m 144 (301 * q + zab (mit m q r y)) = zd m 151 q then 1 else 0) := by
        unfold mmk
        rw [k12 168 (by decide), k12 144 (by decide), v144, gA.f (b := 144) (by decide)]
        by_cases z : zd m 144 (301 * q + zab (mit m q r y)) = zd m 151 q
        · rw [if_pos z]
          refine zct_one (i := zab (mit m q r y)) (by omega) (by omega) ?_ ?_ (fun j hj => ?_)
          · rw [if_neg (by exact fun q => by have := q.1; omega)]; decide
          · rw [v168, if_pos rfl, if_pos ⟨rfl, z⟩]
          · rw [v168, if_neg hj]
        · rw [if_neg z, zct_congr (g := fun n => if zd g 168 n = 1 ∧ zd m 144 (301 * q + n) = zd m 151 q then 1 else 0) (u := 1)]
          · omega
          · intro j j0 j1
            by_cases w : j = zab (mit m q r y)
            · rw [w, if_neg (by exact fun q => z q.2), if_neg (by exact fun q => z q.2)]
            · rw [v168, if_neg w]
      have f104 : zd h12 101 104 = zd g 101 104 + (if zd m 144 (301 * q + zab (mit m q r y)) = zd m 151 q then 1 else 0) := by rw [e12, zd_s]
      have f0 : ∀ j, j ≠ 104 → zd h12 101 j = zd g 101 j := fun j hj => by rw [e12, zd_i hj, v101]
      refine ih f (y + 1) h12 (by omega) (by omega) (by omega) (by rw [e12]; exact (gA.tr (A11.mono (by simp))).w (by simp)) (fun j j1 j2 => by rw [f0 j j1, g0 j j1 j2]) (fun n n0 n1 => ?_) (fun n n0 n1 => ?_) (by omega) (by omega) (by rw [f0 106 (by decide)]; exact gu) (fun j => by rw [k12 170 (by decide), A11.d (b := 170) (by decide)]; exact gv j)
      · have := gg n n0 n1
        rw [k12 168 (by decide), k12 169 (by decide), v168, v169]
        split <;> omega
      · obtain ⟨a1, a2⟩ := gm n n0 n1
        rw [k12 168 (by decide), k12 169 (by decide), v168, v169]
        by_cases z : n = zab (mit m q r y)
        · rw [if_pos z, if_pos z]
          have w : ∃ i, 0 ≤ i ∧ i < y + 1 ∧ zab (mit m q r i) = n ∧ n ≠ but ∧ 0 < zd m 144 (301 * q + n) := ⟨y, y0, by omega, z.symm, by rw [z]; exact c, by rw [z]; omega⟩
          exact ⟨⟨fun _ => Or.inr w, fun _ => rfl⟩, ⟨fun _ => Or.inr w, fun _ => rfl⟩⟩
        · rw [if_neg z, if_neg z, a1, a2]
          have w : (∃ i, 0 ≤ i ∧ i < y ∧ zab (mit m q r i) = n ∧ n ≠ but ∧ 0 < zd m 144 (301 * q + n)) ↔ ∃ i, 0 ≤ i ∧ i < y + 1 ∧ zab (mit m q r i) = n ∧ n ≠ but ∧ 0 < zd m 144 (301 * q + n) := by
            constructor
            · rintro ⟨i, i0, i1, i2⟩; exact ⟨i, i0, by omega, i2⟩
            · rintro ⟨i, i0, i1, i2⟩
              by_cases w : i = y
              · rw [w] at i2; exact absurd i2.1.symm z
              · exact ⟨i, i0, by omega, i2⟩
          exact ⟨or_congr Iff.rfl w, or_congr Iff.rfl w⟩
  unfold P_M_useRow
  refine ⟨⟨hu0, hu1⟩, ?_⟩
  intro h1 e1 h2 e2
  have u1 : zd h1 101 106 = zd m 101 106 := by rw [e1, zd_a (by decide)]
  rw [u1, w32_of (by omega) (by omega)] at e2
  have A2 : yA [101, 168, 169, 170] m h2 := by rw [e2, e1]; exact ((yA.rf _ m).w (by simp)).w (by simp)
  have f2 : ∀ j, j ≠ 106 → zd h2 101 j = zd m 101 j := fun j hj => by rw [e2, zd_i hj, e1, zd_a (by decide)]
  have k2 : ∀ b, b ≠ 101 → b ≠ 170 → zd h2 b = zd m b := fun b n1 n2 => by rw [e2, zw_f n1, e1, zw_f n2]
  have sz : msz h2 q r = msz m q r := msz_cg (A2.f (by decide)) (f2 66 (by decide)) (A2.f (by decide)) (A2.f (by decide))
  have mi : ∀ i, mit h2 q r i = mit m q r i := fun i => mit_cg (A2.f (by decide)) (f2 66 (by decide)) (A2.f (by decide)) (A2.f (by decide)) (A2.f (by decide)) (A2.f (by decide))
  refine M_sizeOf (A := A) q0 q1 ?_ ?_
  · unfold MR
    rw [A2.f (b := 119) (by decide), A2.f (b := 123) (by decide), A2.f (b := 152) (by decide), f2 66 (by decide), sz]
    exact ⟨hr.1, fun i i0 i1 => by rw [mi]; exact hr.2 i i0 i1⟩
  rw [sz]
  refine ⟨(msz m q r).toNat + 1, key (msz m q r).toNat _ 0 h2 (by omega) (by omega) (by omega) A2 (fun j _ j2 => f2 j j2) (by unfold MG at hg ⊢; rw [k2 168 (by decide) (by decide), k2 169 (by decide) (by decide)]; exact hg) (fun n n0 n1 => ?_) ?_ (by rw [f2 104 (by decide)]; omega) (by rw [e2, zd_s]) (fun j => ?_)⟩
  · rw [k2 168 (by decide) (by decide), k2 169 (by decide) (by decide)]
    exact ⟨⟨Or.inl, fun p => p.elim id (fun ⟨i, i0, i1, _⟩ => by omega)⟩, ⟨Or.inl, fun p => p.elim id (fun ⟨i, i0, i1, _⟩ => by omega)⟩⟩
  · have : mmk q A h2 (zd m 151 q) = mmk q A m (zd m 151 q) := by unfold mmk; rw [k2 168 (by decide) (by decide), k2 144 (by decide) (by decide)]
    rw [f2 104 (by decide), this]; omega
  · rw [e2, zd_a (by decide), e1, zd_zw]
    by_cases z : j = zd m 101 106
    · rw [if_pos ⟨rfl, z⟩, if_pos z]
    · rw [if_neg (by exact fun q => z q.2), if_neg z]
