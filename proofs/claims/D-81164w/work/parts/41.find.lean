/-! the model's find -/
def mlive (m : zH) (q r : Int) : Prop := (0 ≤ r ∧ r < zd m 138 q ∧ zd m 139 (500 * q + r) ≠ 0) ∨ (1000 ≤ r ∧ r < 1000 + zd m 101 67 ∧ (q = 1 ∨ zd m 101 58 ≠ 0)) ∨ (2000 ≤ r ∧ r < 2000 + zd m 155 q ∧ zd m 156 (800 * q + r - 2000) ≠ 0)
def MRows (m : zH) (q A : Int) : Prop := MV m q A ∧ (0 ≤ zd m 138 q ∧ zd m 138 q ≤ 500) ∧ (0 ≤ zd m 101 67 ∧ zd m 101 67 ≤ 64) ∧ (0 ≤ zd m 155 q ∧ zd m 155 q ≤ 800) ∧ ∀ r, mlive m q r → MR m q A r
def mq0 (m : zH) (q r : Int) : Prop := ∀ i, 0 ≤ i → i < msz m q r → mst m q (mit m q r i) = 0
def mf1 (m : zH) (q r u : Int) : Prop := ∃ i, 0 ≤ i ∧ i < msz m q r ∧ mst m q (mit m q r i) = 2 ∧ u = mit m q r i ∧ ∀ j, 0 ≤ j → j < msz m q r → j ≠ i → mst m q (mit m q r j) = 0
def findQ (m : zH) (q : Int) (g : zH) : Prop := MF m g ∧ mlive m q (zd g 101 98) ∧ mq0 m q (zd g 101 98) ∧ ∀ r, r < zd g 101 98 → mlive m q r → ¬ mq0 m q r
def findI (m : zH) (q p : Int) (g : zH) : Prop := MF m g ∧ zd g 101 98 = -1005 ∧ (∀ r, r < p → mlive m q r → ¬ mq0 m q r) ∧ ((zd g 101 99 = -1005 ∧ ∀ r u, r < p → mlive m q r → ¬ mf1 m q r u) ∨ (zd g 101 99 < p ∧ mlive m q (zd g 101 99) ∧ mf1 m q (zd g 101 99) (zd g 101 100) ∧ ∀ r u, r < zd g 101 99 → mlive m q r → ¬ mf1 m q r u))
theorem mlive_r {m : zH} {q A r : Int} (h : MRows m q A) (l : mlive m q r) : 0 ≤ r ∧ r < 2800 := by
  obtain ⟨-, h1, h2, h3, -⟩ := h
  unfold mlive at l; omega
theorem findI.up {m g : zH} {q p p' : Int} (h : findI m q p g) (hp : p ≤ p') (no : ∀ r, p ≤ r → r < p' → ¬ mlive m q r) : findI m q p' g := by
  obtain ⟨a, b, c, d⟩ := h
  refine ⟨a, b, fun r h1 h2 => ?_, ?_⟩
  · by_cases e : r < p
    · exact c r e h2
    · exact absurd h2 (no r (by omega) h1)
  · rcases d with ⟨d1, d2⟩ | ⟨d1, d2, d3, d4⟩
    · refine Or.inl ⟨d1, fun r u h1 h2 => ?_⟩
      by_cases e : r < p
      · exact d2 r u e h2
      · exact absurd h2 (no r (by omega) h1)
    · exact Or.inr ⟨by omega, d2, d3, d4⟩
theorem M_goOver {q A r : Int} {m g : zH} {Q : Int → zH → Prop} (q0 : 0 ≤ q) (q1 : q ≤ 1) (hm : MRows m q A) (hi : findI m q r g) (hl : mlive m q r) (kq : ∀ g', findQ m q g' → Q 0 g') (ki : ∀ g', findI m q (r + 1) g' → Q 1 g') : P_M_goOver q r g Q := by
  have rr := mlive_r hm hl
  obtain ⟨iF, i98, iq, i9⟩ := hi
  unfold P_M_goOver P_M_goOver_J32 P_M_goOver_J44
  refine M_look q0 q1 (iF.v hm.1) (iF.r (hm.2.2.2.2 r hl)) (fun o g' gF gK lr => ?_)
  have F2 : MF m g' := iF.tr gF
  have e98 : zd g' 101 98 = -1005 := by rw [gK 98 (by decide)]; exact i98
  have e99 : zd g' 101 99 = zd g 101 99 := gK 99 (by decide)
  have e100 : zd g' 101 100 = zd g 101 100 := gK 100 (by decide)
  unfold lookR at lr
  simp only [iF.sz, iF.it, iF.st] at lr
  rcases lr with ⟨o0, all⟩ | ⟨o1, un⟩ | ⟨o2, two⟩
  · rw [o0, if_neg (by decide), if_pos rfl, if_pos rfl]
    intro h3 e3
    have v98 : zd h3 101 98 = r := by rw [e3, zd_s]
    refine kq h3 ⟨by rw [e3]; exact F2.w (Or.inr (Or.inl rfl)), ?_, ?_, ?_⟩
    · rw [v98]; exact hl
    · rw [v98]; exact all
    · rw [v98]; exact iq
  · have nq : ¬ mq0 m q r := by
      obtain ⟨i, a1, a2, a3, -⟩ := un
      intro z
      rw [z i a1 a2] at a3; omega
    rw [o1, if_pos rfl]
    simp only [if_neg (show ¬ (1 : Int) = 0 by decide)]
    have nq' : ∀ r', r' < r + 1 → mlive m q r' → ¬ mq0 m q r' := by
      intro r' h1 h2
      by_cases e : r' = r
      · rw [e]; exact nq
      · exact iq r' (by omega) h2
    refine zif_i (fun c => ?_) (fun c => ?_)
    · intro h3 e3
      have v98 : zd h3 101 98 = -1005 := by rw [e3, zd_s]
      have v99 : zd h3 101 99 = zd g 101 99 := by rw [e3, zd_i (by decide), e99]
      have v100 : zd h3 101 100 = zd g 101 100 := by rw [e3, zd_i (by decide), e100]
      refine ki h3 ⟨by rw [e3]; exact F2.w (Or.inr (Or.inl rfl)), v98, nq', ?_⟩
      rw [v99, v100]
      rcases i9 with ⟨z, _⟩ | ⟨z1, z2, z3, z4⟩
      · rw [e99, z] at c; omega
      · exact Or.inr ⟨by omega, z2, z3, z4⟩
    · intro h4 e4 h5 e5 h3 e3
      have v98 : zd h3 101 98 = -1005 := by rw [e3, zd_s]
      have v99 : zd h3 101 99 = r := by rw [e3, zd_i (by decide), e5, zd_i (by decide), e4, zd_s]
      have v100 : zd h3 101 100 = zd g' 101 97 := by rw [e3, zd_i (by decide), e5, zd_s, e4, zd_i (by decide)]
      refine ki h3 ⟨by rw [e3, e5, e4]; exact ((F2.w (Or.inr (Or.inr (Or.inl rfl)))).w (Or.inr (Or.inr (Or.inr rfl)))).w (Or.inr (Or.inl rfl)), v98, nq', ?_⟩
      rw [v99, v100]
      refine Or.inr ⟨by omega, hl, un, ?_⟩
      rcases i9 with ⟨z, z2⟩ | ⟨z1, z2, z3, z4⟩
      · exact fun r' u h1 h2 => z2 r' u h1 h2
      · rw [e99] at c
        have := mlive_r hm z2; omega
  · have nq : ¬ mq0 m q r := by
      intro z
      rcases two with ⟨i, a1, a2, a3⟩ | ⟨i, j, a1, a2, a3, a4, a5⟩
      · rw [z i a1 a2] at a3; omega
      · rw [z i a1 (by omega)] at a4; omega
    have nf : ∀ u, ¬ mf1 m q r u := by
      rintro u ⟨k, b1, b2, b3, b4, b5⟩
      rcases two with ⟨i, a1, a2, a3⟩ | ⟨i, j, a1, a2, a3, a4, a5⟩
      · by_cases e : i = k
        · rw [e] at a3; omega
        · rw [b5 i a1 a2 e] at a3; omega
      · by_cases e : i = k
        · rw [b5 j (by omega) a3 (by omega)] at a5; omega
        · rw [b5 i a1 (by omega) e] at a4; omega
    rw [o2, if_neg (by decide), if_neg (by decide), if_neg (by decide)]
    intro h3 e3
    have v98 : zd h3 101 98 = -1005 := by rw [e3, zd_s]
    have v99 : zd h3 101 99 = zd g 101 99 := by rw [e3, zd_i (by decide), e99]
    have v100 : zd h3 101 100 = zd g 101 100 := by rw [e3, zd_i (by decide), e100]
    refine ki h3 ⟨by rw [e3]; exact F2.w (Or.inr (Or.inl rfl)), v98, fun r' h1 h2 => ?_, ?_⟩
    · by_cases e : r' = r
      · rw [e]; exact nq
      · exact iq r' (by omega) h2
    · rw [v99, v100]
      rcases i9 with ⟨z, z2⟩ | ⟨z1, z2, z3, z4⟩
      · refine Or.inl ⟨z, fun r' u h1 h2 => ?_⟩
        by_cases e : r' = r
        · rw [e]; exact nf u
        · exact z2 r' u (by omega) h2
      · exact Or.inr ⟨by omega, z2, z3, z4⟩
def FI (m : zH) (q p y : Int) (g : zH) : Prop := (y = 1 ∧ findI m q p g) ∨ (y = 0 ∧ findQ m q g)
theorem FI.F {m g : zH} {q p y : Int} (h : FI m q p y g) : MF m g := by
  rcases h with ⟨_, h⟩ | ⟨_, h⟩
  · exact h.1
  · exact h.1
/-- what find leaves -/
def findR (m : zH) (q : Int) (g : zH) : Prop := findQ m q g ∨ findI m q 2800 g
theorem M_find {q A : Int} {m : zH} {Q : Int → zH → Prop} (q0 : 0 ≤ q) (q1 : q ≤ 1) (hm : MRows m q A) (k : ∀ g, findR m q g → Q 0 g) : P_M_find q m Q := by
  obtain ⟨hv, n1, n2, n3, -⟩ := id hm
  have a18 : ∀ (d f : Nat) (y p : Int) (g : zH) (K : Int → zH → Prop), p = zd m 138 q - d → 0 ≤ p → d < f → FI m q p y g → (∀ y g', FI m q 1000 y g' → K y g') → P_M_find_L18 q Q K f y p g := by
    intro d
    induction d with
    | zero =>
      intro f y p g K hp p0 hf iv kk
      obtain ⟨f, rfl⟩ : ∃ m, f = m + 1 := ⟨f - 1, by omega⟩
      unfold P_M_find_L18
      rw [iv.F.f (c := 138) (by decide), if_pos (by omega)]
      refine ⟨⟨q0, by omega⟩, kk y g ?_⟩
      rcases iv with ⟨a, b⟩ | ⟨a, b⟩
      · exact Or.inl ⟨a, b.up (by omega) (fun r h1 h2 l => by unfold mlive at l; omega)⟩
      · exact Or.inr ⟨a, b⟩
    | succ d ih =>
      intro f y p g K hp p0 hf iv kk
      obtain ⟨f, rfl⟩ : ∃ m, f = m + 1 := ⟨f - 1, by omega⟩
      unfold P_M_find_L18 P_M_find_J56 P_M_find_J61
      simp only [w32_al, w32_ar, w32_sl, w32_sr, w32_ml, w32_mr]
      rw [iv.F.f (c := 138) (by decide), iv.F.f (c := 139) (by decide), if_neg (by omega), w32_of (x := 500 * q + p) (by omega) (by omega), w32_of (x := p + 1) (by omega) (by omega)]
      refine ⟨⟨q0, by omega⟩, zif_i (fun c => ?_) (fun c => ⟨⟨by omega, by omega⟩, zif_i (fun c2 => ?_) (fun c2 => ?_)⟩)⟩
      · rcases iv with ⟨a, b⟩ | ⟨a, b⟩
        · omega
        · exact kk y g (Or.inr ⟨a, b⟩)
      · intro x3 e3
        rw [e3]
        rcases iv with ⟨a, b⟩ | ⟨a, b⟩
        · exact ih f 1 (p + 1) g K (by omega) (by omega) (by omega) (Or.inl ⟨rfl, b.up (by omega) (fun r h1 h2 l => by
            have e : r = p := by omega
            rw [e] at l; unfold mlive at l; omega)⟩) kk
        · exact absurd a c
      · rcases iv with ⟨a, b⟩ | ⟨a, b⟩
        · refine M_goOver q0 q1 hm b (Or.inl ⟨p0, by omega, c2⟩) (fun g' u => ?_) (fun g' u => ?_)
          · rw [if_pos rfl]
            intro x3 e3
            rw [e3]
            exact ih f 0 (p + 1) g' K (by omega) (by omega) (by omega) (Or.inr ⟨rfl, u⟩) kk
          · rw [if_neg (by decide)]
            intro x3 e3
            rw [e3]
            exact ih f 1 (p + 1) g' K (by omega) (by omega) (by omega) (Or.inl ⟨rfl, u⟩) kk
        · exact absurd a c
  have a70 : ∀ (d f : Nat) (y p : Int) (g : zH) (K : Int → zH → Prop), p = zd m 101 67 - d → 0 ≤ p → d < f → FI m q (1000 + p) y g → (∀ y g', FI m q 2000 y g' → K y g') → P_M_find_L70 q Q K f y p g := by
    intro d
    induction d with
    | zero =>
      intro f y p g K hp p0 hf iv kk
      obtain ⟨f, rfl⟩ : ∃ m, f = m + 1 := ⟨f - 1, by omega⟩
      unfold P_M_find_L70
      rw [iv.F.2 67 (by decide) (by decide) (by decide) (by decide), if_pos (by omega)]
      refine kk y g ?_
      rcases iv with ⟨a, b⟩ | ⟨a, b⟩
      · exact Or.inl ⟨a, b.up (by omega) (fun r h1 h2 l => by unfold mlive at l; omega)⟩
      · exact Or.inr ⟨a, b⟩
    | succ d ih =>
      intro f y p g K hp p0 hf iv kk
      obtain ⟨f, rfl⟩ : ∃ m, f = m + 1 := ⟨f - 1, by omega⟩
      unfold P_M_find_L70
      rw [iv.F.2 67 (by decide) (by decide) (by decide) (by decide), iv.F.2 58 (by decide) (by decide) (by decide) (by decide), if_neg (by omega)]
      have go : (q = 1 ∨ zd m 101 58 ≠ 0) → P_M_find_J90 q y p g Q K (P_M_find_L70 q Q K f) := by
        intro ok
        unfold P_M_find_J90
        rw [w32_of (x := 1000 + p) (by omega) (by omega), w32_of (x := p + 1) (by omega) (by omega)]
        refine zif_i (fun c => ?_) (fun c => ?_)
        · rcases iv with ⟨a, b⟩ | ⟨a, b⟩
          · omega
          · exact kk y g (Or.inr ⟨a, b⟩)
        · rcases iv with ⟨a, b⟩ | ⟨a, b⟩
          · refine M_goOver q0 q1 hm b (Or.inr (Or.inl ⟨by omega, by omega, ok⟩)) (fun g' u => ?_) (fun g' u => ?_)
            · intro x3 e3
              rw [e3]
              exact ih f 0 (p + 1) g' K (by omega) (by omega) (by omega) (Or.inr ⟨rfl, u⟩) kk
            · intro x3 e3
              rw [e3]
              exact ih f 1 (p + 1) g' K (by omega) (by omega) (by omega) (Or.inl ⟨rfl, by rw [show 1000 + (p + 1) = 1000 + p + 1 by omega]; exact u⟩) kk
          · exact absurd a c
      refine zif_i (fun c => go (Or.inl c)) (fun c => zif_i (fun c2 => ?_) (fun c2 => go (Or.inr c2)))
      refine kk y g ?_
      rcases iv with ⟨a, b⟩ | ⟨a, b⟩
      · exact Or.inl ⟨a, b.up (by omega) (fun r h1 h2 l => by unfold mlive at l; omega)⟩
      · exact Or.inr ⟨a, b⟩
  have a113 : ∀ (d f : Nat) (y p : Int) (g : zH), p = zd m 155 q - d → 0 ≤ p → d < f → FI m q (2000 + p) y g → P_M_find_L113 q Q f y p g := by
    intro d
    induction d with
    | zero =>
      intro f y p g hp p0 hf iv
      obtain ⟨f, rfl⟩ : ∃ m, f = m + 1 := ⟨f - 1, by omega⟩
      unfold P_M_find_L113
      rw [iv.F.f (c := 155) (by decide), if_pos (by omega)]
      refine ⟨⟨q0, by omega⟩, k g ?_⟩
      rcases iv with ⟨a, b⟩ | ⟨a, b⟩
      · exact Or.inr (b.up (by omega) (fun r h1 h2 l => by unfold mlive at l; omega))
      · exact Or.inl b
    | succ d ih =>
      intro f y p g hp p0 hf iv
      obtain ⟨f, rfl⟩ : ∃ m, f = m + 1 := ⟨f - 1, by omega⟩
      unfold P_M_find_L113 P_M_find_J155 P_M_find_J160
      simp only [w32_al, w32_ar, w32_sl, w32_sr, w32_ml, w32_mr]
      rw [iv.F.f (c := 155) (by decide), iv.F.f (c := 156) (by decide), if_neg (by omega), w32_of (x := 800 * q + p) (by omega) (by omega), w32_of (x := p + 1) (by omega) (by omega), w32_of (x := 2000 + p) (by omega) (by omega)]
      refine ⟨⟨q0, by omega⟩, zif_i (fun c => ?_) (fun c => ⟨⟨by omega, by omega⟩, zif_i (fun c2 => ?_) (fun c2 => ?_)⟩)⟩
      · rcases iv with ⟨a, b⟩ | ⟨a, b⟩
        · omega
        · exact k g (Or.inl b)
      · intro x3 e3
        rw [e3]
        rcases iv with ⟨a, b⟩ | ⟨a, b⟩
        · exact ih f 1 (p + 1) g (by omega) (by omega) (by omega) (Or.inl ⟨rfl, b.up (by omega) (fun r h1 h2 l => by
            have e : r = 2000 + p := by omega
            rw [e] at l; unfold mlive at l
            rw [show 800 * q + (2000 + p) - 2000 = 800 * q + p by omega] at l; omega)⟩)
        · exact absurd a c
      · rcases iv with ⟨a, b⟩ | ⟨a, b⟩
        · refine M_goOver q0 q1 hm b (Or.inr (Or.inr ⟨by omega, by omega, by rw [show 800 * q + (2000 + p) - 2000 = 800 * q + p by omega]; exact c2⟩)) (fun g' u => ?_) (fun g' u => ?_)
          · rw [if_pos rfl]
            intro x3 e3
            rw [e3]
            exact ih f 0 (p + 1) g' (by omega) (by omega) (by omega) (Or.inr ⟨rfl, u⟩)
          · rw [if_neg (by decide)]
            intro x3 e3
            rw [e3]
            exact ih f 1 (p + 1) g' (by omega) (by omega) (by omega) (Or.inl ⟨rfl, by rw [show 2000 + (p + 1) = 2000 + p + 1 by omega]; exact u⟩)
        · exact absurd a c
  unfold P_M_find P_M_find_J68 P_M_find_J111
  intro h1 e1 h2 e2
  have F2 : MF m h2 := by rw [e2, e1]; exact ((MF.rf m).w (Or.inr (Or.inl rfl))).w (Or.inr (Or.inr (Or.inl rfl)))
  have i0 : FI m q 0 1 h2 := Or.inl ⟨rfl, F2, by rw [e2, zd_i (by decide), e1, zd_s], fun r h3 h4 => by have := mlive_r hm h4; omega, Or.inl ⟨by rw [e2, zd_s], fun r u h3 h4 => by have := mlive_r hm h4; omega⟩⟩
  refine ⟨(zd m 138 q).toNat + 1, a18 (zd m 138 q).toNat _ 1 0 h2 _ (by omega) (by omega) (by omega) i0 (fun y g i1 => ?_)⟩
  refine ⟨(zd m 101 67).toNat + 1, a70 (zd m 101 67).toNat _ y 0 g _ (by omega) (by omega) (by omega) i1 (fun y g i2 => ?_)⟩
  exact ⟨(zd m 155 q).toNat + 1, a113 (zd m 155 q).toNat _ y 0 g (by omega) (by omega) (by omega) i2⟩
