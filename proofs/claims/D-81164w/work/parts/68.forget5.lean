/-! forgetting: all of it, there -/
def mgoT (q : Int) (m : zH) (k : Int) : Prop := zd m 156 (800 * q + k) ≠ 0 ∧ 2 < msz m q (2000 + k) ∧ ¬ ∃ i, 0 ≤ i ∧ i < zd m 150 q ∧ zd m 145 (301 * q + zab (zd m 149 (300 * q + i))) = 2000 + k
def MforP (q n : Int) (O : Int → Int) (m m' : zH) : Prop := yA [156, 157, 163, 171] m m' ∧ (∀ i, 0 ≤ i → i < n / 2 → zd m' 156 (800 * q + O i) = 0) ∧ (∀ j, (∀ i, 0 ≤ i → i < n / 2 → j ≠ 800 * q + O i) → zd m' 156 j = zd m 156 j) ∧ (∀ j, zd m' 163 j = if j = 10 * q + 6 then w32 (zd m 163 (10 * q + 6) + n / 2) else zd m 163 j) ∧ (∀ k, 0 ≤ k → k < zd m 155 q → zd m' 157 (800 * q + k) = w32 (Int.tdiv (zd m 157 (800 * q + k)) 2)) ∧ ∀ j, j < 800 * q ∨ 800 * q + zd m 155 q ≤ j → zd m' 157 j = zd m 157 j
theorem M_forgetSome {q A n : Int} {m : zH} {O : Int → Int} {Q : Int → zH → Prop} (q0 : 0 ≤ q) (q1 : q ≤ 1) (hA : A ≤ 300) (l0 : 0 ≤ zd m 155 q) (l1 : zd m 155 q ≤ 800) (t0 : 0 ≤ zd m 150 q) (t1 : zd m 150 q ≤ 300) (hit : ∀ i, 0 ≤ i → i < zd m 150 q → eit A (zd m 149 (300 * q + i))) (hrs : ∀ i, 0 ≤ i → i < zd m 150 q → zd m 145 (301 * q + zab (zd m 149 (300 * q + i))) < 2000 + zd m 155 q) (hr : ∀ k, 0 ≤ k → k < zd m 155 q → zd m 156 (800 * q + k) ≠ 0 → MR m q A (2000 + k))
    (hg : w32 (zd m 163 (10 * q + 6)) = zd m 163 (10 * q + 6)) (os : OS (mgoT q m) (fun k => zd m 157 (800 * q + k)) O n (zd m 155 q)) (kn : (zd m 101 31 = 0 ∨ zct (fun k => if zd m 156 (800 * q + k) = 0 then 0 else 1) 1 0 (zd m 155 q).toNat ≤ zd m 101 31) → Q 0 m) (kf : zd m 101 31 ≠ 0 → zd m 101 31 < zct (fun k => if zd m 156 (800 * q + k) = 0 then 0 else 1) 1 0 (zd m 155 q).toNat → ∀ m', MforP q n O m m' → Q 0 m') : P_M_forgetSome q m Q := by
  unfold P_M_forgetSome
  refine zif_i (fun c => kn (Or.inl c)) (fun c => M_thereOf q0 q1 l0 l1 (zif_i (fun c2 => ?_) (fun c2 => kn (Or.inr (by omega)))))
  refine M_reasons (A := A) q0 q1 hA l0 l1 t0 t1 hit hrs (fun m5 p1 p2 => ?_)
  have sz : ∀ k, msz m5 q (2000 + k) = msz m q (2000 + k) := fun k => msz_cg (p1.f (by decide)) (by rw [p1.f (b := 101) (by decide)]) (p1.f (by decide)) (p1.f (by decide))
  have mi : ∀ k i, mit m5 q (2000 + k) i = mit m q (2000 + k) i := fun k i => mit_cg (p1.f (by decide)) (by rw [p1.f (b := 101) (by decide)]) (p1.f (by decide)) (p1.f (by decide)) (p1.f (by decide)) (p1.f (by decide))
  have h155 : zd m5 155 q = zd m 155 q := p1.d (by decide) q
  have hr5 : ∀ k, 0 ≤ k → k < zd m 155 q → zd m5 156 (800 * q + k) ≠ 0 → MR m5 q A (2000 + k) := by
    intro k k0 k1 th
    rw [p1.d (b := 156) (by decide)] at th
    have o := hr k k0 k1 th
    unfold MR
    rw [p1.f (b := 119) (by decide), p1.f (b := 123) (by decide), p1.f (b := 152) (by decide), p1.f (b := 101) (by decide), sz]
    exact ⟨o.1, fun i i0 i1 => by rw [mi]; exact o.2 i i0 i1⟩
  have eqv : ∀ k, 0 ≤ k → k < zd m 155 q → (mgo q m5 k ↔ mgoT q m k) := by
    intro k k0 k1
    obtain ⟨a1, a2⟩ := p2 k k0 k1
    unfold mgo mgoT
    rw [sz k, p1.d (b := 156) (by decide), ← a2]
    constructor
    · rintro ⟨x, y, z⟩; exact ⟨x, z, by omega⟩
    · rintro ⟨x, y, z⟩; exact ⟨x, by omega, y⟩
  have os5 : OS (mgo q m5) (fun k => zd m5 157 (800 * q + k)) O n (zd m 155 q) := by
    obtain ⟨o1, o2, o3, o4⟩ := os
    refine ⟨o1, fun i i0 i1 => ⟨(o2 i i0 i1).1, (eqv _ (o2 i i0 i1).1.1 (o2 i i0 i1).1.2).mpr (o2 i i0 i1).2⟩, ?_, fun k k0 k1 k2 => o4 k k0 k1 ((eqv k k0 k1).mp k2)⟩
    rw [p1.f (b := 157) (by decide)]; exact o3
  have cnt : ∀ (d f : Nat) (c y : Int) (K : Int → zH → Prop), y = zd m 155 q - d → 0 ≤ y → d < f → c = zct (fun k => if zd m5 156 (800 * q + k) ≠ 0 ∧ zd m5 171 k = 0 ∧ 2 < msz m5 q (2000 + k) then 1 else 0) 1 0 y.toNat → K (zct (fun k => if zd m5 156 (800 * q + k) ≠ 0 ∧ zd m5 171 k = 0 ∧ 2 < msz m5 q (2000 + k) then 1 else 0) 1 0 (zd m 155 q).toNat) m5 → P_M_forgetSome_L112 q Q K f c y m5 := by
    intro d
    induction d with
    | zero =>
      intro f c y K hy y0 hf hc kk
      obtain ⟨f, rfl⟩ : ∃ m, f = m + 1 := ⟨f - 1, by omega⟩
      unfold P_M_forgetSome_L112
      rw [h155, if_pos (by omega), hc, show y = zd m 155 q by omega]
      exact ⟨⟨by omega, by omega⟩, kk⟩
    | succ d ih =>
      intro f c y K hy y0 hf hc kk
      obtain ⟨f, rfl⟩ : ∃ m, f = m + 1 := ⟨f - 1, by omega⟩
      have zl := zct_le (fun k => if zd m5 156 (800 * q + k) ≠ 0 ∧ zd m5 171 k = 0 ∧ 2 < msz m5 q (2000 + k) then 1 else 0) 1 0 y.toNat
      unfold P_M_forgetSome_L112 P_M_forgetSome_J137
      rw [h155, if_neg (by omega)]
      refine ⟨⟨by omega, by omega⟩, M_mayGo q0 q1 y0 (by omega) (hr5 y y0 (by omega)) (fun r rr => ?_)⟩
      intro x2 e2 x3 e3
      rw [w32_of (by omega) (by omega)] at e3
      rw [e3]
      refine ih f x2 (y + 1) K (by omega) (by omega) (by omega) ?_ kk
      rw [show (y + 1).toNat = y.toNat + 1 by omega]
      show x2 = _ + (if (if zd m5 156 (800 * q + (0 + (y.toNat : Int))) ≠ 0 ∧ zd m5 171 (0 + (y.toNat : Int)) = 0 ∧ 2 < msz m5 q (2000 + (0 + (y.toNat : Int))) then (1 : Int) else 0) = 1 then (1 : Int) else 0)
      rw [show 0 + (y.toNat : Int) = y by omega]
      rcases rr with ⟨r1, yes⟩ | ⟨r1, no⟩
      · unfold mgo at yes
        rw [r1, if_neg (by decide), w32_of (by omega) (by omega)] at e2
        rw [e2, hc, if_pos (show (if zd m5 156 (800 * q + y) ≠ 0 ∧ zd m5 171 y = 0 ∧ 2 < msz m5 q (2000 + y) then (1 : Int) else 0) = 1 by rw [if_pos yes])]
      · unfold mgo at no
        rw [r1, if_pos rfl, w32_of (by omega) (by omega)] at e2
        rw [e2, hc, if_neg (show ¬ (if zd m5 156 (800 * q + y) ≠ 0 ∧ zd m5 171 y = 0 ∧ 2 < msz m5 q (2000 + y) then (1 : Int) else 0) = 1 by rw [if_neg no]; decide)]
  have nn : zct (fun k => if zd m5 156 (800 * q + k) ≠ 0 ∧ zd m5 171 k = 0 ∧ 2 < msz m5 q (2000 + k) then 1 else 0) 1 0 (zd m 155 q).toNat = n := by
    refine OS_cnt os5 (fun k k0 k1 => ?_)
    show (if zd m5 156 (800 * q + k) ≠ 0 ∧ zd m5 171 k = 0 ∧ 2 < msz m5 q (2000 + k) then (1 : Int) else 0) = 1 ↔ mgo q m5 k
    by_cases z : zd m5 156 (800 * q + k) ≠ 0 ∧ zd m5 171 k = 0 ∧ 2 < msz m5 q (2000 + k)
    · rw [if_pos z]; exact ⟨fun _ => z, fun _ => rfl⟩
    · rw [if_neg z]; exact ⟨fun w => by omega, fun w => absurd w z⟩
  refine ⟨(zd m 155 q).toNat + 1, cnt (zd m 155 q).toNat _ 0 0 _ (by omega) (by omega) (by omega) rfl ?_⟩
  rw [nn]
  have o1 := os.1
  have half : ∀ (g0 : zH), zd g0 155 q = zd m 155 q → (∀ g, yA [157] g0 g → (∀ k, 0 ≤ k → k < zd m 155 q → zd g 157 (800 * q + k) = w32 (Int.tdiv (zd g0 157 (800 * q + k)) 2)) → (∀ j, j < 800 * q ∨ 800 * q + zd m 155 q ≤ j → zd g 157 j = zd g0 157 j) → Q 0 g) → ∀ (d f : Nat) (y : Int) (g : zH), y = zd m 155 q - d → 0 ≤ y → d < f → yA [157] g0 g → (∀ k, 0 ≤ k → k < y → zd g 157 (800 * q + k) = w32 (Int.tdiv (zd g0 157 (800 * q + k)) 2)) → (∀ j, j < 800 * q ∨ 800 * q + y ≤ j → zd g 157 j = zd g0 157 j) → P_M_forgetSome_L282 q Q f y g := by
    intro g0 g5 kk d
    induction d with
    | zero =>
      intro f y g hy y0 hf gA gv gu
      obtain ⟨f, rfl⟩ : ∃ m, f = m + 1 := ⟨f - 1, by omega⟩
      unfold P_M_forgetSome_L282
      rw [gA.d (b := 155) (by decide), g5, if_pos (by omega)]
      exact ⟨⟨by omega, by omega⟩, kk g gA (fun k k0 k1 => gv k k0 (by omega)) (fun j hj => gu j (by omega))⟩
    | succ d ih =>
      intro f y g hy y0 hf gA gv gu
      obtain ⟨f, rfl⟩ : ∃ m, f = m + 1 := ⟨f - 1, by omega⟩
      unfold P_M_forgetSome_L282
      simp only [w32_al, w32_ar, w32_sl, w32_sr, w32_ml, w32_mr]
      rw [gA.d (b := 155) (by decide), g5, if_neg (by omega), w32_of (x := 800 * q + y) (by omega) (by omega), gu (800 * q + y) (Or.inr (Int.le_refl _))]
      refine ⟨⟨by omega, by omega⟩, ⟨by omega, by omega⟩, ⟨by omega, by omega⟩, ?_⟩
      intro h25 e25 x3 e3
      rw [w32_of (by omega) (by omega)] at e3
      rw [e3, e25]
      refine ih f (y + 1) _ (by omega) (by omega) (by omega) (gA.w (by simp)) (fun k k0 k1 => ?_) (fun j hj => by rw [zd_i (by omega)]; exact gu j (by omega))
      by_cases z : k = y
      · rw [z, zd_s]
      · rw [zd_i (by omega)]; exact gv k k0 (by omega)
  refine ⟨(n / 2).toNat + 1, M_drop (A := A) (K := zd m 155 q) q0 q1 h155 l1 hr5 os5 (fun g pg => ?_) (n / 2).toNat _ 0 m5 (by omega) (by omega) (by omega) ⟨yA.rf _ _, fun i i0 i1 => by omega, fun _ _ => rfl, fun j => ?_⟩⟩
  · obtain ⟨g1, g2, g3, g4⟩ := pg
    refine ⟨(zd m 155 q).toNat + 1, half g (by rw [g1.d (b := 155) (by decide)]; exact h155) (fun g' s1 s2 s3 => ?_) (zd m 155 q).toNat _ 0 g (by omega) (by omega) (by omega) (yA.rf _ _) (fun k k0 k1 => by omega) (fun _ _ => rfl)⟩
    have u : zd g 157 = zd m 157 := (g1.f (by decide)).trans (p1.f (by decide))
    rw [u] at s2 s3
    refine kf c c2 g' ⟨((p1.mono (by simp)).tr (g1.mono (by simp))).tr (s1.mono (by simp)), fun i i0 i1 => by rw [s1.d (b := 156) (by decide)]; exact g2 i i0 i1, fun j hj => by rw [s1.d (b := 156) (by decide), g3 j hj, p1.d (b := 156) (by decide)], fun j => by rw [s1.d (b := 163) (by decide), g4 j, p1.d (b := 163) (by decide), p1.d (b := 163) (by decide)], s2, s3⟩
  · by_cases z : j = 10 * q + 6
    · rw [if_pos z, z, p1.d (b := 163) (by decide), show zd m 163 (10 * q + 6) + 0 = zd m 163 (10 * q + 6) by omega]; exact hg.symm
    · rw [if_neg z]
