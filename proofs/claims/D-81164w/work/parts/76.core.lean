/-! the core: bits here, a list there -/
theorem sh_k : ∀ k : Fin 64, (((Int32.ofInt (k.val : Int)).toInt64 &&& 63).toBitVec.smod 64).toNat = k.val := by decide +kernel
theorem hb_shr0 {x : Int} {k : Nat} (hk : k < 64) : hb (zlshr x (k : Int)) 0 = hb x k := by
  unfold hb zlshr
  rw [Int64.ofInt_toInt, Int64.toBitVec_shiftRight]
  show ((Int64.ofInt x).toBitVec.sshiftRight _).getLsbD 0 = _
  rw [sh_k ⟨k, hk⟩, BitVec.getLsbD_sshiftRight]
  simp [hk]
theorem hb_1 : ∀ k : Fin 64, hb 1 k.val = decide (k.val = 0) := by decide +kernel
theorem land_1 (x : Int) : zland x 1 = if hb x 0 = true then 1 else 0 := by
  refine hb_ext (r64_of _) (by unfold r64; split <;> omega) (fun k hk => ?_)
  rw [hb_and, hb_1 ⟨k, hk⟩]
  by_cases c : hb x 0 = true
  · rw [if_pos c, hb_1 ⟨k, hk⟩]
    by_cases d : k = 0
    · subst d; rw [c]; rfl
    · rw [show decide (k = 0) = false from decide_eq_false d]; simp
  · rw [if_neg c, hb_0]
    by_cases d : k = 0
    · subst d; simp at c; rw [c]; rfl
    · rw [show decide (k = 0) = false from decide_eq_false d]; simp
theorem bit_cmp {x y : Int} (y0 : 0 ≤ y) (y1 : y < 64) : zcmp (zland (zlshr x y) 1) 1 = 0 ↔ hb x y.toNat = true := by
  obtain ⟨k, rfl⟩ := Int.eq_ofNat_of_zero_le y0
  rw [land_1, hb_shr0 (by omega)]
  show _ ↔ hb x k = true
  unfold zcmp
  by_cases c : hb x k = true
  · rw [if_pos c]; simp [c]
  · rw [if_neg c]; simp [c]
/-- a list of those of 0 .. N - 1 that are S, in their order -/
def EnL (S : Int → Prop) (f : Int → Int) (N n : Int) : Prop := (0 ≤ n ∧ n ≤ N) ∧ (∀ k, 0 ≤ k → k < n → (0 ≤ f k ∧ f k < N) ∧ S (f k)) ∧ (∀ j k, 0 ≤ j → j < k → k < n → f j < f k) ∧ ∀ r, 0 ≤ r → r < N → S r → ∃ k, 0 ≤ k ∧ k < n ∧ f k = r
theorem EnL_0 {S : Int → Prop} {f : Int → Int} : EnL S f 0 0 := ⟨by omega, fun k _ _ => by omega, fun _ _ _ _ _ => by omega, fun r _ _ => by omega⟩
theorem EnL_n {S : Int → Prop} {f : Int → Int} {y n : Int} (h : EnL S f y n) (hy : ¬ S y) : EnL S f (y + 1) n := by
  obtain ⟨a, b, c, d⟩ := h
  refine ⟨by omega, fun k k0 k1 => ⟨by have := b k k0 k1; omega, (b k k0 k1).2⟩, c, fun r r0 r1 r2 => ?_⟩
  by_cases z : r = y
  · rw [z] at r2; exact absurd r2 hy
  · exact d r r0 (by omega) r2
theorem EnL_y {S : Int → Prop} {f g : Int → Int} {y n : Int} (h : EnL S f y n) (y0 : 0 ≤ y) (hy : S y) (hg : ∀ k, 0 ≤ k → k < n → g k = f k) (hn : g n = y) : EnL S g (y + 1) (n + 1) := by
  obtain ⟨a, b, c, d⟩ := h
  refine ⟨by omega, fun k k0 k1 => ?_, fun j k j0 jk k1 => ?_, fun r r0 r1 r2 => ?_⟩
  · by_cases z : k = n
    · rw [z, hn]; exact ⟨by omega, hy⟩
    · rw [hg k k0 (by omega)]; exact ⟨by have := b k k0 (by omega); omega, (b k k0 (by omega)).2⟩
  · rw [hg j j0 (by omega)]
    by_cases z : k = n
    · rw [z, hn]; have := b j j0 (by omega); omega
    · rw [hg k (by omega) (by omega)]; exact c j k j0 jk (by omega)
  · by_cases z : r = y
    · exact ⟨n, by omega, by omega, by rw [hn, z]⟩
    · obtain ⟨k, k0, k1, k2⟩ := d r r0 (by omega) r2
      exact ⟨k, k0, by omega, by rw [hg k k0 k1]; exact k2⟩
theorem EnL.cg {S T : Int → Prop} {f g : Int → Int} {N n : Int} (h : EnL S f N n) (hS : ∀ r, 0 ≤ r → r < N → (S r ↔ T r)) (hg : ∀ k, 0 ≤ k → k < n → g k = f k) : EnL T g N n := by
  obtain ⟨a, b, c, d⟩ := h
  refine ⟨a, fun k k0 k1 => ?_, fun j k j0 jk k1 => ?_, fun r r0 r1 r2 => ?_⟩
  · rw [hg k k0 k1]; exact ⟨(b k k0 k1).1, (hS _ (b k k0 k1).1.1 (b k k0 k1).1.2).mp (b k k0 k1).2⟩
  · rw [hg j j0 (by omega), hg k (by omega) k1]; exact c j k j0 jk k1
  · obtain ⟨k, k0, k1, k2⟩ := d r r0 r1 ((hS r r0 r1).mpr r2)
    exact ⟨k, k0, k1, by rw [hg k k0 k1]; exact k2⟩
def cbit (x : Int → Int) (r : Int) : Prop := hb (x (r / 64)) (r % 64).toNat = true
theorem M_keepCore {q : Int} {m : zH} {Q : Int → zH → Prop} (q0 : 0 ≤ q) (q1 : q ≤ 1) (k1 : q = 1 → Q 0 m) (k0 : q = 0 → ∀ m', yA [101, 165] m m' → (∀ j, j ≠ 94 → zd m' 101 j = zd m 101 j) → EnL (cbit (zd m 160)) (zd m' 165) 500 (zd m' 101 94) → Q 0 m') : P_M_keepCore q m Q := by
  unfold P_M_keepCore
  refine zif_i k1 (fun c => ?_)
  have key : ∀ (d f : Nat) (y : Int) (g : zH), y = 500 - d → 0 ≤ y → d < f → yA [101, 165] m g → (∀ j, j ≠ 94 → zd g 101 j = zd m 101 j) → EnL (cbit (zd m 160)) (zd g 165) y (zd g 101 94) → P_M_keepCore_L13 Q f y g := by
    intro d
    induction d with
    | zero =>
      intro f y g hy y0 hf gA gf gE
      obtain ⟨f, rfl⟩ : ∃ m, f = m + 1 := ⟨f - 1, by omega⟩
      unfold P_M_keepCore_L13
      rw [if_pos (by omega)]
      have ey : y = 500 := by omega
      rw [ey] at gE
      exact k0 (by omega) g gA gf gE
    | succ d ih =>
      intro f y g hy y0 hf gA gf gE
      obtain ⟨f, rfl⟩ : ∃ m, f = m + 1 := ⟨f - 1, by omega⟩
      have n1 := gE.1
      unfold P_M_keepCore_L13 P_M_keepCore_J61
      rw [if_neg (by omega), td64 y0, tm64 y0, w32_of (x := y / 64) (by omega) (by omega), w32_of (x := y + 1) (by omega) (by omega), gA.f (b := 160) (by decide)]
      refine ⟨⟨by omega, by omega⟩, zif_i (fun c => ⟨⟨by omega, by omega⟩, ?_⟩) (fun c => ?_)⟩
      · rw [bit_cmp (by omega) (by omega)] at c
        intro h3 e3 h4 e4 x2 ex
        have v : zd h3 101 94 = zd g 101 94 := by rw [e3, zd_a (by decide)]
        rw [v, w32_of (x := zd g 101 94 + 1) (by omega) (by omega)] at e4
        rw [ex]
        refine ih f (y + 1) h4 (by omega) (by omega) (by omega) (by rw [e4, e3]; exact (gA.w (by simp)).w (by simp)) (fun j hj => by rw [e4, zd_i hj, e3, zd_a (by decide)]; exact gf j hj) ?_
        rw [e4, zd_s]
        refine EnL_y gE y0 c (fun k k0 k1 => ?_) ?_
        · rw [zd_a (by decide), e3, zd_i (by omega)]
        · rw [zd_a (by decide), e3, zd_s]
      · rw [bit_cmp (by omega) (by omega)] at c
        intro x2 ex
        rw [ex]
        exact ih f (y + 1) g (by omega) (by omega) (by omega) gA gf (EnL_n gE c)
  intro h1 e1
  refine ⟨501, key 500 501 0 h1 (by decide) (by decide) (by decide) (by rw [e1]; exact (yA.rf _ m).w (by simp)) (fun j hj => by rw [e1, zd_i hj]) ?_⟩
  rw [e1, zd_s]
  exact EnL_0
/-- sources of low names, here and there -/
theorem S_low {e q s top : Int} {h m : zH} (p : EInv e h top) (R : RMs e q h m) (s0 : 0 ≤ s) (s1 : s < 1364) (ht : zd h (e + 5) s = 1) (hv : ∀ c, zd h (e + 1) s ≤ c → c < zd h (e + 1) s + zd h (e + 2) s → zd h (e + 11) (zab (zd h (e + 7) c)) ≠ 0) (w : Int) (b : Nat) (w0 : 0 ≤ w) (w1 : w < 8) (b1 : b < 64) : lowE e h s 0 w b (zd h (e + 1) s) ↔ lowM m q (num s) 0 w b := by
  obtain ⟨hs, hc, hT, hL, -, -, -⟩ := p
  obtain ⟨r1, r2, r3, r4, r5, r6, r8, r9⟩ := id R
  have ls : elaid e h s := Or.inl ⟨s0, s1, ht⟩
  obtain ⟨-, ⟨f0, z0, f1⟩, -⟩ := hs.2.2.2.2.2.1 s ls
  obtain ⟨lv, g1, g2⟩ := r3.1 s s0 s1 ht
  have it : ∀ c, zd h (e + 1) s ≤ c → c < zd h (e + 1) s + zd h (e + 2) s → eit (zd h e 11) (zd h (e + 7) c) := fun c k0 k1 => (hs.2.2.2.2.1 c (by omega) (by omega)).1
  have lvl : ∀ c, zd h (e + 1) s ≤ c → c < zd h (e + 1) s + zd h (e + 2) s → zd h (e + 12) (zab (zd h (e + 7) c)) = zd m 144 (301 * q + zab (zd h (e + 7) c)) ∧ zd m 143 (301 * q + zab (zd h (e + 7) c)) ≠ 2 := by
    intro c k0 k1
    have zr := zab_r (it c k0 k1)
    have v := hv c k0 k1
    have a := (r2.2.1 _ zr.1 zr.2 v).1
    have b := r2.1 _ zr.1 zr.2
    unfold vrel at b
    exact ⟨a, by omega⟩
  have sw : ∀ c, zd h (e + 1) s ≤ c → c < zd h (e + 1) s + zd h (e + 2) s → zd h (e + 7) c = mit m q (num s) (c - zd h (e + 1) s) := by
    intro c k0 k1
    rw [← g2 _ (by omega) (by omega), show zd h (e + 1) s + (c - zd h (e + 1) s) = c by omega]
  unfold lowE lowM
  constructor
  · rintro ⟨c, c0, c1, c2, c3, c4⟩
    have l := lvl c c0 c1
    have zr := zab_r (it c c0 c1)
    rw [r6.1 _ zr.1 zr.2 (hv c c0 c1) c3 w b w0 w1 b1] at c4
    refine ⟨c - zd h (e + 1) s, by omega, by rw [← g1]; omega, ?_⟩
    rw [← sw c c0 c1]
    exact ⟨by omega, l.2, by omega, c4⟩
  · rintro ⟨i, i0, i1, i2, i3, i4, i5⟩
    rw [← g1] at i1
    rw [← g2 i i0 i1] at i2 i3 i4 i5
    have l := lvl (zd h (e + 1) s + i) (by omega) (by omega)
    have zr := zab_r (it (zd h (e + 1) s + i) (by omega) (by omega))
    have z : zd h (e + 12) (zab (zd h (e + 7) (zd h (e + 1) s + i))) = 0 := by omega
    rw [← r6.1 _ zr.1 zr.2 (hv _ (by omega) (by omega)) z w b w0 w1 b1] at i5
    exact ⟨zd h (e + 1) s + i, by omega, by omega, i2, z, i5⟩
