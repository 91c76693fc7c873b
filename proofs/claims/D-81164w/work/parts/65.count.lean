/-! forgetting: how many may go -/
/-- one place is taken out -/
def rmv (O : Int → Int) (i0 : Int) (i : Int) : Int := if i < i0 then O i else O (i + 1)
theorem inj_le {f : Int → Int} : ∀ (K : Nat) (n : Int) (O : Int → Int), (∀ i, 0 ≤ i → i < n → 0 ≤ O i ∧ O i < K ∧ f (O i) = 1) → (∀ i j, 0 ≤ i → i < j → j < n → O i ≠ O j) → n ≤ zct f 1 0 K := by
  intro K
  induction K with
  | zero =>
    intro n O h1 h2
    rcases Int.lt_or_le 0 n with c | c
    · have := h1 0 (Int.le_refl _) c; omega
    · exact c
  | succ K ih =>
    intro n O h1 h2
    show n ≤ zct f 1 0 K + if f (0 + (K : Int)) = 1 then 1 else 0
    rw [show 0 + (K : Int) = K by omega]
    by_cases c : ∃ i, 0 ≤ i ∧ i < n ∧ O i = K
    · obtain ⟨i0, a0, a1, a2⟩ := c
      have fk : f K = 1 := by rw [← a2]; exact (h1 i0 a0 a1).2.2
      rw [if_pos fk]
      have := ih (n - 1) (rmv O i0) (fun i b0 b1 => by
        unfold rmv
        by_cases d : i < i0
        · rw [if_pos d]
          have x := h1 i b0 (by omega)
          have y := h2 i i0 b0 d a1
          exact ⟨x.1, by omega, x.2.2⟩
        · rw [if_neg d]
          have x := h1 (i + 1) (by omega) (by omega)
          have y := h2 i0 (i + 1) a0 (by omega) (by omega)
          exact ⟨x.1, by omega, x.2.2⟩) (fun i j b0 b1 b2 => by
        unfold rmv
        by_cases d : i < i0
        · by_cases d2 : j < i0
          · rw [if_pos d, if_pos d2]; exact h2 i j b0 b1 (by omega)
          · rw [if_pos d, if_neg d2]; exact h2 i (j + 1) b0 (by omega) (by omega)
        · rw [if_neg d, if_neg (show ¬ j < i0 by omega)]; exact h2 (i + 1) (j + 1) (by omega) (by omega) (by omega))
      omega
    · have := ih n O (fun i b0 b1 => by
        have x := h1 i b0 b1
        have : O i ≠ K := fun q => c ⟨i, b0, b1, q⟩
        exact ⟨x.1, by omega, x.2.2⟩) h2
      split <;> omega
theorem sur_ge {f : Int → Int} : ∀ (K : Nat) (n : Int) (O : Int → Int), 0 ≤ n → (∀ k, 0 ≤ k → k < (K : Int) → f k = 1 → ∃ i, 0 ≤ i ∧ i < n ∧ O i = k) → zct f 1 0 K ≤ n := by
  intro K
  induction K with
  | zero => intro n O n0 _; exact n0
  | succ K ih =>
    intro n O n0 h1
    show zct f 1 0 K + (if f (0 + (K : Int)) = 1 then 1 else 0) ≤ n
    rw [show 0 + (K : Int) = K by omega]
    by_cases c : f K = 1
    · rw [if_pos c]
      obtain ⟨i0, a0, a1, a2⟩ := h1 K (by omega) (by omega) c
      have := ih (n - 1) (rmv O i0) (by omega) (fun k k0 k1 k2 => by
        obtain ⟨i, b0, b1, b2⟩ := h1 k k0 (by omega) k2
        have ne : i ≠ i0 := fun q => by rw [q, a2] at b2; omega
        by_cases d : i < i0
        · exact ⟨i, b0, by omega, by unfold rmv; rw [if_pos d]; exact b2⟩
        · exact ⟨i - 1, by omega, by omega, by unfold rmv; rw [if_neg (show ¬ i - 1 < i0 by omega), show i - 1 + 1 = i by omega]; exact b2⟩)
      omega
    · rw [if_neg c]
      have := ih n O n0 (fun k k0 k1 k2 => h1 k k0 (by omega) k2)
      omega
theorem OS_cnt {may : Int → Prop} {u O f : Int → Int} {n K : Int} (p : OS may u O n K) (hf : ∀ k, 0 ≤ k → k < K → (f k = 1 ↔ may k)) : zct f 1 0 K.toNat = n := by
  obtain ⟨p1, p2, p3, p4⟩ := p
  have a := inj_le (f := f) K.toNat n O (fun i i0 i1 => by
    obtain ⟨x, y⟩ := p2 i i0 i1
    exact ⟨x.1, by omega, (hf _ x.1 x.2).mpr y⟩) (fun i j i0 i1 i2 q => by
    rcases p3 i j i0 i1 i2 with z | z
    · rw [q] at z; omega
    · rw [q] at z; omega)
  have b := sur_ge (f := f) K.toNat n O p1.1 (fun k k0 k1 k2 => p4 k k0 (by omega) ((hf k k0 (by omega)).mp k2))
  omega
/-- the reasons there -/
theorem M_reasons {q A : Int} {m : zH} {Q : Int → zH → Prop} {K : zH → Prop} (q0 : 0 ≤ q) (q1 : q ≤ 1) (hA : A ≤ 300) (l0 : 0 ≤ zd m 155 q) (l1 : zd m 155 q ≤ 800) (t0 : 0 ≤ zd m 150 q) (t1 : zd m 150 q ≤ 300) (hit : ∀ i, 0 ≤ i → i < zd m 150 q → eit A (zd m 149 (300 * q + i))) (hr : ∀ i, 0 ≤ i → i < zd m 150 q → zd m 145 (301 * q + zab (zd m 149 (300 * q + i))) < 2000 + zd m 155 q)
    (k : ∀ m', yA [171] m m' → (∀ k, 0 ≤ k → k < zd m 155 q → (zd m' 171 k = 0 ∨ zd m' 171 k = 1) ∧ (zd m' 171 k = 1 ↔ ∃ i, 0 ≤ i ∧ i < zd m 150 q ∧ zd m 145 (301 * q + zab (zd m 149 (300 * q + i))) = 2000 + k)) → K m') : ∃ n22, P_M_forgetSome_L22 q Q (fun h5 => ∃ n47, P_M_forgetSome_L47 q Q K n47 0 h5) n22 0 m := by
  have k1 : ∀ (d f : Nat) (y : Int) (g : zH) (K' : zH → Prop), y = zd m 155 q - d → 0 ≤ y → d < f → yA [171] m g → (∀ k, 0 ≤ k → k < y → zd g 171 k = 0) → (∀ g, yA [171] m g → (∀ k, 0 ≤ k → k < zd m 155 q → zd g 171 k = 0) → K' g) → P_M_forgetSome_L22 q Q K' f y g := by
    intro d
    induction d with
    | zero =>
      intro f y g K' hy y0 hf gA iv kk
      obtain ⟨f, rfl⟩ : ∃ m, f = m + 1 := ⟨f - 1, by omega⟩
      unfold P_M_forgetSome_L22
      rw [gA.d (b := 155) (by decide), if_pos (by omega)]
      exact ⟨⟨by omega, by omega⟩, kk g gA (fun k k0 k1 => iv k k0 (by omega))⟩
    | succ d ih =>
      intro f y g K' hy y0 hf gA iv kk
      obtain ⟨f, rfl⟩ : ∃ m, f = m + 1 := ⟨f - 1, by omega⟩
      unfold P_M_forgetSome_L22
      rw [gA.d (b := 155) (by decide), if_neg (by omega), zbit_0]
      refine ⟨⟨by omega, by omega⟩, ⟨by omega, by omega⟩, ?_⟩
      intro h3 e3 x2 e2
      rw [w32_of (by omega) (by omega)] at e2
      rw [e2, e3]
      refine ih f (y + 1) _ K' (by omega) (by omega) (by omega) (gA.w (by simp)) (fun k k0 k1 => ?_) kk
      by_cases c : k = y
      · rw [c, zd_s]
      · rw [zd_i c]; exact iv k k0 (by omega)
  have k2 : ∀ (d f : Nat) (y : Int) (g : zH), y = zd m 150 q - d → 0 ≤ y → d < f → yA [171] m g → (∀ k, 0 ≤ k → k < zd m 155 q → (zd g 171 k = 0 ∨ zd g 171 k = 1) ∧ (zd g 171 k = 1 ↔ ∃ i, 0 ≤ i ∧ i < y ∧ zd m 145 (301 * q + zab (zd m 149 (300 * q + i))) = 2000 + k)) → P_M_forgetSome_L47 q Q K f y g := by
    intro d
    induction d with
    | zero =>
      intro f y g hy y0 hf gA iv
      obtain ⟨f, rfl⟩ : ∃ m, f = m + 1 := ⟨f - 1, by omega⟩
      unfold P_M_forgetSome_L47
      rw [gA.d (b := 150) (by decide), if_pos (by omega)]
      rw [show y = zd m 150 q by omega] at iv
      exact ⟨⟨by omega, by omega⟩, k g gA iv⟩
    | succ d ih =>
      intro f y g hy y0 hf gA iv
      obtain ⟨f, rfl⟩ : ∃ m, f = m + 1 := ⟨f - 1, by omega⟩
      have it := hit y y0 (by omega)
      have ir := zab_r it
      have ry := hr y y0 (by omega)
      have st : w32 (y + 1) = y + 1 := w32_of (by omega) (by omega)
      unfold P_M_forgetSome_L47 P_M_forgetSome_J102
      simp only [w32_al, w32_ar, w32_sl, w32_sr, w32_ml, w32_mr]
      rw [gA.d (b := 150) (by decide), if_neg (by omega), w32_of (x := 300 * q + y) (by omega) (by omega), gA.d (b := 149) (by decide)]
      refine ⟨⟨by omega, by omega⟩, ⟨by omega, by omega⟩, M_nameOf it hA ?_⟩
      rw [w32_of (x := 301 * q + zab (zd m 149 (300 * q + y))) (by omega) (by omega), gA.d (b := 145) (by decide), zbit_1]
      refine ⟨⟨by omega, by omega⟩, ?_⟩
      intro x3 e3
      rw [e3]
      refine zif_i (fun c => ?_) (fun c => ?_)
      · intro x2 e2
        rw [e2, st]
        refine ih f (y + 1) g (by omega) (by omega) (by omega) gA (fun k k0 k1 => ?_)
        obtain ⟨a1, a2⟩ := iv k k0 k1
        refine ⟨a1, a2.trans ⟨fun ⟨i, i0, i1, i2⟩ => ⟨i, i0, by omega, i2⟩, fun ⟨i, i0, i1, i2⟩ => ⟨i, i0, ?_, i2⟩⟩⟩
        by_cases z : i = y
        · rw [z] at i2; omega
        · omega
      · rw [w32_of (x := zd m 145 (301 * q + zab (zd m 149 (300 * q + y))) - 2000) (by omega) (by omega)]
        refine ⟨⟨by omega, by omega⟩, ?_⟩
        intro h10 e10 x2 e2
        rw [e2, st, e10]
        refine ih f (y + 1) _ (by omega) (by omega) (by omega) (gA.w (by simp)) (fun k k0 k1 => ?_)
        obtain ⟨a1, a2⟩ := iv k k0 k1
        by_cases z : k = zd m 145 (301 * q + zab (zd m 149 (300 * q + y))) - 2000
        · rw [z, zd_s]
          exact ⟨Or.inr rfl, ⟨fun _ => ⟨y, y0, by omega, by omega⟩, fun _ => rfl⟩⟩
        · rw [zd_i z]
          refine ⟨a1, a2.trans ⟨fun ⟨i, i0, i1, i2⟩ => ⟨i, i0, by omega, i2⟩, fun ⟨i, i0, i1, i2⟩ => ⟨i, i0, ?_, i2⟩⟩⟩
          by_cases w : i = y
          · rw [w] at i2; omega
          · omega
  refine ⟨(zd m 155 q).toNat + 1, k1 (zd m 155 q).toNat _ 0 m _ (by omega) (by omega) (by omega) (yA.rf _ _) (fun k k0 k1 => by omega) (fun g gA iv => ?_)⟩
  refine ⟨(zd m 150 q).toNat + 1, k2 (zd m 150 q).toNat _ 0 g (by omega) (by omega) (by omega) gA (fun k k0 k1 => ?_)⟩
  have := iv k k0 k1
  exact ⟨Or.inl this, ⟨fun w => by omega, fun ⟨i, i0, i1, _⟩ => by omega⟩⟩
