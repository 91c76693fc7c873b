/-! forgetting: what may go, here and there -/
/-- a row is the reason of a name -/
def ersn (e : Int) (h : zH) (s : Int) : Prop := ∃ c, zd h (e + 1) s ≤ c ∧ c < zd h (e + 1) s + zd h (e + 2) s ∧ zd h (e + 11) (zab (zd h (e + 7) c)) ≠ 0 ∧ zd h (e + 13) (zab (zd h (e + 7) c)) = s
theorem E_isReason {e s top : Int} {h : zH} {Q : Int → zH → Prop} (hs : ES e h top) (ls : elaid e h s) (k : ∀ r, (r = 1 ∧ ersn e h s) ∨ (r = 0 ∧ ¬ ersn e h s) → Q r h) : P_E_isReason e s h Q := by
  obtain ⟨⟨s0, s1⟩, ⟨f0, z0, f1⟩, -⟩ := hs.2.2.2.2.2.1 s ls
  have tp := hs.2.2.1
  have cl := hs.2.1
  have A3 := hs.1
  have key : ∀ (d f : Nat) (y b : Int), y = zd h (e + 1) s + zd h (e + 2) s - d → zd h (e + 1) s ≤ y → d < f → ((b = 0 ∧ ∀ c, zd h (e + 1) s ≤ c → c < y → ¬ (zd h (e + 11) (zab (zd h (e + 7) c)) ≠ 0 ∧ zd h (e + 13) (zab (zd h (e + 7) c)) = s)) ∨ (b = 1 ∧ ersn e h s)) → P_E_isReason_L9 e s Q f y b h := by
    intro d
    induction d with
    | zero =>
      intro f y b hy y0 hf iv
      obtain ⟨f, rfl⟩ : ∃ m, f = m + 1 := ⟨f - 1, by omega⟩
      unfold P_E_isReason_L9
      rw [w32_of (by omega) (by omega), if_pos (by omega)]
      refine ⟨⟨by omega, by omega⟩, ⟨by omega, by omega⟩, ?_⟩
      rcases iv with ⟨b0, no⟩ | ⟨b0, yes⟩
      · exact ⟨Or.inl b0, k b (Or.inr ⟨b0, fun ⟨c, c0, c1, c2⟩ => no c c0 (by omega) c2⟩)⟩
      · exact ⟨Or.inr b0, k b (Or.inl ⟨b0, yes⟩)⟩
    | succ d ih =>
      intro f y b hy y0 hf iv
      obtain ⟨f, rfl⟩ : ∃ m, f = m + 1 := ⟨f - 1, by omega⟩
      have it := (hs.2.2.2.2.1 y (by omega) (by omega)).1
      have ir := zab_r it
      unfold P_E_isReason_L9 P_E_isReason_J67
      rw [w32_of (x := zd h (e + 1) s + zd h (e + 2) s) (by omega) (by omega), if_neg (by omega)]
      refine ⟨⟨by omega, by omega⟩, ⟨by omega, by omega⟩, zif_i (fun c => ⟨⟨by omega, by omega⟩, ?_⟩) (fun c => ?_)⟩
      · intro x4 e4
        rw [zabs_of it A3.2] at e4
        rw [e4]
        refine ⟨⟨by omega, by omega⟩, zif_i (fun _ => trivial) (fun _ => ⟨⟨by omega, by omega⟩, trivial⟩), ?_⟩
        intro x2 e2
        rw [w32_of (by omega) (by omega)] at e2
        rw [e2]
        refine ih f (y + 1) _ (by omega) (by omega) (by omega) ?_
        rcases iv with ⟨b0, no⟩ | ⟨b0, yes⟩
        · by_cases z1 : zd h (e + 11) (zab (zd h (e + 7) y)) = 0
          · rw [if_pos z1]
            refine Or.inl ⟨rfl, fun c' c0 c1 => ?_⟩
            by_cases w : c' = y
            · rw [w]; exact fun p => p.1 z1
            · exact no c' c0 (by omega)
          · rw [if_neg z1]
            by_cases z2 : zd h (e + 13) (zab (zd h (e + 7) y)) = s
            · rw [if_pos z2]; exact Or.inr ⟨rfl, y, y0, by omega, z1, z2⟩
            · rw [if_neg z2]
              refine Or.inl ⟨rfl, fun c' c0 c1 => ?_⟩
              by_cases w : c' = y
              · rw [w]; exact fun p => z2 p.2
              · exact no c' c0 (by omega)
        · omega
      · rcases iv with ⟨b0, no⟩ | ⟨b0, yes⟩
        · exact absurd b0 c
        · exact ⟨Or.inr b0, k b (Or.inl ⟨b0, yes⟩)⟩
  unfold P_E_isReason
  refine ⟨⟨by omega, by omega⟩, ?_⟩
  intro x2 e2
  rw [e2]
  exact ⟨(zd h (e + 2) s).toNat + 1, key (zd h (e + 2) s).toNat _ _ 0 (by omega) (by omega) (by omega) (Or.inl ⟨rfl, fun c c0 c1 => by omega⟩)⟩
/-- by the trail -/
theorem ersn_tr {e top s : Int} {h : zH} (p : EInv e h top) (s0 : 0 ≤ s) (ls : elaid e h s) : ersn e h s ↔ ∃ i, 0 ≤ i ∧ i < zd h e 20 ∧ zd h (e + 13) (tn e h i) = s := by
  obtain ⟨hs, hc, hT, hL, hO, -, -⟩ := p
  obtain ⟨-, ⟨f0, z0, f1⟩, -⟩ := hs.2.2.2.2.2.1 s ls
  constructor
  · rintro ⟨c, c0, c1, c2, c3⟩
    have zr := zab_r (hs.2.2.2.2.1 c (by omega) (by omega)).1
    obtain ⟨i, i0, i1, i2⟩ := hL.1.2.2.2 _ zr.1 zr.2 c2
    exact ⟨i, i0, i1, by rw [i2]; exact c3⟩
  · rintro ⟨i, i0, i1, i2⟩
    have o := hO i i0 i1
    unfold EOi at o
    rw [i2] at o
    rcases o with ⟨o1, _⟩ | ⟨_, _, ⟨c, c0, c1, c2⟩, _⟩
    · omega
    · obtain ⟨t1, t2⟩ := hT.2.1 i i0 i1
      refine ⟨c, c0, c1, ?_, ?_⟩
      · rw [c2]
        rw [est_ab e h t1] at t2
        split at t2 <;> omega
      · rw [c2]; exact i2
theorem M_thereOf {q : Int} {m : zH} {Q : Int → zH → Prop} (q0 : 0 ≤ q) (q1 : q ≤ 1) (l0 : 0 ≤ zd m 155 q) (l1 : zd m 155 q ≤ 800) (k : Q (zct (fun k => if zd m 156 (800 * q + k) = 0 then 0 else 1) 1 0 (zd m 155 q).toNat) m) : P_M_thereOf q m Q := by
  have key : ∀ (d f : Nat) (c y : Int), y = zd m 155 q - d → 0 ≤ y → d < f → c = zct (fun k => if zd m 156 (800 * q + k) = 0 then 0 else 1) 1 0 y.toNat → P_M_thereOf_L4 q Q f c y m := by
    intro d
    induction d with
    | zero =>
      intro f c y hy y0 hf hc
      obtain ⟨f, rfl⟩ : ∃ m, f = m + 1 := ⟨f - 1, by omega⟩
      unfold P_M_thereOf_L4
      rw [if_pos (by omega), hc, show y = zd m 155 q by omega]
      exact ⟨⟨by omega, by omega⟩, k⟩
    | succ d ih =>
      intro f c y hy y0 hf hc
      obtain ⟨f, rfl⟩ : ∃ m, f = m + 1 := ⟨f - 1, by omega⟩
      have zl := zct_le (fun k => if zd m 156 (800 * q + k) = 0 then 0 else 1) 1 0 y.toNat
      have cnt : zct (fun k => if zd m 156 (800 * q + k) = 0 then 0 else 1) 1 0 (y + 1).toNat = zct (fun k => if zd m 156 (800 * q + k) = 0 then 0 else 1) 1 0 y.toNat + if zd m 156 (800 * q + y) = 0 then 0 else 1 := by
        rw [show (y + 1).toNat = y.toNat + 1 by omega]
        show _ + (if (if zd m 156 (800 * q + (0 + (y.toNat : Int))) = 0 then (0 : Int) else 1) = 1 then (1 : Int) else 0) = _
        rw [show 0 + (y.toNat : Int) = y by omega]
        by_cases z : zd m 156 (800 * q + y) = 0
        · rw [if_pos z, if_neg (by decide)]
        · rw [if_neg z, if_pos rfl]
      unfold P_M_thereOf_L4 P_M_thereOf_J35
      simp only [w32_al, w32_ar, w32_sl, w32_sr, w32_ml, w32_mr]
      rw [if_neg (by omega), w32_of (x := 800 * q + y) (by omega) (by omega)]
      refine ⟨⟨by omega, by omega⟩, ⟨by omega, by omega⟩, ?_⟩
      intro x2 e2 x3 e3
      have b : (if zd m 156 (800 * q + y) = 0 then (0 : Int) else 1) ≤ 1 ∧ 0 ≤ (if zd m 156 (800 * q + y) = 0 then (0 : Int) else 1) := by split <;> omega
      rw [w32_of (by omega) (by omega)] at e2
      rw [w32_of (by omega) (by omega)] at e3
      rw [e3, e2]
      exact ih f _ (y + 1) (by omega) (by omega) (by omega) (by rw [cnt, hc])
  unfold P_M_thereOf
  exact ⟨(zd m 155 q).toNat + 1, key (zd m 155 q).toNat _ 0 0 (by omega) (by omega) (by omega) rfl⟩
def mgo (q : Int) (m : zH) (k : Int) : Prop := zd m 156 (800 * q + k) ≠ 0 ∧ zd m 171 k = 0 ∧ 2 < msz m q (2000 + k)
theorem M_mayGo {q A k : Int} {m : zH} {Q : Int → zH → Prop} (q0 : 0 ≤ q) (q1 : q ≤ 1) (k0 : 0 ≤ k) (k1 : k < 800) (hr : zd m 156 (800 * q + k) ≠ 0 → MR m q A (2000 + k)) (kk : ∀ r, (r = 1 ∧ mgo q m k) ∨ (r = 0 ∧ ¬ mgo q m k) → Q r m) : P_M_mayGo q k m Q := by
  unfold P_M_mayGo
  simp only [w32_al, w32_ar, w32_sl, w32_sr, w32_ml, w32_mr]
  rw [w32_of (x := 800 * q + k) (by omega) (by omega), w32_of (x := 2000 + k) (by omega) (by omega)]
  refine ⟨⟨by omega, by omega⟩, zif_i (fun c => kk 0 (Or.inr ⟨rfl, fun p => p.1 c⟩)) (fun c => ⟨⟨by omega, by omega⟩, zif_i (fun c2 => ?_) (fun c2 => kk 0 (Or.inr ⟨rfl, fun p => c2 p.2.1⟩))⟩)⟩
  refine M_sizeOf q0 q1 (hr c) ?_
  by_cases z : msz m q (2000 + k) ≤ 2
  · rw [if_pos z]; exact kk 0 (Or.inr ⟨rfl, fun p => by have := p.2.2; omega⟩)
  · rw [if_neg z]; exact kk 1 (Or.inl ⟨rfl, c, c2, by omega⟩)
