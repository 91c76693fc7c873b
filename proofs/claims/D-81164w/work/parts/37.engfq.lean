/-! the first quarrel, the first row that forces -/
theorem lowbit {p : Nat → Bool} : ∀ n : Nat, (∃ k, k < n ∧ p k = true) → ∃ k, k < n ∧ p k = true ∧ ∀ j, j < k → p j = false := by
  intro n
  induction n with
  | zero => rintro ⟨k, hk, _⟩; omega
  | succ n ih =>
    intro q
    by_cases c : ∃ k, k < n ∧ p k = true
    · obtain ⟨k, h1, h2, h3⟩ := ih c
      exact ⟨k, by omega, h2, h3⟩
    · obtain ⟨k, h1, h2⟩ := q
      have e : k = n := by
        rcases Nat.lt_or_ge k n with d | d
        · exact absurd ⟨k, d, h2⟩ c
        · omega
      refine ⟨k, h1, h2, fun j hj => ?_⟩
      cases e2 : p j
      · rfl
      · exact absurd ⟨j, by omega, e2⟩ c
theorem hb_ex {x : Int} (hx : r64 x) (h : x ≠ 0) : ∃ k, k < 64 ∧ hb x k = true ∧ ∀ j, j < k → hb x j = false := by
  refine lowbit 64 ?_
  apply Classical.byContradiction
  intro q
  refine h ((hb_zero hx).mpr (fun k hk => ?_))
  cases e : hb x k
  · rfl
  · exact absurd ⟨k, hk, e⟩ q
def Equar (e : Int) (h : zH) (s : Int) : Prop := zd h (e + 5) s ≠ 0 ∧ zd h (e + 4) s = 0 ∧ zd h (e + 3) s = zd h (e + 2) s
def Ehot (e : Int) (h : zH) (s : Int) : Prop := zd h (e + 5) s ≠ 0 ∧ zd h (e + 4) s = 0 ∧ zd h (e + 2) s - 1 ≤ zd h (e + 3) s
theorem zcmp_0 (x : Int) : zcmp x 0 = 0 ↔ x = 0 := by unfold zcmp; split <;> (try split) <;> omega
theorem L_fq {e : Int} {h : zH} {Q : Int → zH → Prop} (hh : EH e h) (hq : ∀ r, (r = -1005 ∧ ∀ s, 0 ≤ s → s < 1364 → ¬ Equar e h s) ∨ ((0 ≤ r ∧ r < 1364) ∧ Equar e h r ∧ ∀ s, 0 ≤ s → s < r → ¬ Equar e h s) → Q r h) : P_E_firstQuarrel e h Q := by
  have hot : ∀ (w : Int) (k : Nat), 0 ≤ w → w < 22 → k < 64 → (hb (zd h (e + 6) w) k = true ↔ 64 * w + k < 1364 ∧ Ehot e h (64 * w + k)) := by
    intro w k w0 w1 k1
    have := hh.1 (64 * w + k) (by omega) (by omega)
    unfold hotok at this
    rw [show (64 * w + (k : Int)) / 64 = w by omega, show ((64 * w + (k : Int)) % 64).toNat = k by omega] at this
    exact this
  have k15 : ∀ (m f b : Nat) (w y : Int) (K : zH → Prop), b + m = 64 → m < f → 0 ≤ w → w < 22 → r64 y → (∀ k, k < 64 → hb y k = (hb (zd h (e + 6) w) k && decide (b ≤ k))) → (∀ s, 0 ≤ s → s < 64 * w + b → ¬ Equar e h s) → ((∀ s, 0 ≤ s → s < 64 * w + 64 → s < 1364 → ¬ Equar e h s) → K h) → P_E_firstQuarrel_L15 e w Q K f y h := by
    intro m
    induction m using Nat.strongRecOn with
    | ind m ih =>
      intro f b w y K bm hf w0 w1 yr yb lo k
      obtain ⟨f, rfl⟩ : ∃ m, f = m + 1 := ⟨f - 1, by omega⟩
      unfold P_E_firstQuarrel_L15
      by_cases c : y = 0
      · rw [if_pos ((zcmp_0 y).mpr c)]
        refine k (fun s s0 s1 s2 q => ?_)
        by_cases d : s < 64 * w + b
        · exact lo s s0 d q
        · have z := yb (s - 64 * w).toNat (by omega)
          rw [c, hb_0, decide_eq_true (by omega), Bool.and_true] at z
          have h1 := (hot w (s - 64 * w).toNat w0 w1 (by omega)).mpr (by
            rw [show 64 * w + ((s - 64 * w).toNat : Int) = s by omega]
            exact ⟨s2, q.1, q.2.1, by rw [q.2.2]; omega⟩)
          rw [h1] at z; cases z
      · rw [if_neg (by exact fun q => c ((zcmp_0 y).mp q))]
        obtain ⟨k0, q1, q2, q3⟩ := hb_ex yr c
        have q2' := q2
        rw [yb k0 q1, Bool.and_eq_true, decide_eq_true_eq] at q2'
        have ho := (hot w k0 w0 w1 q1).mp q2'.1
        refine ntz_ok q1 q2 q3 ?_
        intro x4 e4
        rw [w32_of (x := 64 * w) (by omega) (by omega), w32_of (by omega) (by omega)] at e4
        rw [e4]
        have lo2 : ∀ s, 0 ≤ s → s < 64 * w + k0 → ¬ Equar e h s := by
          intro s s0 s1 q
          by_cases d : s < 64 * w + b
          · exact lo s s0 d q
          · have z := yb (s - 64 * w).toNat (by omega)
            rw [q3 _ (by omega), decide_eq_true (by omega), Bool.and_true] at z
            have h1 := (hot w (s - 64 * w).toNat w0 w1 (by omega)).mpr (by
              rw [show 64 * w + ((s - 64 * w).toNat : Int) = s by omega]
              exact ⟨by omega, q.1, q.2.1, by rw [q.2.2]; omega⟩)
            rw [h1] at z; cases z
        refine ⟨⟨by omega, ho.1⟩, ⟨by omega, ho.1⟩, zif_i (fun d => ?_) (fun d => ?_)⟩
        · exact hq _ (Or.inr ⟨⟨by omega, ho.1⟩, ⟨ho.2.1, ho.2.2.1, d⟩, lo2⟩)
        · intro x2 e2
          refine ih (63 - k0) (by omega) f (k0 + 1) w x2 K (by omega) (by omega) w0 w1 (by rw [e2]; exact r64_of _) (fun k hk => ?_) (fun s s0 s1 q => ?_) k
          · rw [e2, hb_low hk]
            by_cases d2 : k0 < k
            · rw [decide_eq_true (⟨k0, d2, q2⟩ : ∃ j, j < k ∧ hb y j = true), Bool.and_true, yb k hk, decide_eq_true (by omega : b ≤ k), decide_eq_true (by omega : k0 + 1 ≤ k)]
            · rw [decide_eq_false (by rintro ⟨j, j1, j2⟩; rw [q3 j (by omega)] at j2; cases j2), Bool.and_false, decide_eq_false (by omega : ¬ k0 + 1 ≤ k), Bool.and_false]
          · by_cases d2 : s = 64 * w + k0
            · rw [d2] at q; exact d q.2.2
            · exact lo2 s s0 (by omega) q
  have k2 : ∀ (m f : Nat) (w : Int), w = 22 - m → 0 ≤ w → m < f → (∀ s, 0 ≤ s → s < 64 * w → s < 1364 → ¬ Equar e h s) → P_E_firstQuarrel_L2 e Q f w h := by
    intro m
    induction m with
    | zero =>
      intro f w hw w0 hf lo
      obtain ⟨f, rfl⟩ : ∃ m, f = m + 1 := ⟨f - 1, by omega⟩
      unfold P_E_firstQuarrel_L2
      rw [if_pos (by omega)]
      exact hq _ (Or.inl ⟨rfl, fun s s0 s1 => lo s s0 (by omega) s1⟩)
    | succ m ih =>
      intro f w hw w0 hf lo
      obtain ⟨f, rfl⟩ : ∃ m, f = m + 1 := ⟨f - 1, by omega⟩
      unfold P_E_firstQuarrel_L2
      rw [if_neg (by omega)]
      refine ⟨⟨w0, by omega⟩, ?_⟩
      intro x2 e2
      refine ⟨65, k15 64 65 0 w x2 _ (by decide) (by decide) w0 (by omega) (by rw [e2]; exact hh.2.1 w) (fun k hk => by rw [e2]; simp) (fun s s0 s1 => lo s s0 (by omega) (by omega)) (fun lo2 => ?_)⟩
      intro x1 e1
      rw [w32_of (by omega) (by omega)] at e1
      rw [e1]
      exact ih f (w + 1) (by omega) (by omega) (by omega) (fun s s0 s1 s2 => lo2 s s0 (by omega) s2)
  unfold P_E_firstQuarrel
  exact ⟨23, k2 22 23 0 (by decide) (by decide) (by decide) (fun s s0 s1 => by omega)⟩
theorem L_ff {e : Int} {h : zH} {Q : Int → zH → Prop} (hh : EH e h) (hq : ∀ r, (r = -1005 ∧ ∀ s, 0 ≤ s → s < 1364 → ¬ Ehot e h s) ∨ ((0 ≤ r ∧ r < 1364) ∧ Ehot e h r ∧ ∀ s, 0 ≤ s → s < r → ¬ Ehot e h s) → Q r h) : P_E_firstForcing e h Q := by
  have hot : ∀ (w : Int) (k : Nat), 0 ≤ w → w < 22 → k < 64 → (hb (zd h (e + 6) w) k = true ↔ 64 * w + k < 1364 ∧ Ehot e h (64 * w + k)) := by
    intro w k w0 w1 k1
    have := hh.1 (64 * w + k) (by omega) (by omega)
    unfold hotok at this
    rw [show (64 * w + (k : Int)) / 64 = w by omega, show ((64 * w + (k : Int)) % 64).toNat = k by omega] at this
    exact this
  have k2 : ∀ (m f : Nat) (w : Int) (K : Int → zH → Prop), w = 22 - m → 0 ≤ w → m < f → (∀ s, 0 ≤ s → s < 64 * w → s < 1364 → ¬ Ehot e h s) → (∀ w, 0 ≤ w → w < 22 → zd h (e + 6) w ≠ 0 → (∀ s, 0 ≤ s → s < 64 * w → s < 1364 → ¬ Ehot e h s) → K w h) → P_E_firstForcing_L2 e Q K f w h := by
    intro m
    induction m with
    | zero =>
      intro f w K hw w0 hf lo k
      obtain ⟨f, rfl⟩ : ∃ m, f = m + 1 := ⟨f - 1, by omega⟩
      unfold P_E_firstForcing_L2
      rw [if_pos (by omega)]
      exact hq _ (Or.inl ⟨rfl, fun s s0 s1 => lo s s0 (by omega) s1⟩)
    | succ m ih =>
      intro f w K hw w0 hf lo k
      obtain ⟨f, rfl⟩ : ∃ m, f = m + 1 := ⟨f - 1, by omega⟩
      unfold P_E_firstForcing_L2
      rw [if_neg (by omega)]
      refine ⟨⟨w0, by omega⟩, zif_i (fun c => ?_) (fun c => ?_)⟩
      · intro x1 e1
        rw [w32_of (by omega) (by omega)] at e1
        rw [e1]
        refine ih f (w + 1) K (by omega) (by omega) (by omega) (fun s s0 s1 s2 q => ?_) k
        by_cases d : s < 64 * w
        · exact lo s s0 d s2 q
        · have h1 := (hot w (s - 64 * w).toNat w0 (by omega) (by omega)).mpr (by
            rw [show 64 * w + ((s - 64 * w).toNat : Int) = s by omega]; exact ⟨s2, q⟩)
          rw [(zcmp_0 _).mp c, hb_0] at h1; cases h1
      · exact k w w0 (by omega) (fun q => c ((zcmp_0 _).mpr q)) lo
  unfold P_E_firstForcing
  refine ⟨23, k2 22 23 0 _ (by decide) (by decide) (by decide) (fun s s0 s1 => by omega) (fun w w0 w1 nz lo => ?_)⟩
  refine ⟨⟨w0, w1⟩, ?_⟩
  obtain ⟨k0, q1, q2, q3⟩ := hb_ex (hh.2.1 w) nz
  refine ntz_ok q1 q2 q3 ?_
  rw [w32_of (x := 64 * w) (by omega) (by omega), w32_of (by omega) (by omega)]
  have ho := (hot w k0 w0 w1 q1).mp q2
  refine hq _ (Or.inr ⟨⟨by omega, ho.1⟩, ho.2, fun s s0 s1 q => ?_⟩)
  by_cases d : s < 64 * w
  · exact lo s s0 d (by omega) q
  · have h1 := (hot w (s - 64 * w).toNat w0 w1 (by omega)).mpr (by
      rw [show 64 * w + ((s - 64 * w).toNat : Int) = s by omega]; exact ⟨by omega, q⟩)
    rw [q3 _ (by omega)] at h1; cases h1
/-- the item that is open -/
theorem L_openOf {e s top : Int} {h : zH} {Q : Int → zH → Prop} (hs : ES e h top) (ls : elaid e h s) (hx : ∃ c, zd h (e + 1) s ≤ c ∧ c < zd h (e + 1) s + zd h (e + 2) s ∧ est e h (zd h (e + 7) c) = 0)
    (hq : ∀ c, zd h (e + 1) s ≤ c → c < zd h (e + 1) s + zd h (e + 2) s → est e h (zd h (e + 7) c) = 0 → Q (zd h (e + 7) c) h) : P_E_openOf e s h Q := by
  obtain ⟨s0, ⟨f0, z0, f1⟩, -⟩ := hs.2.2.2.2.2.1 s ls
  have tp := hs.2.2.1
  have cl := hs.2.1
  obtain ⟨c0, c1, c2, c3⟩ := hx
  have key : ∀ (m f : Nat) (y : Int), y = c0 - m → zd h (e + 1) s ≤ y → m < f → P_E_openOf_L7 e Q f y h := by
    intro m
    induction m with
    | zero =>
      intro f y hy y0 hf
      obtain ⟨f, rfl⟩ : ∃ m, f = m + 1 := ⟨f - 1, by omega⟩
      have ey : y = c0 := by omega
      unfold P_E_openOf_L7
      rw [ey]
      refine ⟨⟨by omega, by omega⟩, L_isOpen (hs.2.2.2.2.1 c0 (by omega) (by omega)).1 hs.1.2 ?_⟩
      rw [if_pos c3, if_neg (by decide)]
      exact ⟨⟨by omega, by omega⟩, hq c0 c1 c2 c3⟩
    | succ m ih =>
      intro f y hy y0 hf
      obtain ⟨f, rfl⟩ : ∃ m, f = m + 1 := ⟨f - 1, by omega⟩
      unfold P_E_openOf_L7
      refine ⟨⟨by omega, by omega⟩, L_isOpen (hs.2.2.2.2.1 y (by omega) (by omega)).1 hs.1.2 ?_⟩
      by_cases c : est e h (zd h (e + 7) y) = 0
      · rw [if_pos c, if_neg (by decide)]
        exact ⟨⟨by omega, by omega⟩, hq y y0 (by omega) c⟩
      · rw [if_neg c, if_pos rfl]
        intro x2 e2
        rw [w32_of (by omega) (by omega)] at e2
        rw [e2]
        exact ih f (y + 1) (by omega) (by omega) (by omega)
  unfold P_E_openOf
  refine ⟨⟨by omega, by omega⟩, ?_⟩
  intro x2 e2
  rw [e2]
  exact ⟨(c0 - zd h (e + 1) s).toNat + 1, key (c0 - zd h (e + 1) s).toNat _ _ (by omega) (by omega) (by omega)⟩
/-! all anew -/
def EP (e : Int) (h : zH) : Prop := (∀ w, r64 (zd h (e + 6) w)) ∧ ∀ s, 0 ≤ s → s < 1364 → -2147483647 ≤ zd h (e + 2) s ∧ zd h (e + 2) s ≤ 2147483647
theorem EH.p {e : Int} {h : zH} (p : EH e h) : EP e h := ⟨p.2.1, p.2.2⟩
def eclr (j : Int) : Bool := j == 10 || j == 20 || j == 21 || j == 25 || j == 26 || j == 28 || j == 30 || j == 32 || j == 33 || j == 34 || j == 35 || j == 36 || j == 37 || j == 38 || j == 39 || j == 42 || j == 45
def EclearP (e : Int) (h h' : zH) : Prop := yA [e, e + 5, e + 6, e + 10, e + 11, e + 14, e + 15] h h' ∧
  (∀ j, zd h' e j = if j = 11 then zd h 14 2 else if j = 22 then 64 else if j = 29 then -1005 else if j = 40 then 1 else if eclr j then 0 else zd h e j) ∧
  (∀ s, 0 ≤ s → s < 1364 → zd h' (e + 5) s = 0) ∧ (∀ n, 1 ≤ n → n ≤ zd h 14 2 → zd h' (e + 11) n = 0 ∧ zd h' (e + 14) n = 0 ∧ zd h' (e + 15) n = zd h (zd h 15 (n - 1)) 1)
theorem L_clr1 {e : Int} {Q : Int → zH → Prop} {K : zH → Prop} : ∀ (m f : Nat) (y : Int) (g : zH), y = 1364 - m → 0 ≤ y → m < f → (∀ g', yA [e + 5] g g' → (∀ j, zd g' (e + 5) j = if y ≤ j ∧ j < 1364 then 0 else zd g (e + 5) j) → K g') → P_E_clear_L18 e Q K f y g := by
  intro m
  induction m with
  | zero =>
    intro f y g hy y0 hf k
    obtain ⟨f, rfl⟩ : ∃ m, f = m + 1 := ⟨f - 1, by omega⟩
    unfold P_E_clear_L18
    rw [if_pos (by omega)]
    exact k g (yA.rf _ _) (fun j => by rw [if_neg (by omega)])
  | succ m ih =>
    intro f y g hy y0 hf k
    obtain ⟨f, rfl⟩ : ∃ m, f = m + 1 := ⟨f - 1, by omega⟩
    unfold P_E_clear_L18
    rw [if_neg (by omega), zbit_0]
    refine ⟨⟨by omega, by omega⟩, ?_⟩
    intro h3 e3 x1 e1
    rw [w32_of (by omega) (by omega)] at e1
    rw [e1, e3]
    refine ih f (y + 1) _ (by omega) (by omega) (by omega) (fun g' p1 p2 => k g' (((yA.rf [e + 5] g).w (by simp)).tr p1) (fun j => ?_))
    rw [p2 j]
    by_cases c : j = y
    · rw [if_neg (by omega), if_pos (by omega), c, zd_s]
    · rw [zd_i c]
      by_cases d : y ≤ j ∧ j < 1364
      · rw [if_pos d, if_pos (by omega)]
      · rw [if_neg d, if_neg (by omega)]
theorem L_clr2 {e : Int} {Q : Int → zH → Prop} {K : zH → Prop} : ∀ (m f : Nat) (y : Int) (g : zH), y = 22 - m → 0 ≤ y → m < f → (∀ g', yA [e + 6] g g' → (∀ j, zd g' (e + 6) j = if y ≤ j ∧ j < 22 then 0 else zd g (e + 6) j) → K g') → P_E_clear_L40 e Q K f y g := by
  intro m
  induction m with
  | zero =>
    intro f y g hy y0 hf k
    obtain ⟨f, rfl⟩ : ∃ m, f = m + 1 := ⟨f - 1, by omega⟩
    unfold P_E_clear_L40
    rw [if_pos (by omega)]
    exact k g (yA.rf _ _) (fun j => by rw [if_neg (by omega)])
  | succ m ih =>
    intro f y g hy y0 hf k
    obtain ⟨f, rfl⟩ : ∃ m, f = m + 1 := ⟨f - 1, by omega⟩
    unfold P_E_clear_L40
    rw [if_neg (by omega)]
    refine ⟨⟨by omega, by omega⟩, ?_⟩
    intro h3 e3 x1 e1
    rw [w32_of (by omega) (by omega)] at e1
    rw [e1, e3]
    refine ih f (y + 1) _ (by omega) (by omega) (by omega) (fun g' p1 p2 => k g' (((yA.rf [e + 6] g).w (by simp)).tr p1) (fun j => ?_))
    rw [p2 j]
    by_cases c : j = y
    · rw [if_neg (by omega), if_pos (by omega), c, zd_s]
    · rw [zd_i c]
      by_cases d : y ≤ j ∧ j < 22
      · rw [if_pos d, if_pos (by omega)]
      · rw [if_neg d, if_neg (by omega)]
theorem L_clr3 {e : Int} {Q : Int → zH → Prop} {K : zH → Prop} : ∀ (m f : Nat) (y : Int) (g : zH), y = 602 - m → 0 ≤ y → m < f → (∀ g', yA [e + 10] g g' → (∀ j, zd g' (e + 10) j = if y ≤ j ∧ j < 602 then -1005 else zd g (e + 10) j) → K g') → P_E_clear_L61 e Q K f y g := by
  intro m
  induction m with
  | zero =>
    intro f y g hy y0 hf k
    obtain ⟨f, rfl⟩ : ∃ m, f = m + 1 := ⟨f - 1, by omega⟩
    unfold P_E_clear_L61
    rw [if_pos (by omega)]
    exact k g (yA.rf _ _) (fun j => by rw [if_neg (by omega)])
  | succ m ih =>
    intro f y g hy y0 hf k
    obtain ⟨f, rfl⟩ : ∃ m, f = m + 1 := ⟨f - 1, by omega⟩
    unfold P_E_clear_L61
    rw [if_neg (by omega)]
    refine ⟨⟨by omega, by omega⟩, ?_⟩
    intro h3 e3 x1 e1
    rw [w32_of (by omega) (by omega)] at e1
    rw [e1, e3]
    refine ih f (y + 1) _ (by omega) (by omega) (by omega) (fun g' p1 p2 => k g' (((yA.rf [e + 10] g).w (by simp)).tr p1) (fun j => ?_))
    rw [p2 j]
    by_cases c : j = y
    · rw [if_neg (by omega), if_pos (by omega), c, zd_s]
    · rw [zd_i c]
      by_cases d : y ≤ j ∧ j < 602
      · rw [if_pos d, if_pos (by omega)]
      · rw [if_neg d, if_neg (by omega)]
theorem L_clr4 {e N : Int} {Q : Int → zH → Prop} {K : zH → Prop} (hN0 : 0 ≤ N) (hN : N ≤ 300) (he : zE e) : ∀ (m f : Nat) (y : Int) (g : zH), y = N + 1 - m → 1 ≤ y → m < f → zd g e 11 = N → (∀ n, 1 ≤ n → n ≤ N → zt g (zd g 15 (n - 1)) = 4 ∧ 175 ≤ zd g 15 (n - 1)) →
    (∀ g', yA [e + 11, e + 14, e + 15] g g' → (∀ n, y ≤ n → n ≤ N → zd g' (e + 11) n = 0 ∧ zd g' (e + 14) n = 0 ∧ zd g' (e + 15) n = zd g (zd g 15 (n - 1)) 1) → (∀ n, n < y → zd g' (e + 11) n = zd g (e + 11) n ∧ zd g' (e + 14) n = zd g (e + 14) n ∧ zd g' (e + 15) n = zd g (e + 15) n) → K g') → P_E_clear_L87 e Q K f y g := by
  have eR : 25 ≤ e ∧ e ≤ 58 := by rcases he with q | q <;> omega
  intro m
  induction m with
  | zero =>
    intro f y g hy y0 hf g11 gn k
    obtain ⟨f, rfl⟩ : ∃ m, f = m + 1 := ⟨f - 1, by omega⟩
    unfold P_E_clear_L87
    rw [if_pos (by omega)]
    exact k g (yA.rf _ _) (fun n n0 n1 => by omega) (fun n _ => ⟨rfl, rfl, rfl⟩)
  | succ m ih =>
    intro f y g hy y0 hf g11 gn k
    obtain ⟨f, rfl⟩ : ∃ m, f = m + 1 := ⟨f - 1, by omega⟩
    obtain ⟨t4, ad⟩ := gn y y0 (by omega)
    unfold P_E_clear_L87
    rw [if_neg (by omega), w32_of (x := y - 1) (by omega) (by omega)]
    refine ⟨⟨by omega, by omega⟩, ?_⟩
    intro h12 e12
    refine ⟨⟨by omega, by omega⟩, ?_⟩
    intro h13 e13
    have A13 : yA [e + 11, e + 14] g h13 := by rw [e13, e12]; exact ((yA.rf _ g).w (by simp)).w (by simp)
    have n15 : zd h13 15 = zd g 15 := A13.f (by simp only [List.mem_cons, List.not_mem_nil, or_false]; omega)
    rw [n15]
    have nn : zd h13 (zd g 15 (y - 1)) = zd g (zd g 15 (y - 1)) := A13.f (by simp only [List.mem_cons, List.not_mem_nil, or_false]; omega)
    rw [nn, A13.t]
    refine ⟨⟨by omega, by omega⟩, t4, ⟨by omega, by omega⟩, ?_⟩
    intro h14 e14 x1 e1
    rw [w32_of (by omega) (by omega)] at e1
    rw [e1]
    have A14 : yA [e + 11, e + 14, e + 15] g h14 := by rw [e14]; exact (A13.mono (by simp)).w (by simp)
    have m15 : zd h14 15 = zd g 15 := A14.f (by simp only [List.mem_cons, List.not_mem_nil, or_false]; omega)
    have v11 : ∀ j, zd h14 (e + 11) j = if j = y then 0 else zd g (e + 11) j := by
      intro j
      rw [e14, zd_a (by omega), e13, zd_a (by omega), e12, zd_zw]
      by_cases c : j = y
      · rw [if_pos ⟨rfl, c⟩, if_pos c]
      · rw [if_neg (by exact fun q => c q.2), if_neg c]
    have v14 : ∀ j, zd h14 (e + 14) j = if j = y then 0 else zd g (e + 14) j := by
      intro j
      rw [e14, zd_a (by omega), e13, zd_zw, e12, zd_a (by omega)]
      by_cases c : j = y
      · rw [if_pos ⟨rfl, c⟩, if_pos c]
      · rw [if_neg (by exact fun q => c q.2), if_neg c]
    have v15 : ∀ j, zd h14 (e + 15) j = if j = y then zd g (zd g 15 (y - 1)) 1 else zd g (e + 15) j := by
      intro j
      rw [e14, zd_zw, e13, zd_a (by omega), e12, zd_a (by omega)]
      by_cases c : j = y
      · rw [if_pos ⟨rfl, c⟩, if_pos c]
      · rw [if_neg (by exact fun q => c q.2), if_neg c]
    refine ih f (y + 1) h14 (by omega) (by omega) (by omega) (by rw [A14.f (b := e) (by simp only [List.mem_cons, List.not_mem_nil, or_false]; omega)]; exact g11) (fun n n0 n1 => by rw [m15, A14.t]; exact gn n n0 n1) (fun g' p1 p2 p3 => k g' (A14.tr p1) (fun n n0 n1 => ?_) (fun n n0 => ?_))
    · by_cases c : n = y
      · have := p3 n (by omega)
        rw [this.1, this.2.1, this.2.2, v11, v14, v15, if_pos c, if_pos c, if_pos c, c]; exact ⟨rfl, rfl, rfl⟩
      · have := p2 n (by omega) n1
        rw [m15] at this
        have ad2 := (gn n (by omega) n1).2
        rw [A14.f (b := zd g 15 (n - 1)) (by simp only [List.mem_cons, List.not_mem_nil, or_false]; omega)] at this
        exact this
    · have := p3 n (by omega)
      rw [this.1, this.2.1, this.2.2, v11, v14, v15, if_neg (by omega), if_neg (by omega), if_neg (by omega)]; exact ⟨rfl, rfl, rfl⟩
theorem L_clear {e : Int} {h : zH} {Q : Int → zH → Prop} (he : zE e) (hp : EP e h) (hN0 : 0 ≤ zd h 14 2) (hN : zd h 14 2 ≤ 300) (hn : ∀ n, 1 ≤ n → n ≤ zd h 14 2 → zt h (zd h 15 (n - 1)) = 4 ∧ 175 ≤ zd h 15 (n - 1))
    (hq : ∀ h', EclearP e h h' → ES e h' 0 → EC e h' → ET e h' → Q 0 h') : P_E_clear e h Q := by
  have eR : 25 ≤ e ∧ e ≤ 58 := by rcases he with q | q <;> omega
  unfold P_E_clear
  intro h1 e1 h2 e2
  have A2 : yA [e] h h2 := by rw [e2, e1]; exact ((yA.rf _ h).w (by simp)).w (by simp)
  have f2 : ∀ j, zd h2 e j = if j = 10 then 0 else if j = 11 then zd h 14 2 else zd h e j := by
    intro j
    rw [e2, zd_zw, e1, zd_zw]
    by_cases c : j = 10
    · rw [if_pos ⟨rfl, c⟩, if_pos c]
    · rw [if_neg (by exact fun q => c q.2), if_neg c]
      by_cases d : j = 11
      · rw [if_pos ⟨rfl, d⟩, if_pos d]
      · rw [if_neg (by exact fun q => d q.2), if_neg d]
  clear e2 e1
  refine ⟨1365, L_clr1 1364 1365 0 h2 (by decide) (by decide) (by decide) (fun h5 p1 p2 => ?_)⟩
  refine ⟨23, L_clr2 22 23 0 h5 (by decide) (by decide) (by decide) (fun h8 q1 q2 => ?_)⟩
  refine ⟨603, L_clr3 602 603 0 h8 (by decide) (by decide) (by decide) (fun h11 r1 r2 => ?_)⟩
  have B : yA [e, e + 5, e + 6, e + 10] h h11 := (((A2.mono (by simp)).tr (p1.mono (by simp))).tr (q1.mono (by simp))).tr (r1.mono (by simp))
  have o0 : zd h11 e = zd h2 e := by rw [r1.f (by simp only [List.mem_cons, List.not_mem_nil, or_false]; omega), q1.f (by simp only [List.mem_cons, List.not_mem_nil, or_false]; omega), p1.f (by simp only [List.mem_cons, List.not_mem_nil, or_false]; omega)]
  have o15 : zd h11 15 = zd h 15 := B.f (by simp only [List.mem_cons, List.not_mem_nil, or_false]; omega)
  refine ⟨(zd h 14 2).toNat + 1, L_clr4 hN0 hN he (zd h 14 2).toNat _ 1 h11 (by omega) (by omega) (by omega) (by rw [o0, f2]; rfl) (fun n n0 n1 => by rw [o15, B.t]; exact hn n n0 n1) (fun h16 u1 u2 u3 => ?_)⟩
  have C : yA [e, e + 5, e + 6, e + 10, e + 11, e + 14, e + 15] h h16 := (B.mono (by simp)).tr (u1.mono (by simp))
  have s0 : zd h16 e = zd h2 e := (u1.f (by simp only [List.mem_cons, List.not_mem_nil, or_false]; omega)).trans o0
  have s5 : ∀ s, zd h16 (e + 5) s = if 0 ≤ s ∧ s < 1364 then 0 else zd h (e + 5) s := by
    intro s; rw [u1.f (b := e + 5) (by simp only [List.mem_cons, List.not_mem_nil, or_false]; omega), r1.f (b := e + 5) (by simp only [List.mem_cons, List.not_mem_nil, or_false]; omega), q1.f (b := e + 5) (by simp only [List.mem_cons, List.not_mem_nil, or_false]; omega), p2, A2.f (b := e + 5) (by simp only [List.mem_cons, List.not_mem_nil, or_false]; omega)]
  have s6 : ∀ s, zd h16 (e + 6) s = if 0 ≤ s ∧ s < 22 then 0 else zd h (e + 6) s := by
    intro s; rw [u1.f (b := e + 6) (by simp only [List.mem_cons, List.not_mem_nil, or_false]; omega), r1.f (b := e + 6) (by simp only [List.mem_cons, List.not_mem_nil, or_false]; omega), q2, p1.f (b := e + 6) (by simp only [List.mem_cons, List.not_mem_nil, or_false]; omega), A2.f (b := e + 6) (by simp only [List.mem_cons, List.not_mem_nil, or_false]; omega)]
  have s10 : ∀ s, 0 ≤ s → s < 602 → zd h16 (e + 10) s = -1005 := by
    intro s s0 s1; rw [u1.f (b := e + 10) (by simp only [List.mem_cons, List.not_mem_nil, or_false]; omega), r2, if_pos ⟨s0, s1⟩]
  have s11 : ∀ n, 1 ≤ n → n ≤ zd h 14 2 → zd h16 (e + 11) n = 0 ∧ zd h16 (e + 14) n = 0 ∧ zd h16 (e + 15) n = zd h (zd h 15 (n - 1)) 1 := by
    intro n n0 n1
    have := u2 n n0 n1
    have ad := (hn n n0 n1).2
    rw [o15, B.f (b := zd h 15 (n - 1)) (by simp only [List.mem_cons, List.not_mem_nil, or_false]; omega)] at this
    exact this
  intro g1 e1 g2 e2 g3 e3 g4 e4 g5 e5 g6 e6 g7 e7 g8 e8 g9 e9 g10 e10 g11 e11 g12 e12 g13 e13 g14 e14 g15 e15 g16 e16 g17 e17 g18 e18 g19 e19
  have kk : ∀ c, c ≠ e → zd g19 c = zd h16 c := by
    intro c hc
    rw [e19, zw_f hc, e18, zw_f hc, e17, zw_f hc, e16, zw_f hc, e15, zw_f hc, e14, zw_f hc, e13, zw_f hc, e12, zw_f hc, e11, zw_f hc, e10, zw_f hc, e9, zw_f hc, e8, zw_f hc, e7, zw_f hc, e6, zw_f hc, e5, zw_f hc, e4, zw_f hc, e3, zw_f hc, e2, zw_f hc, e1, zw_f hc]
  have D : yA [e, e + 5, e + 6, e + 10, e + 11, e + 14, e + 15] h g19 := by
    have i : e ∈ [e, e + 5, e + 6, e + 10, e + 11, e + 14, e + 15] := by simp
    rw [e19, e18, e17, e16, e15, e14, e13, e12, e11, e10, e9, e8, e7, e6, e5, e4, e3, e2, e1]
    exact (((((((((((((((((((C.w i).w i).w i).w i).w i).w i).w i).w i).w i).w i).w i).w i).w i).w i).w i).w i).w i).w i).w i)
  have F : ∀ j, zd g19 e j = if j = 11 then zd h 14 2 else if j = 22 then 64 else if j = 29 then -1005 else if j = 40 then 1 else if eclr j then 0 else zd h e j := by
    intro j
    have i1 : ∀ {g : zH} {i v : Int}, zd (zw g e i v) e j = if j = i then v else zd g e j := by
      intro g i v
      rw [zd_zw]
      by_cases c : j = i
      · rw [if_pos ⟨rfl, c⟩, if_pos c]
      · rw [if_neg (by exact fun q => c q.2), if_neg c]
    rw [e19, i1, e18, i1, e17, i1, e16, i1, e15, i1, e14, i1, e13, i1, e12, i1, e11, i1, e10, i1, e9, i1, e8, i1, e7, i1, e6, i1, e5, i1, e4, i1, e3, i1, e2, i1, e1, i1, s0, f2]
    unfold eclr
    by_cases c : j = 45; · subst c; rfl
    by_cases c2 : j = 42; · subst c2; rfl
    by_cases c3 : j = 40; · subst c3; rfl
    by_cases c4 : j = 39; · subst c4; rfl
    by_cases c5 : j = 38; · subst c5; rfl
    by_cases c6 : j = 37; · subst c6; rfl
    by_cases c7 : j = 36; · subst c7; rfl
    by_cases c8 : j = 35; · subst c8; rfl
    by_cases c9 : j = 34; · subst c9; rfl
    by_cases c10 : j = 33; · subst c10; rfl
    by_cases c11 : j = 32; · subst c11; rfl
    by_cases c12 : j = 30; · subst c12; rfl
    by_cases c13 : j = 29; · subst c13; rfl
    by_cases c14 : j = 28; · subst c14; rfl
    by_cases c15 : j = 26; · subst c15; rfl
    by_cases c16 : j = 25; · subst c16; rfl
    by_cases c17 : j = 22; · subst c17; rfl
    by_cases c18 : j = 21; · subst c18; rfl
    by_cases c19 : j = 20; · subst c19; rfl
    by_cases c20 : j = 11; · subst c20; rfl
    by_cases c21 : j = 10; · subst c21; rfl
    simp [c, c2, c3, c4, c5, c6, c7, c8, c9, c10, c11, c12, c13, c14, c15, c16, c17, c18, c19, c20, c21]
  clear e19 e18 e17 e16 e15 e14 e13 e12 e11 e10 e9 e8 e7 e6 e5 e4 e3 e2 e1
  have a10 : zd g19 e 10 = 0 := by rw [F]; rfl
  have a11 : zd g19 e 11 = zd h 14 2 := by rw [F]; rfl
  have a20 : zd g19 e 20 = 0 := by rw [F]; rfl
  have n5 : ∀ s, 0 ≤ s → s < 1364 → zd g19 (e + 5) s = 0 := fun s s1 s2 => by rw [kk _ (by omega), s5, if_pos ⟨s1, s2⟩]
  have nl : ∀ s, ¬ elaid e g19 s := by
    rintro s (⟨l0, l1, l2⟩ | ⟨c, c0, c1, _⟩)
    · rw [n5 s l0 l1] at l2; omega
    · rw [a10] at c1; omega
  refine hq g19 ⟨D, F, n5, fun n n0 n1 => ?_⟩ ⟨by rw [a11]; exact ⟨hN0, hN⟩, by rw [a10]; omega, by omega, ?_, ?_, fun s ls => absurd ls (nl s), fun s s0 s1 => Or.inl (n5 s s0 s1)⟩ ⟨fun s ls => absurd ls (nl s), ⟨?_, ?_, ?_⟩, ?_⟩ ⟨by rw [a20]; omega, fun i i0 i1 => by rw [a20] at i1; omega, fun i j i0 i1 i2 => by rw [a20] at i2; omega⟩
  · rw [kk _ (by omega), kk _ (by omega), kk _ (by omega)]; exact s11 n n0 n1
  · intro x hx
    rw [a11] at hx
    have := eidx_r hx hN
    rw [a10, kk _ (by omega), s10 _ this.1 this.2]; rfl
  · intro c c0 c1; rw [a10] at c1; omega
  · intro s s0 s1
    unfold hotok
    rw [kk (e + 6) (by omega), s6, if_pos (by omega), hb_0]
    constructor
    · intro q; cases q
    · rintro ⟨q1, q2, _⟩; exact absurd (n5 s s0 q1) q2
  · intro w
    rw [kk _ (by omega), s6]
    split
    · exact ⟨by decide, by decide⟩
    · exact hp.1 w
  · intro s s0 s1; rw [D.f (b := e + 2) (by simp only [List.mem_cons, List.not_mem_nil, or_false]; omega)]; exact hp.2 s s0 s1
  · intro n n0 n1
    rw [a11] at n1
    rw [kk _ (by omega)]; exact Or.inl (s11 n n0 n1).1
