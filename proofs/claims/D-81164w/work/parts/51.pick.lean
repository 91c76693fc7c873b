/-! what is decided next, here and there -/
def EAs (e : Int) (h : zH) : Prop := (0 ≤ zd h e 28 ∧ zd h e 28 ≤ 20) ∧ ∀ k, 0 ≤ k → k < zd h e 28 → eit (zd h e 11) (zd h (e + 21) k)
theorem R8.as {e q : Int} {h m : zH} (p : R8 e q h m) : EAs e h := ⟨p.1.2, fun k k0 k1 => (p.2 k k0 k1).2⟩
theorem E_firstAssumed {e : Int} {h : zH} {Q : Int → zH → Prop} (hA : zd h e 11 ≤ 300) (ha : EAs e h) (k : ∀ r, ((r = 0 ∧ ∀ k, 0 ≤ k → k < zd h e 28 → est e h (zd h (e + 21) k) = 1) ∨ ∃ k, 0 ≤ k ∧ k < zd h e 28 ∧ r = zd h (e + 21) k ∧ est e h r ≠ 1 ∧ ∀ j, 0 ≤ j → j < k → est e h (zd h (e + 21) j) = 1) → Q r h) : P_E_firstAssumed e h Q := by
  have key : ∀ (d f : Nat) (y : Int), y = zd h e 28 - d → 0 ≤ y → d < f → (∀ j, 0 ≤ j → j < y → est e h (zd h (e + 21) j) = 1) → P_E_firstAssumed_L2 e Q f y h := by
    intro d
    induction d with
    | zero =>
      intro f y hy y0 hf al
      obtain ⟨f, rfl⟩ : ∃ m, f = m + 1 := ⟨f - 1, by omega⟩
      unfold P_E_firstAssumed_L2
      rw [if_pos (by omega)]
      exact k 0 (Or.inl ⟨rfl, fun j j0 j1 => al j j0 (by omega)⟩)
    | succ d ih =>
      intro f y hy y0 hf al
      obtain ⟨f, rfl⟩ : ∃ m, f = m + 1 := ⟨f - 1, by omega⟩
      have a1 := ha.1
      unfold P_E_firstAssumed_L2
      rw [if_neg (by omega)]
      refine ⟨⟨by omega, by omega⟩, L_isTrue (ha.2 y y0 (by omega)) hA ?_⟩
      by_cases c : est e h (zd h (e + 21) y) = 1
      · rw [if_pos c, if_neg (by decide)]
        intro x1 e1
        rw [w32_of (by omega) (by omega)] at e1
        rw [e1]
        refine ih f (y + 1) (by omega) (by omega) (by omega) (fun j j0 j1 => ?_)
        by_cases d' : j = y
        · rw [d']; exact c
        · exact al j j0 (by omega)
      · rw [if_neg c, if_pos rfl]
        exact ⟨⟨by omega, by omega⟩, k _ (Or.inr ⟨y, y0, by omega, rfl, c, al⟩)⟩
  unfold P_E_firstAssumed
  have a1 := ha.1
  exact ⟨(zd h e 28).toNat + 1, key (zd h e 28).toNat _ 0 (by omega) (by omega) (by omega) (fun j j0 j1 => by omega)⟩
theorem M_asked {q A : Int} {m : zH} {Q : Int → zH → Prop} {K : Int → Int → zH → Prop} (q0 : 0 ≤ q) (q1 : q ≤ 1) (hv : MV m q A) (a0 : 0 ≤ zd m 141 q) (a1 : zd m 141 q ≤ 20) (hi : ∀ k, 0 ≤ k → k < zd m 141 q → eit A (zd m 140 (20 * q + k)))
    (k : ∀ a s, ((s = 1 ∧ ∀ k, 0 ≤ k → k < zd m 141 q → mst m q (zd m 140 (20 * q + k)) = 1) ∨ ∃ k, 0 ≤ k ∧ k < zd m 141 q ∧ a = zd m 140 (20 * q + k) ∧ s = mst m q a ∧ s ≠ 1 ∧ ∀ j, 0 ≤ j → j < k → mst m q (zd m 140 (20 * q + j)) = 1) → K a s m) : ∃ n, P_M_oneTurn_L104 q Q K n 0 1 0 m := by
  have key : ∀ (d f : Nat) (a s y : Int), y = zd m 141 q - d → 0 ≤ y → d < f → ((s = 1 ∧ ∀ k, 0 ≤ k → k < y → mst m q (zd m 140 (20 * q + k)) = 1) ∨ ∃ k, 0 ≤ k ∧ k < zd m 141 q ∧ a = zd m 140 (20 * q + k) ∧ s = mst m q a ∧ s ≠ 1 ∧ ∀ j, 0 ≤ j → j < k → mst m q (zd m 140 (20 * q + j)) = 1) → P_M_oneTurn_L104 q Q K f a s y m := by
    intro d
    induction d with
    | zero =>
      intro f a s y hy y0 hf iv
      obtain ⟨f, rfl⟩ : ∃ m, f = m + 1 := ⟨f - 1, by omega⟩
      unfold P_M_oneTurn_L104
      rw [if_pos (by omega)]
      refine ⟨⟨by omega, by omega⟩, k a s ?_⟩
      rcases iv with ⟨b1, b2⟩ | b
      · exact Or.inl ⟨b1, fun k k0 k1 => b2 k k0 (by omega)⟩
      · exact Or.inr b
    | succ d ih =>
      intro f a s y hy y0 hf iv
      obtain ⟨f, rfl⟩ : ∃ m, f = m + 1 := ⟨f - 1, by omega⟩
      unfold P_M_oneTurn_L104
      simp only [w32_al, w32_ar, w32_sl, w32_sr, w32_ml, w32_mr]
      rw [if_neg (by omega), w32_of (x := 20 * q + y) (by omega) (by omega)]
      refine ⟨⟨by omega, by omega⟩, zif_i (fun c => ?_) (fun c => ?_)⟩
      · refine ⟨⟨by omega, by omega⟩, ?_⟩
        intro x2 e2
        have it := hi y y0 (by omega)
        rw [e2]
        refine M_stateOf q0 q1 hv it ?_
        intro x4 e4
        rw [w32_of (by omega) (by omega)] at e4
        rw [e4]
        refine ih f _ _ (y + 1) (by omega) (by omega) (by omega) ?_
        rcases iv with ⟨b1, b2⟩ | ⟨k', b0, b1, b2, b3, b4, b5⟩
        · by_cases z : mst m q (zd m 140 (20 * q + y)) = 1
          · refine Or.inl ⟨z, fun k k0 k1 => ?_⟩
            by_cases w : k = y
            · rw [w]; exact z
            · exact b2 k k0 (by omega)
          · exact Or.inr ⟨y, y0, by omega, rfl, rfl, z, b2⟩
        · exact absurd c b4
      · refine k a s ?_
        rcases iv with ⟨b1, b2⟩ | b
        · exact absurd b1 c
        · exact Or.inr b
  exact ⟨(zd m 141 q).toNat + 1, key (zd m 141 q).toNat _ 0 1 0 (by omega) (by omega) (by omega) (Or.inl ⟨rfl, fun k k0 k1 => by omega⟩)⟩
/-- the heaviest name that is open, below N; the first of equals -/
def hvy (o : Int → Prop) (w : Int → Int) (N b : Int) : Prop := (b = 0 ∧ ∀ n, 1 ≤ n → n < N → ¬ o n) ∨ ((1 ≤ b ∧ b < N) ∧ o b ∧ (∀ n, 1 ≤ n → n < b → o n → w n < w b) ∧ ∀ n, b < n → n < N → o n → w n ≤ w b)
theorem hvy_u {o o' : Int → Prop} {w w' : Int → Int} {N b b' : Int} (ho : ∀ n, 1 ≤ n → n < N → (o n ↔ o' n)) (hw : ∀ n, 1 ≤ n → n < N → w n = w' n) (h : hvy o w N b) (h' : hvy o' w' N b') : b = b' := by
  rcases h with ⟨a1, a2⟩ | ⟨⟨a1, a2⟩, a3, a4, a5⟩
  · rcases h' with ⟨c1, c2⟩ | ⟨⟨c1, c2⟩, c3, c4, c5⟩
    · omega
    · exact absurd ((ho b' c1 c2).mpr c3) (a2 b' c1 c2)
  · rcases h' with ⟨c1, c2⟩ | ⟨⟨c1, c2⟩, c3, c4, c5⟩
    · exact absurd ((ho b a1 a2).mp a3) (c2 b a1 a2)
    · have e1 := hw b a1 a2
      have e2 := hw b' c1 c2
      rcases Int.lt_trichotomy b b' with z | z | z
      · have x1 := a5 b' z c2 ((ho b' c1 c2).mpr c3)
        have x2 := c4 b a1 z ((ho b a1 a2).mp a3)
        omega
      · exact z
      · have x1 := a4 b' c1 z ((ho b' c1 c2).mpr c3)
        have x2 := c5 b z a2 ((ho b a1 a2).mp a3)
        omega
/-- one name more -/
theorem hvy_s {o : Int → Prop} {w : Int → Int} {N b : Int} (h1 : 1 ≤ N) (h : hvy o w N b) : (¬ o N → hvy o w (N + 1) b) ∧ (o N → b = 0 → hvy o w (N + 1) N) ∧ (o N → b ≠ 0 → w N ≤ w b → hvy o w (N + 1) b) ∧ (o N → b ≠ 0 → ¬ w N ≤ w b → hvy o w (N + 1) N) := by
  rcases h with ⟨a1, a2⟩ | ⟨⟨a1, a2⟩, a3, a4, a5⟩
  · refine ⟨fun q => Or.inl ⟨a1, fun n n0 n1 => ?_⟩, fun q _ => Or.inr ⟨⟨h1, by omega⟩, q, fun n n0 n1 n2 => absurd n2 (a2 n n0 n1), fun n n0 n1 _ => by omega⟩, fun _ q => absurd a1 q, fun _ q => absurd a1 q⟩
    by_cases c : n = N
    · rw [c]; exact q
    · exact a2 n n0 (by omega)
  · refine ⟨fun q => Or.inr ⟨⟨a1, by omega⟩, a3, a4, fun n n0 n1 n2 => ?_⟩, fun _ q => by omega, fun q _ q2 => Or.inr ⟨⟨a1, by omega⟩, a3, a4, fun n n0 n1 n2 => ?_⟩, fun q _ q2 => Or.inr ⟨⟨h1, by omega⟩, q, fun n n0 n1 n2 => ?_, fun n n0 n1 _ => by omega⟩⟩
    · by_cases c : n = N
      · rw [c] at n2; exact absurd n2 q
      · exact a5 n n0 (by omega) n2
    · by_cases c : n = N
      · rw [c]; exact q2
      · exact a5 n n0 (by omega) n2
    · rcases Int.lt_trichotomy n b with z | z | z
      · have := a4 n n0 z n2; omega
      · rw [z]; omega
      · have := a5 n z n1 n2; omega
theorem zcmp_le {x y : Int} : zcmp x y ≤ 0 ↔ x ≤ y := by unfold zcmp; split <;> (try split) <;> omega
theorem E_heaviest {e : Int} {h : zH} {Q : Int → zH → Prop} (hA0 : 0 ≤ zd h e 11) (hA : zd h e 11 ≤ 300) (k : ∀ b, hvy (fun n => zd h (e + 11) n = 0) (zd h (e + 15)) (zd h e 11 + 1) b → Q (if b = 0 then 0 else if zd h (e + 14) b = 1 then b else -b) h) : P_E_heaviest e h Q := by
  have key : ∀ (d f : Nat) (b y : Int) (K : Int → zH → Prop), y = zd h e 11 + 1 - d → 1 ≤ y → d < f → hvy (fun n => zd h (e + 11) n = 0) (zd h (e + 15)) y b → (∀ b, hvy (fun n => zd h (e + 11) n = 0) (zd h (e + 15)) (zd h e 11 + 1) b → K b h) → P_E_heaviest_L4 e Q K f b y h := by
    intro d
    induction d with
    | zero =>
      intro f b y K hy y0 hf iv kk
      obtain ⟨f, rfl⟩ : ∃ m, f = m + 1 := ⟨f - 1, by omega⟩
      unfold P_E_heaviest_L4
      rw [if_pos (by omega)]
      have ey : y = zd h e 11 + 1 := by omega
      rw [ey] at iv
      exact kk b iv
    | succ d ih =>
      intro f b y K hy y0 hf iv kk
      obtain ⟨f, rfl⟩ : ∃ m, f = m + 1 := ⟨f - 1, by omega⟩
      obtain ⟨s1, s2, s3, s4⟩ := hvy_s y0 iv
      unfold P_E_heaviest_L4 P_E_heaviest_J41 P_E_heaviest_J43
      rw [if_neg (by omega)]
      have st : w32 (y + 1) = y + 1 := w32_of (by omega) (by omega)
      have br : b ≠ 0 → 1 ≤ b ∧ b < y := by
        intro q
        rcases iv with ⟨a, _⟩ | ⟨a, _⟩
        · exact absurd a q
        · exact a
      refine ⟨⟨by omega, by omega⟩, zif_i (fun c => zif_i (fun c2 => ?_) (fun c2 => ⟨⟨by omega, by omega⟩, by have := br c2; omega, zif_i (fun c3 => ?_) (fun c3 => ?_)⟩)) (fun c => ?_)⟩
      · intro x2 e2
        rw [e2, st]
        exact ih f y (y + 1) K (by omega) (by omega) (by omega) (s2 c c2) kk
      · intro x2 e2
        rw [e2, st]
        exact ih f b (y + 1) K (by omega) (by omega) (by omega) (s3 c c2 (zcmp_le.mp c3)) kk
      · intro x2 e2
        rw [e2, st]
        exact ih f y (y + 1) K (by omega) (by omega) (by omega) (s4 c c2 (fun q => c3 (zcmp_le.mpr q))) kk
      · intro x2 e2
        rw [e2, st]
        exact ih f b (y + 1) K (by omega) (by omega) (by omega) (s1 c) kk
  unfold P_E_heaviest
  refine ⟨(zd h e 11).toNat + 1, key (zd h e 11).toNat _ 0 1 _ (by omega) (by omega) (by omega) (Or.inl ⟨rfl, fun n n0 n1 => by omega⟩) (fun b hb => ?_)⟩
  have br : b = 0 ∨ (1 ≤ b ∧ b < zd h e 11 + 1) := by
    rcases hb with ⟨a, _⟩ | ⟨a, _⟩
    · exact Or.inl a
    · exact Or.inr a
  refine ⟨zif_i (fun _ => trivial) (fun c => ⟨by omega, trivial⟩), ?_⟩
  rw [w32_of (x := -b) (by omega) (by omega)]
  exact k b hb
theorem M_heaviest {q A : Int} {m : zH} {Q : Int → zH → Prop} (q0 : 0 ≤ q) (q1 : q ≤ 1) (hA0 : 0 ≤ A) (hA : A ≤ 300) (hn : zd m 137 q = A) (hz : zd m 146 (301 * q) = 0) (k : ∀ b, hvy (fun n => zd m 143 (301 * q + n) = 2) (fun n => zd m 147 (301 * q + n)) (A + 1) b → Q (if b = 0 then 0 else if zd m 146 (301 * q + b) = 1 then b else -b) m) : P_M_heaviest q m Q := by
  have key : ∀ (d f : Nat) (b y : Int) (K : Int → zH → Prop), y = A + 1 - d → 1 ≤ y → d < f → hvy (fun n => zd m 143 (301 * q + n) = 2) (fun n => zd m 147 (301 * q + n)) y b → (∀ b, hvy (fun n => zd m 143 (301 * q + n) = 2) (fun n => zd m 147 (301 * q + n)) (A + 1) b → K b m) → P_M_heaviest_L4 q Q K f b y m := by
    intro d
    induction d with
    | zero =>
      intro f b y K hy y0 hf iv kk
      obtain ⟨f, rfl⟩ : ∃ m, f = m + 1 := ⟨f - 1, by omega⟩
      unfold P_M_heaviest_L4
      rw [hn, if_pos (by omega)]
      have ey : y = A + 1 := by omega
      rw [ey] at iv
      exact ⟨⟨by omega, by omega⟩, kk b iv⟩
    | succ d ih =>
      intro f b y K hy y0 hf iv kk
      obtain ⟨f, rfl⟩ : ∃ m, f = m + 1 := ⟨f - 1, by omega⟩
      obtain ⟨s1, s2, s3, s4⟩ := hvy_s y0 iv
      have br : b ≠ 0 → 1 ≤ b ∧ b < y := by
        intro q
        rcases iv with ⟨a, _⟩ | ⟨a, _⟩
        · exact absurd a q
        · exact a
      have br0 : 0 ≤ b ∧ b < y := by
        by_cases z : b = 0
        · omega
        · have := br z; omega
      unfold P_M_heaviest_L4 P_M_heaviest_J62 P_M_heaviest_J64
      simp only [w32_al, w32_ar, w32_sl, w32_sr, w32_ml, w32_mr]
      rw [hn, if_neg (by omega), w32_of (x := 301 * q + y) (by omega) (by omega), w32_of (x := 301 * q + b) (by omega) (by omega)]
      have st : w32 (y + 1) = y + 1 := w32_of (by omega) (by omega)
      refine ⟨⟨by omega, by omega⟩, ⟨by omega, by omega⟩, zif_i (fun c => zif_i (fun c2 => ?_) (fun c2 => ⟨⟨by omega, by omega⟩, ⟨by omega, by omega⟩, zif_i (fun c3 => ?_) (fun c3 => ?_)⟩)) (fun c => ?_)⟩
      · intro x2 e2
        rw [e2, st]
        exact ih f y (y + 1) K (by omega) (by omega) (by omega) (s2 c c2) kk
      · intro x2 e2
        rw [e2, st]
        exact ih f b (y + 1) K (by omega) (by omega) (by omega) (s3 c c2 (zcmp_le.mp c3)) kk
      · intro x2 e2
        rw [e2, st]
        exact ih f y (y + 1) K (by omega) (by omega) (by omega) (s4 c c2 (fun q => c3 (zcmp_le.mpr q))) kk
      · intro x2 e2
        rw [e2, st]
        exact ih f b (y + 1) K (by omega) (by omega) (by omega) (s1 c) kk
  unfold P_M_heaviest
  refine ⟨A.toNat + 1, key A.toNat _ 0 1 _ (by omega) (by omega) (by omega) (Or.inl ⟨rfl, fun n n0 n1 => by omega⟩) (fun b hb => ?_)⟩
  have br : b = 0 ∨ (1 ≤ b ∧ b < A + 1) := by
    rcases hb with ⟨a, _⟩ | ⟨a, _⟩
    · exact Or.inl a
    · exact Or.inr a
  simp only [w32_al, w32_ar, w32_sl, w32_sr, w32_ml, w32_mr]
  rw [w32_of (x := 301 * q + b) (by omega) (by omega), w32_of (x := -b) (by omega) (by omega)]
  refine ⟨⟨by omega, by omega⟩, ?_⟩
  have := k b hb
  by_cases z : b = 0
  · rw [if_pos z] at this
    rw [z, show 301 * q + 0 = 301 * q by omega, hz, if_neg (by decide)]; exact this
  · rw [if_neg z] at this; exact this
/-- both pick the same -/
theorem S_heaviest {e q b b' : Int} {h m : zH} (r2 : R2 e q h m) (r4 : R4 e q h m) (h1 : hvy (fun n => zd h (e + 11) n = 0) (zd h (e + 15)) (zd h e 11 + 1) b) (h2 : hvy (fun n => zd m 143 (301 * q + n) = 2) (fun n => zd m 147 (301 * q + n)) (zd h e 11 + 1) b') : b = b' ∧ (if b = 0 then (0 : Int) else if zd h (e + 14) b = 1 then b else -b) = (if b' = 0 then 0 else if zd m 146 (301 * q + b') = 1 then b' else -b') := by
  have eb := hvy_u (fun n n0 n1 => by
    have := r2.1 n n0 (by omega)
    unfold vrel at this
    constructor
    · intro z; show zd m 143 _ = 2; have : zd h (e + 11) n = 0 := z; omega
    · intro z; show zd h (e + 11) n = 0; have : zd m 143 (301 * q + n) = 2 := z; omega) (fun n n0 n1 => (r4.1 n n0 (by omega)).2.1) h1 h2
  refine ⟨eb, ?_⟩
  rw [← eb]
  by_cases z : b = 0
  · rw [if_pos z, if_pos z]
  · rw [if_neg z, if_neg z]
    have br : 1 ≤ b ∧ b ≤ zd h e 11 := by
      rcases h1 with ⟨a, _⟩ | ⟨a, _⟩
      · exact absurd a z
      · omega
    rw [(r4.1 b br.1 br.2).1]
