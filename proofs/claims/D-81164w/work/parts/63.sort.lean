/-! forgetting: by use, here -/
theorem E_ins {e n k x : Int} {h : zH} {Q : Int → zH → Prop} {K : Int → zH → Prop} (n1 : n < 800) (k0 : 0 ≤ k) (k1 : k < 800) (hO : ∀ j, 0 ≤ j → j < n → 0 ≤ zd h (e + 31) j ∧ zd h (e + 31) j < 800)
    (kk : ∀ y g, yA [e + 31] h g → (0 ≤ y ∧ y ≤ n) → (∀ j, zd g (e + 31) j = if y < j ∧ j ≤ n then zd h (e + 31) (j - 1) else zd h (e + 31) j) → (∀ j, y ≤ j → j < n → zd h (e + 20) k < zd h (e + 20) (zd h (e + 31) j)) → (y = 0 ∨ zd h (e + 20) (zd h (e + 31) (y - 1)) ≤ zd h (e + 20) k) → K y g) : ∀ (d f : Nat) (y : Int) (g : zH), y = d → d < f → y ≤ n → yA [e + 31] h g → (∀ j, zd g (e + 31) j = if y < j ∧ j ≤ n then zd h (e + 31) (j - 1) else zd h (e + 31) j) → (∀ j, y ≤ j → j < n → zd h (e + 20) k < zd h (e + 20) (zd h (e + 31) j)) → P_E_forgets_L76 e x k Q K f y g := by
  intro d
  induction d with
  | zero =>
    intro f y g hy hf yn gA iv iu
    obtain ⟨f, rfl⟩ : ∃ m, f = m + 1 := ⟨f - 1, by omega⟩
    unfold P_E_forgets_L76
    rw [if_pos (by omega)]
    exact kk y g gA (by omega) iv iu (Or.inl (by omega))
  | succ d ih =>
    intro f y g hy hf yn gA iv iu
    obtain ⟨f, rfl⟩ : ∃ m, f = m + 1 := ⟨f - 1, by omega⟩
    have oy := hO (y - 1) (by omega) (by omega)
    unfold P_E_forgets_L76
    rw [if_neg (by omega), w32_of (x := y - 1) (by omega) (by omega), gA.f (b := e + 20) (by simp only [List.mem_cons, List.not_mem_nil, or_false]; omega), iv (y - 1), if_neg (show ¬ (y < y - 1 ∧ y - 1 ≤ n) by omega)]
    refine ⟨⟨by omega, by omega⟩, ⟨by omega, by omega⟩, ⟨by omega, by omega⟩, zif_i (fun c => ?_) (fun c => ⟨⟨by omega, by omega⟩, ⟨by omega, by omega⟩, ?_⟩)⟩
    · exact kk y g gA (by omega) iv iu (Or.inr c)
    · intro h6 e6 x4 e4
      rw [show w32 (y + -1) = y - 1 from by rw [w32_of (by omega) (by omega)]; omega] at e4
      rw [e4, e6]
      refine ih f (y - 1) _ (by omega) (by omega) (by omega) (gA.w (by simp)) (fun j => ?_) (fun j j0 j1 => ?_)
      · by_cases z : j = y
        · rw [z, zd_s, if_pos (by omega)]
        · rw [zd_i z, iv j]
          by_cases w : y < j ∧ j ≤ n
          · rw [if_pos w, if_pos (by omega)]
          · rw [if_neg w, if_neg (by omega)]
      · by_cases z : j = y - 1
        · rw [z]; omega
        · exact iu j (by omega) j1
def emay (e : Int) (h : zH) (k : Int) : Prop := zd h (e + 5) (564 + k) ≠ 0 ∧ 2 < zd h (e + 2) (564 + k) ∧ ¬ ersn e h (564 + k)
def lex (u : Int → Int) (a b : Int) : Prop := u a < u b ∨ (u a = u b ∧ a < b)
/-- a list of all that may go, in order -/
def OS (may : Int → Prop) (u O : Int → Int) (n k : Int) : Prop := (0 ≤ n ∧ n ≤ k) ∧ (∀ i, 0 ≤ i → i < n → (0 ≤ O i ∧ O i < k) ∧ may (O i)) ∧ (∀ i j, 0 ≤ i → i < j → j < n → lex u (O i) (O j)) ∧ ∀ k', 0 ≤ k' → k' < k → may k' → ∃ i, 0 ≤ i ∧ i < n ∧ O i = k'
theorem OS_no {may : Int → Prop} {u O : Int → Int} {n k : Int} (p : OS may u O n k) (no : ¬ may k) : OS may u O n (k + 1) := by
  obtain ⟨p1, p2, p3, p4⟩ := p
  refine ⟨by omega, fun i i0 i1 => ⟨by have := (p2 i i0 i1).1; omega, (p2 i i0 i1).2⟩, p3, fun k' k0 k1 k2 => ?_⟩
  by_cases c : k' = k
  · rw [c] at k2; exact absurd k2 no
  · exact p4 k' k0 (by omega) k2
theorem OS_ins {may : Int → Prop} {u O O' : Int → Int} {n k y : Int} (p : OS may u O n k) (yes : may k) (k0 : 0 ≤ k) (y0 : 0 ≤ y) (y1 : y ≤ n) (hO : ∀ j, 0 ≤ j → j ≤ n → O' j = if j = y then k else if y < j then O (j - 1) else O j) (hu : ∀ j, y ≤ j → j < n → u k < u (O j)) (hl : y = 0 ∨ u (O (y - 1)) ≤ u k) : OS may u O' (n + 1) (k + 1) := by
  obtain ⟨p1, p2, p3, p4⟩ := p
  refine ⟨by omega, fun i i0 i1 => ?_, fun i j i0 i1 i2 => ?_, fun k' q0 q1 q2 => ?_⟩
  · rw [hO i i0 (by omega)]
    by_cases c : i = y
    · rw [if_pos c]; exact ⟨by omega, yes⟩
    · rw [if_neg c]
      by_cases d : y < i
      · rw [if_pos d]; have := p2 (i - 1) (by omega) (by omega); exact ⟨by omega, this.2⟩
      · rw [if_neg d]; have := p2 i i0 (by omega); exact ⟨by omega, this.2⟩
  · have low : ∀ a, 0 ≤ a → a < y → lex u (O a) k := by
      intro a a0 a1
      have ak := (p2 a a0 (by omega)).1
      rcases hl with z | z
      · omega
      · have : u (O a) ≤ u (O (y - 1)) := by
          by_cases w : a = y - 1
          · rw [w]; exact Int.le_refl _
          · rcases p3 a (y - 1) a0 (by omega) (by omega) with v | v
            · omega
            · omega
        rcases Int.lt_or_le (u (O a)) (u k) with v | v
        · exact Or.inl v
        · exact Or.inr ⟨by omega, by omega⟩
    rw [hO i i0 (by omega), hO j (by omega) (by omega)]
    by_cases c : i = y
    · rw [if_pos c, if_neg (by omega), if_pos (by omega)]
      exact Or.inl (hu (j - 1) (by omega) (by omega))
    · rw [if_neg c]
      by_cases d : y < i
      · rw [if_pos d, if_neg (by omega), if_pos (by omega)]
        exact p3 (i - 1) (j - 1) (by omega) (by omega) (by omega)
      · rw [if_neg d]
        by_cases c2 : j = y
        · rw [if_pos c2]; exact low i i0 (by omega)
        · rw [if_neg c2]
          by_cases d2 : y < j
          · rw [if_pos d2]
            by_cases w : i = j - 1
            · omega
            · exact p3 i (j - 1) i0 (by omega) (by omega)
          · rw [if_neg d2]; exact p3 i j i0 i1 (by omega)
  · by_cases c : k' = k
    · exact ⟨y, y0, by omega, by rw [hO y y0 y1, if_pos rfl, c]⟩
    · obtain ⟨i, i0, i1, i2⟩ := p4 k' q0 (by omega) q2
      by_cases d : i < y
      · exact ⟨i, i0, by omega, by rw [hO i i0 (by omega), if_neg (by omega), if_neg (by omega)]; exact i2⟩
      · exact ⟨i + 1, by omega, by omega, by rw [hO (i + 1) (by omega) (by omega), if_neg (by omega), if_pos (by omega), show i + 1 - 1 = i by omega]; exact i2⟩
theorem E_sort {e top : Int} {h : zH} {Q : Int → zH → Prop} {K : Int → zH → Prop} (hs : ES e h top) (r0 : 0 ≤ zd h e 25) (r1 : zd h e 25 ≤ 800) (kk : ∀ n g, yA [e + 31] h g → OS (emay e h) (zd h (e + 20)) (zd g (e + 31)) n (zd h e 25) → K n g) : ∀ (d f : Nat) (n y : Int) (g : zH), y = zd h e 25 - d → 0 ≤ y → d < f → yA [e + 31] h g → OS (emay e h) (zd h (e + 20)) (zd g (e + 31)) n y → P_E_forgets_L29 e Q K f n y g := by
  intro d
  induction d with
  | zero =>
    intro f n y g hy y0 hf gA os
    obtain ⟨f, rfl⟩ : ∃ m, f = m + 1 := ⟨f - 1, by omega⟩
    unfold P_E_forgets_L29
    rw [gA.f (b := e) (by simp only [List.mem_cons, List.not_mem_nil, or_false]; omega), if_pos (by omega)]
    rw [show y = zd h e 25 by omega] at os
    exact kk n g gA os
  | succ d ih =>
    intro f n y g hy y0 hf gA os
    obtain ⟨f, rfl⟩ : ∃ m, f = m + 1 := ⟨f - 1, by omega⟩
    have gk : ∀ b, b ≠ e + 31 → zd g b = zd h b := fun b hb => gA.f (by simp only [List.mem_cons, List.not_mem_nil, or_false]; exact hb)
    have st : w32 (y + 1) = y + 1 := w32_of (by omega) (by omega)
    have hsg : ES e g top := hs.cg (by rw [gk e (by omega)]) (by rw [gk e (by omega)]) (gk _ (by omega)) (gk _ (by omega)) (gk _ (by omega)) (gk _ (by omega)) (gk _ (by omega)) (gk _ (by omega)) (gk _ (by omega))
    have no : ¬ emay e h y → P_E_forgets_J134 e n y g Q (P_E_forgets_L29 e Q K f) := by
      intro q
      unfold P_E_forgets_J134
      intro x2 e2
      rw [e2, st]
      exact ih f n (y + 1) g (by omega) (by omega) (by omega) gA (OS_no os q)
    unfold P_E_forgets_L29
    rw [gk e (by omega), if_neg (by omega)]
    intro x3 e3
    rw [w32_of (by omega) (by omega)] at e3
    rw [e3, gk (e + 5) (by omega), gk (e + 2) (by omega)]
    refine ⟨⟨by omega, by omega⟩, zif_i (fun c => no (fun p => p.1 c)) (fun c => ⟨⟨by omega, by omega⟩, zif_i (fun c2 => no (fun p => by have := p.2.1; omega)) (fun c2 => ?_)⟩)⟩
    have th : zd h (e + 5) (564 + y) = 1 := (hs.2.2.2.2.2.2 (564 + y) (by omega) (by omega)).resolve_left c
    have er : ersn e g (564 + y) ↔ ersn e h (564 + y) := by unfold ersn; rw [gk (e + 1) (by omega), gk (e + 2) (by omega), gk (e + 7) (by omega), gk (e + 11) (by omega), gk (e + 13) (by omega)]
    refine E_isReason hsg (Or.inl ⟨by omega, by omega, by rw [gk (e + 5) (by omega)]; exact th⟩) (fun r hr => ?_)
    rcases hr with ⟨r1', rr⟩ | ⟨r1', rr⟩
    · rw [r1', if_neg (by decide)]
      exact no (fun p => p.2.2 (er.mp rr))
    · rw [r1', if_pos rfl]
      have yes : emay e h y := ⟨c, by omega, fun w => rr (er.mpr w)⟩
      obtain ⟨o1, o2, o3, o4⟩ := id os
      rw [w32_of (x := n + 1) (by omega) (by omega)]
      intro x1 e1
      refine ⟨n.toNat + 1, E_ins (n := n) (k := y) (h := g) (by omega) y0 (by omega) (fun j j0 j1 => by have := (o2 j j0 j1).1; omega) (fun at' g2 gA2 a1 a2 a3 a4 => ?_) n.toNat _ n g (by omega) (by omega) (Int.le_refl _) (yA.rf _ _) (fun j => by rw [if_neg (by omega)]) (fun j j0 j1 => by omega)⟩
      unfold P_E_forgets_J126 P_E_forgets_J134
      refine ⟨⟨by omega, by omega⟩, ?_⟩
      intro h9 e9 x2 e2
      rw [e2, st, e1]
      rw [gk (e + 20) (by omega)] at a3 a4
      refine ih f (n + 1) (y + 1) h9 (by omega) (by omega) (by omega) (by rw [e9]; exact (gA.tr gA2).w (by simp)) (OS_ins os yes y0 a1.1 a1.2 (fun j j0 j1 => ?_) a3 a4)
      rw [e9]
      by_cases z : j = at'
      · rw [if_pos z, z, zd_s]
      · rw [if_neg z, zd_i z, a2 j]
        by_cases w : at' < j
        · rw [if_pos w, if_pos (by omega)]
        · rw [if_neg w, if_neg (by omega)]
