/-! an engine's rows: lists by items, counts, hot bits -/
/-- the greatest place below n that holds x; -1005 -/
def zpv (f : Int → Int) (x : Int) : Nat → Int
  | 0 => -1005
  | n + 1 => if f (n : Int) = x then (n : Int) else zpv f x n
/-- how many of the n places from a on hold v -/
def zct (f : Int → Int) (v a : Int) : Nat → Int
  | 0 => 0
  | n + 1 => zct f v a n + if f (a + (n : Int)) = v then 1 else 0
/-- how many places below n hold x in f and s in g -/
def zc2 (f g : Int → Int) (x s : Int) : Nat → Int
  | 0 => 0
  | n + 1 => zc2 f g x s n + if f (n : Int) = x ∧ g (n : Int) = s then 1 else 0
theorem zct_le (f : Int → Int) (v a : Int) (n : Nat) : 0 ≤ zct f v a n ∧ zct f v a n ≤ n := by
  induction n with
  | zero => exact ⟨Int.le_refl _, Int.le_refl _⟩
  | succ n ih => unfold zct; split <;> omega
theorem zc2_le (f g : Int → Int) (x s : Int) (n : Nat) : 0 ≤ zc2 f g x s n ∧ zc2 f g x s n ≤ n := by
  induction n with
  | zero => exact ⟨Int.le_refl _, Int.le_refl _⟩
  | succ n ih => unfold zc2; split <;> omega
theorem zct_congr {f g : Int → Int} {v u a : Int} {n : Nat} (h : ∀ i, a ≤ i → i < a + n → (f i = v ↔ g i = u)) : zct f v a n = zct g u a n := by
  induction n with
  | zero => rfl
  | succ n ih =>
    unfold zct
    rw [ih (fun i h1 h2 => h i h1 (by omega))]
    have := h (a + n) (by omega) (by omega)
    by_cases c : f (a + (n : Int)) = v
    · rw [if_pos c, if_pos (this.mp c)]
    · rw [if_neg c, if_neg (by exact fun q => c (this.mpr q))]
/-- none -/
theorem zct_0 {f : Int → Int} {v a : Int} {n : Nat} : zct f v a n = 0 ↔ ∀ i, a ≤ i → i < a + n → f i ≠ v := by
  induction n with
  | zero => exact ⟨fun _ i h1 h2 => by omega, fun _ => rfl⟩
  | succ n ih =>
    have p := zct_le f v a n
    unfold zct
    constructor
    · intro q i h1 h2
      by_cases c : f (a + (n : Int)) = v
      · rw [if_pos c] at q; omega
      · rw [if_neg c] at q
        by_cases d : i = a + n
        · rw [d]; exact c
        · exact ih.mp (by omega) i h1 (by omega)
    · intro q
      rw [if_neg (q (a + n) (by omega) (by omega)), ih.mpr (fun i h1 h2 => q i h1 (by omega))]; rfl
/-- all -/
theorem zct_all {f : Int → Int} {v a : Int} {n : Nat} : zct f v a n = n ↔ ∀ i, a ≤ i → i < a + n → f i = v := by
  induction n with
  | zero => exact ⟨fun _ i h1 h2 => by omega, fun _ => rfl⟩
  | succ n ih =>
    have p := zct_le f v a n
    unfold zct
    constructor
    · intro q i h1 h2
      by_cases c : f (a + (n : Int)) = v
      · rw [if_pos c] at q
        by_cases d : i = a + n
        · rw [d]; exact c
        · exact ih.mp (by omega) i h1 (by omega)
      · rw [if_neg c] at q; omega
    · intro q
      rw [if_pos (q (a + n) (by omega) (by omega)), ih.mpr (fun i h1 h2 => q i h1 (by omega))]; omega
/-- two counts of one row do not pass it -/
theorem zct_two {f : Int → Int} {v u a : Int} {n : Nat} (h : v ≠ u) : zct f v a n + zct f u a n ≤ n := by
  induction n with
  | zero => exact Int.le_refl _
  | succ n ih =>
    unfold zct
    by_cases c : f (a + (n : Int)) = v
    · rw [if_pos c, if_neg (by exact fun q => h (c.symm.trans q))]; omega
    · rw [if_neg c]; split <;> omega
/-- all but one -/
theorem zct_but {f : Int → Int} {v a : Int} {n : Nat} (h : zct f v a n = n - 1) (hn : 0 < n) : ∃ i, a ≤ i ∧ i < a + n ∧ f i ≠ v ∧ ∀ j, a ≤ j → j < a + n → j ≠ i → f j = v := by
  induction n with
  | zero => omega
  | succ n ih =>
    have p := zct_le f v a n
    unfold zct at h
    by_cases c : f (a + (n : Int)) = v
    · rw [if_pos c] at h
      obtain ⟨i, h1, h2, h3, h4⟩ := ih (by omega) (by omega)
      refine ⟨i, h1, by omega, h3, fun j q1 q2 q3 => ?_⟩
      by_cases d : j = a + n
      · rw [d]; exact c
      · exact h4 j q1 (by omega) q3
    · rw [if_neg c] at h
      have al := (zct_all (n := n) (f := f) (v := v) (a := a)).mp (by omega)
      exact ⟨a + n, by omega, by omega, c, fun j q1 q2 q3 => al j q1 (by omega)⟩
theorem zct_but' {f : Int → Int} {v a i : Int} {n : Nat} (h1 : a ≤ i) (h2 : i < a + n) (h3 : f i ≠ v) (h4 : ∀ j, a ≤ j → j < a + n → j ≠ i → f j = v) : zct f v a n = n - 1 := by
  induction n with
  | zero => omega
  | succ n ih =>
    unfold zct
    by_cases c : i = a + n
    · rw [if_neg (by rw [← c]; exact h3)]
      have := (zct_all (f := f) (v := v) (a := a) (n := n)).mpr (fun j q1 q2 => h4 j q1 (by omega) (by omega))
      omega
    · rw [if_pos (h4 (a + n) (by omega) (by omega) (by omega)), ih (by omega) (fun j q1 q2 q3 => h4 j q1 (by omega) q3)]; omega
/-- a row's own items among all -/
theorem zc2_row {f : Int → Int} {x s a : Int} {n : Nat} (ha : 0 ≤ a) : ∀ (g : Int → Int) (m : Nat), a + n ≤ m → (∀ c : Nat, c < m → (g c = s ↔ a ≤ c ∧ (c : Int) < a + n)) → zc2 f g x s m = zct f x a n := by
  induction n with
  | zero =>
    intro g m hm hg
    induction m with
    | zero => rfl
    | succ m ih =>
      unfold zc2
      rw [if_neg (by exact fun q => by have := (hg m (by omega)).mp q.2; omega)]
      by_cases c : a ≤ m
      · rw [ih (by omega) (fun c hc => hg c (by omega))]; rfl
      · have z : ∀ k : Nat, k ≤ m → zc2 f g x s k = 0 := by
          intro k hk
          induction k with
          | zero => rfl
          | succ k ih2 =>
            unfold zc2
            rw [if_neg (by exact fun q => by have := (hg k (by omega)).mp q.2; omega), ih2 (by omega)]; rfl
        rw [z m (by omega)]; rfl
  | succ n ihn =>
    intro g m
    induction m with
    | zero => intro hm; omega
    | succ m ih =>
      intro hm hg
      by_cases c : a + (n + 1 : Nat) ≤ m
      · unfold zc2
        rw [if_neg (by exact fun q => by have := (hg m (by omega)).mp q.2; omega), ih c (fun c hc => hg c (by omega))]; omega
      · have em : (m : Int) = a + n := by omega
        have key : ∀ k : Nat, k ≤ m → zc2 f g x s k = zc2 f (fun i => if i = m then s + 1 else g i) x s k := by
          intro k hk
          induction k with
          | zero => rfl
          | succ k ih2 =>
            unfold zc2
            have : ¬ (k : Int) = m := by omega
            simp only [if_neg this]
            rw [ih2 (by omega)]
        have r := ihn (fun i => if i = m then s + 1 else g i) m (by omega) (fun c hc => by
          have : ¬ (c : Int) = m := by omega
          simp only [if_neg this]
          rw [hg c (by omega)]; omega)
        unfold zc2 zct
        rw [key m (by omega), r, em]
        have gm := (hg m (by omega)).mpr ⟨by omega, by omega⟩
        rw [em] at gm
        by_cases d : f (a + (n : Int)) = x
        · rw [if_pos ⟨d, gm⟩, if_pos d]
        · rw [if_neg (by exact fun q => d q.1), if_neg d]
/-- hot bits -/
def hotok (e : Int) (h : zH) (s : Int) : Prop := hb (zd h (e + 6) (s / 64)) (s % 64).toNat = true ↔ s < 1364 ∧ zd h (e + 5) s ≠ 0 ∧ zd h (e + 4) s = 0 ∧ zd h (e + 2) s - 1 ≤ zd h (e + 3) s
def EH (e : Int) (h : zH) : Prop := (∀ s, 0 ≤ s → s < 1408 → hotok e h s) ∧ (∀ w, r64 (zd h (e + 6) w)) ∧ ∀ s, 0 ≤ s → s < 1364 → -2147483647 ≤ zd h (e + 2) s ∧ zd h (e + 2) s ≤ 2147483647
theorem L_look {e s : Int} {h : zH} {Q : Int → zH → Prop} (h0 : 0 ≤ s) (h1 : s < 1364) (hh : ∀ t, 0 ≤ t → t < 1408 → t ≠ s → hotok e h t) (hr : ∀ w, r64 (zd h (e + 6) w)) (hz : ∀ t, 0 ≤ t → t < 1364 → -2147483647 ≤ zd h (e + 2) t ∧ zd h (e + 2) t ≤ 2147483647)
    (hq : ∀ v, EH e (zw h (e + 6) (s / 64) v) → Q 0 (zw h (e + 6) (s / 64) v)) : P_E_look e s h Q := by
  have z1 := hz s h0 h1
  unfold P_E_look P_E_look_J40
  rw [zshr6 h0 h1, zand63 h0 h1, w32_of (x := zd h (e + 2) s - 1) (by omega) (by omega)]
  generalize hs0 : (if zd h (e + 5) s = 0 then (0 : Int) else if zd h (e + 4) s = 0 then if zd h (e + 3) s < zd h (e + 2) s - 1 then 0 else 1 else 0) = z0
  have hz0 : (z0 = 0 → ¬ (zd h (e + 5) s ≠ 0 ∧ zd h (e + 4) s = 0 ∧ zd h (e + 2) s - 1 ≤ zd h (e + 3) s)) ∧ (z0 ≠ 0 → (zd h (e + 5) s ≠ 0 ∧ zd h (e + 4) s = 0 ∧ zd h (e + 2) s - 1 ≤ zd h (e + 3) s)) := by
    rw [← hs0]
    constructor <;> intro q <;> split at q <;> (try split at q) <;> (try split at q) <;> omega
  refine ⟨⟨h0, h1⟩, ?_, ?_⟩
  · exact zif_i (fun _ => trivial) (fun _ => ⟨⟨h0, h1⟩, zif_i (fun _ => ⟨⟨h0, h1⟩, ⟨h0, h1⟩, trivial⟩) (fun _ => trivial)⟩)
  · intro x3 e3
    have w1 : (0 : Int) ≤ s / 64 ∧ s / 64 < 22 := by omega
    refine ⟨zif_i (fun _ => ⟨w1, trivial⟩) (fun _ => ⟨w1, trivial⟩), w1, ?_⟩
    intro h2 e2
    rw [e2]
    have key : ∀ t, 0 ≤ t → t < 1408 → t ≠ s → t / 64 = s / 64 → (t % 64).toNat ≠ (s % 64).toNat := by intro t _ _ _ _; omega
    have m1 : (s % 64).toNat < 64 := by omega
    have bit : ∀ k, k < 64 → hb x3 k = decide ((k : Int) = s % 64) := by intro k hk; rw [e3]; exact hb_one (by omega) (by omega) hk
    refine hq _ ⟨?_, ?_, ?_⟩
    · intro t t0 t1
      unfold hotok
      rw [zd_a (b := e + 5) (by omega), zd_a (b := e + 4) (by omega), zd_a (b := e + 2) (by omega), zd_a (b := e + 3) (by omega)]
      by_cases c : t / 64 = s / 64
      · rw [c, zd_s]
        have m2 : (t % 64).toNat < 64 := by omega
        by_cases d : t = s
        · rw [d]
          have b1 : hb x3 (s % 64).toNat = true := by rw [bit _ m1]; simp only [decide_eq_true_eq]; omega
          by_cases cz : z0 = 0
          · rw [if_pos cz, hb_and, hb_not m1, b1]
            simp only [Bool.not_true, Bool.and_false, Bool.false_eq_true, false_iff]
            intro q; exact hz0.1 cz q.2
          · rw [if_neg cz, hb_or, b1]
            simp only [Bool.or_true, true_iff]
            exact ⟨h1, hz0.2 cz⟩
        · have nb : hb x3 (t % 64).toNat = false := by rw [bit _ m2]; simp only [decide_eq_false_iff_not]; have := key t t0 t1 d c; omega
          have old := hh t t0 t1 d
          unfold hotok at old
          rw [c] at old
          refine Iff.trans ?_ old
          refine iff_of_eq (congrArg (· = true) ?_)
          by_cases cz : z0 = 0
          · rw [if_pos cz, hb_and, hb_not m2, nb]; simp
          · rw [if_neg cz, hb_or, nb]; simp
      · rw [zd_i c]
        exact hh t t0 t1 (fun q => c (by rw [q]))
    · intro w
      by_cases c : w = s / 64
      · rw [c, zd_s]
        by_cases cz : z0 = 0
        · rw [if_pos cz]; exact r64_of _
        · rw [if_neg cz]; exact r64_of _
      · rw [zd_i c]; exact hr w
    · intro t t0 t1
      rw [zd_a (by omega)]; exact hz t t0 t1
/-- a walk over the list of an item -/
theorem L_set1 {e y1 y2 y3 : Int} {Q : Int → zH → Prop} {k : zH → Prop} {F G N : Int → Int} {x : Int} {B : Nat} (hB : B ≤ 12080)
    (hN : ∀ c : Nat, c < B → F c = x → N c = zpv F x c) (hG : ∀ c : Nat, c < B → 0 ≤ G c ∧ G c < 1364) :
    ∀ (b n : Nat), b ≤ B → b < n → ∀ h : zH, zd h (e + 7) = F → zd h (e + 8) = G → zd h (e + 9) = N → EH e h →
      (∀ c : Nat, c < B → -40000 ≤ zd h (e + 4) (G c) - b ∧ zd h (e + 4) (G c) + b ≤ 40000) →
      (∀ h', yA [e + 4, e + 6] h h' → (∀ s, zd h' (e + 4) s = zd h (e + 4) s + zc2 F G x s b) → EH e h' → k h') →
      P_E_set_L66 e y1 y2 y3 Q k n (zpv F x b) h := by
  intro b
  induction b with
  | zero =>
    intro n _ hn h _ _ _ hh _ hk
    obtain ⟨n, rfl⟩ : ∃ m, n = m + 1 := ⟨n - 1, by omega⟩
    show P_E_set_L66 e y1 y2 y3 Q k (n + 1) (-1005) h
    unfold P_E_set_L66
    rw [if_pos rfl]
    exact hk h (yA.rf _ _) (fun s => by show _ = _ + 0; omega) hh
  | succ b ih =>
    intro n hb hn h hF hG' hN' hh ht hk
    by_cases c : F (b : Int) = x
    · have e1 : zpv F x (b + 1) = (b : Int) := by show (if F (b : Int) = x then (b : Int) else zpv F x b) = _; rw [if_pos c]
      rw [e1]
      obtain ⟨n, rfl⟩ : ∃ m, n = m + 1 := ⟨n - 1, by omega⟩
      unfold P_E_set_L66
      rw [if_neg (by omega), hG']
      have g := hG b (by omega)
      have tb := ht b (by omega)
      refine ⟨⟨by omega, by omega⟩, g, g, ?_⟩
      intro h10 e10
      rw [w32_of (by omega) (by omega)] at e10
      refine ⟨⟨by omega, by omega⟩, ?_⟩
      have hG2 : zd h10 (e + 8) = G := by rw [e10, ← hG']; funext j; exact zd_a (by omega)
      have hF2 : zd h10 (e + 7) = F := by rw [e10, ← hF]; funext j; exact zd_a (by omega)
      have hN2 : zd h10 (e + 9) = N := by rw [e10, ← hN']; funext j; exact zd_a (by omega)
      rw [hG2]
      refine L_look g.1 g.2 ?_ ?_ ?_ (fun v hh2 => ?_)
      · intro t t0 t1 tn
        have := hh.1 t t0 t1
        unfold hotok at this ⊢
        rw [e10, zd_a (b := e + 6) (by omega), zd_a (b := e + 5) (by omega), zd_i (b := e + 4) tn, zd_a (b := e + 3) (by omega), zd_a (b := e + 2) (by omega)]
        exact this
      · intro w; rw [e10, zd_a (by omega)]; exact hh.2.1 w
      · intro t t0 t1; rw [e10, zd_a (by omega)]; exact hh.2.2 t t0 t1
      · refine ⟨⟨by omega, by omega⟩, ?_⟩
        intro x4 ex4
        have ex4 : x4 = zpv F x b := by rw [ex4, zd_a (by omega), hN2]; exact hN b (by omega) c
        rw [ex4]
        refine ih n (by omega) (by omega) _ ?_ ?_ ?_ hh2 ?_ ?_
        · rw [← hF2]; funext j; exact zd_a (by omega)
        · rw [← hG2]; funext j; exact zd_a (by omega)
        · rw [← hN2]; funext j; exact zd_a (by omega)
        · intro c' hc'
          have := ht c' hc'
          rw [zd_a (by omega), e10]
          by_cases d : G (c' : Int) = G (b : Int)
          · rw [d, zd_s]; rw [d] at this; omega
          · rw [zd_i d]; omega
        · intro h' p1 p2 p3
          refine hk h' ?_ ?_ p3
          · have q1 : yA [e + 4, e + 6] h h10 := by rw [e10]; exact (yA.rf _ h).w (by simp)
            exact (q1.w (by simp)).tr p1
          · intro s
            rw [p2 s, zd_a (by omega), e10]
            show _ = _ + (zc2 F G x s b + if F (b : Int) = x ∧ G (b : Int) = s then 1 else 0)
            by_cases d : G (b : Int) = s
            · rw [d, zd_s, if_pos ⟨c, rfl⟩]; omega
            · rw [zd_i (fun q => d q.symm), if_neg (by exact fun q => d q.2)]; omega
    · have e1 : zpv F x (b + 1) = zpv F x b := by show (if F (b : Int) = x then (b : Int) else zpv F x b) = _; rw [if_neg c]
      rw [e1]
      refine ih n (by omega) (by omega) h hF hG' hN' hh (fun c' hc' => by have := ht c' hc'; omega) (fun h' p1 p2 p3 => hk h' p1 (fun s => ?_) p3)
      rw [p2 s]
      show _ = _ + (zc2 F G x s b + if F (b : Int) = x ∧ G (b : Int) = s then 1 else 0)
      rw [if_neg (by exact fun q => c q.1)]; omega
/-- a walk over the list of an item -/
theorem L_set2 {e y2 y3 : Int} {Q : Int → zH → Prop} {k : zH → Prop} {F G N : Int → Int} {x : Int} {B : Nat} (hB : B ≤ 12080)
    (hN : ∀ c : Nat, c < B → F c = x → N c = zpv F x c) (hG : ∀ c : Nat, c < B → 0 ≤ G c ∧ G c < 1364) :
    ∀ (b n : Nat), b ≤ B → b < n → ∀ h : zH, zd h (e + 7) = F → zd h (e + 8) = G → zd h (e + 9) = N → EH e h →
      (∀ c : Nat, c < B → -40000 ≤ zd h (e + 3) (G c) - b ∧ zd h (e + 3) (G c) + b ≤ 40000) →
      (∀ h', yA [e + 3, e + 6] h h' → (∀ s, zd h' (e + 3) s = zd h (e + 3) s + zc2 F G x s b) → EH e h' → k h') →
      P_E_set_L126 e y2 y3 Q k n (zpv F x b) h := by
  intro b
  induction b with
  | zero =>
    intro n _ hn h _ _ _ hh _ hk
    obtain ⟨n, rfl⟩ : ∃ m, n = m + 1 := ⟨n - 1, by omega⟩
    show P_E_set_L126 e y2 y3 Q k (n + 1) (-1005) h
    unfold P_E_set_L126
    rw [if_pos rfl]
    exact hk h (yA.rf _ _) (fun s => by show _ = _ + 0; omega) hh
  | succ b ih =>
    intro n hb hn h hF hG' hN' hh ht hk
    by_cases c : F (b : Int) = x
    · have e1 : zpv F x (b + 1) = (b : Int) := by show (if F (b : Int) = x then (b : Int) else zpv F x b) = _; rw [if_pos c]
      rw [e1]
      obtain ⟨n, rfl⟩ : ∃ m, n = m + 1 := ⟨n - 1, by omega⟩
      unfold P_E_set_L126
      rw [if_neg (by omega), hG']
      have g := hG b (by omega)
      have tb := ht b (by omega)
      refine ⟨⟨by omega, by omega⟩, g, g, ?_⟩
      intro h10 e10
      rw [w32_of (by omega) (by omega)] at e10
      refine ⟨⟨by omega, by omega⟩, ?_⟩
      have hG2 : zd h10 (e + 8) = G := by rw [e10, ← hG']; funext j; exact zd_a (by omega)
      have hF2 : zd h10 (e + 7) = F := by rw [e10, ← hF]; funext j; exact zd_a (by omega)
      have hN2 : zd h10 (e + 9) = N := by rw [e10, ← hN']; funext j; exact zd_a (by omega)
      rw [hG2]
      refine L_look g.1 g.2 ?_ ?_ ?_ (fun v hh2 => ?_)
      · intro t t0 t1 tn
        have := hh.1 t t0 t1
        unfold hotok at this ⊢
        rw [e10, zd_a (b := e + 6) (by omega), zd_a (b := e + 5) (by omega), zd_i (b := e + 3) tn, zd_a (b := e + 4) (by omega), zd_a (b := e + 2) (by omega)]
        exact this
      · intro w; rw [e10, zd_a (by omega)]; exact hh.2.1 w
      · intro t t0 t1; rw [e10, zd_a (by omega)]; exact hh.2.2 t t0 t1
      · refine ⟨⟨by omega, by omega⟩, ?_⟩
        intro x4 ex4
        have ex4 : x4 = zpv F x b := by rw [ex4, zd_a (by omega), hN2]; exact hN b (by omega) c
        rw [ex4]
        refine ih n (by omega) (by omega) _ ?_ ?_ ?_ hh2 ?_ ?_
        · rw [← hF2]; funext j; exact zd_a (by omega)
        · rw [← hG2]; funext j; exact zd_a (by omega)
        · rw [← hN2]; funext j; exact zd_a (by omega)
        · intro c' hc'
          have := ht c' hc'
          rw [zd_a (by omega), e10]
          by_cases d : G (c' : Int) = G (b : Int)
          · rw [d, zd_s]; rw [d] at this; omega
          · rw [zd_i d]; omega
        · intro h' p1 p2 p3
          refine hk h' ?_ ?_ p3
          · have q1 : yA [e + 3, e + 6] h h10 := by rw [e10]; exact (yA.rf _ h).w (by simp)
            exact (q1.w (by simp)).tr p1
          · intro s
            rw [p2 s, zd_a (by omega), e10]
            show _ = _ + (zc2 F G x s b + if F (b : Int) = x ∧ G (b : Int) = s then 1 else 0)
            by_cases d : G (b : Int) = s
            · rw [d, zd_s, if_pos ⟨c, rfl⟩]; omega
            · rw [zd_i (fun q => d q.symm), if_neg (by exact fun q => d q.2)]; omega
    · have e1 : zpv F x (b + 1) = zpv F x b := by show (if F (b : Int) = x then (b : Int) else zpv F x b) = _; rw [if_neg c]
      rw [e1]
      refine ih n (by omega) (by omega) h hF hG' hN' hh (fun c' hc' => by have := ht c' hc'; omega) (fun h' p1 p2 p3 => hk h' p1 (fun s => ?_) p3)
      rw [p2 s]
      show _ = _ + (zc2 F G x s b + if F (b : Int) = x ∧ G (b : Int) = s then 1 else 0)
      rw [if_neg (by exact fun q => c q.1)]; omega
/-- a walk over the list of an item -/
theorem L_bak1 {e y1 y2 y3 : Int} {Q : Int → zH → Prop} {k : zH → Prop} {F G N : Int → Int} {x : Int} {B : Nat} (hB : B ≤ 12080)
    (hN : ∀ c : Nat, c < B → F c = x → N c = zpv F x c) (hG : ∀ c : Nat, c < B → 0 ≤ G c ∧ G c < 1364) :
    ∀ (b n : Nat), b ≤ B → b < n → ∀ h : zH, zd h (e + 7) = F → zd h (e + 8) = G → zd h (e + 9) = N → EH e h →
      (∀ c : Nat, c < B → -40000 ≤ zd h (e + 4) (G c) - b ∧ zd h (e + 4) (G c) + b ≤ 40000) →
      (∀ h', yA [e + 4, e + 6] h h' → (∀ s, zd h' (e + 4) s = zd h (e + 4) s - zc2 F G x s b) → EH e h' → k h') →
      P_E_back_L94 e y1 y2 y3 Q k n (zpv F x b) h := by
  intro b
  induction b with
  | zero =>
    intro n _ hn h _ _ _ hh _ hk
    obtain ⟨n, rfl⟩ : ∃ m, n = m + 1 := ⟨n - 1, by omega⟩
    show P_E_back_L94 e y1 y2 y3 Q k (n + 1) (-1005) h
    unfold P_E_back_L94
    rw [if_pos rfl]
    exact hk h (yA.rf _ _) (fun s => by show _ = _ - 0; omega) hh
  | succ b ih =>
    intro n hb hn h hF hG' hN' hh ht hk
    by_cases c : F (b : Int) = x
    · have e1 : zpv F x (b + 1) = (b : Int) := by show (if F (b : Int) = x then (b : Int) else zpv F x b) = _; rw [if_pos c]
      rw [e1]
      obtain ⟨n, rfl⟩ : ∃ m, n = m + 1 := ⟨n - 1, by omega⟩
      unfold P_E_back_L94
      rw [if_neg (by omega), hG']
      have g := hG b (by omega)
      have tb := ht b (by omega)
      refine ⟨⟨by omega, by omega⟩, g, g, ?_⟩
      intro h10 e10
      rw [w32_of (by omega) (by omega)] at e10
      refine ⟨⟨by omega, by omega⟩, ?_⟩
      have hG2 : zd h10 (e + 8) = G := by rw [e10, ← hG']; funext j; exact zd_a (by omega)
      have hF2 : zd h10 (e + 7) = F := by rw [e10, ← hF]; funext j; exact zd_a (by omega)
      have hN2 : zd h10 (e + 9) = N := by rw [e10, ← hN']; funext j; exact zd_a (by omega)
      rw [hG2]
      refine L_look g.1 g.2 ?_ ?_ ?_ (fun v hh2 => ?_)
      · intro t t0 t1 tn
        have := hh.1 t t0 t1
        unfold hotok at this ⊢
        rw [e10, zd_a (b := e + 6) (by omega), zd_a (b := e + 5) (by omega), zd_i (b := e + 4) tn, zd_a (b := e + 3) (by omega), zd_a (b := e + 2) (by omega)]
        exact this
      · intro w; rw [e10, zd_a (by omega)]; exact hh.2.1 w
      · intro t t0 t1; rw [e10, zd_a (by omega)]; exact hh.2.2 t t0 t1
      · refine ⟨⟨by omega, by omega⟩, ?_⟩
        intro x4 ex4
        have ex4 : x4 = zpv F x b := by rw [ex4, zd_a (by omega), hN2]; exact hN b (by omega) c
        rw [ex4]
        refine ih n (by omega) (by omega) _ ?_ ?_ ?_ hh2 ?_ ?_
        · rw [← hF2]; funext j; exact zd_a (by omega)
        · rw [← hG2]; funext j; exact zd_a (by omega)
        · rw [← hN2]; funext j; exact zd_a (by omega)
        · intro c' hc'
          have := ht c' hc'
          rw [zd_a (by omega), e10]
          by_cases d : G (c' : Int) = G (b : Int)
          · rw [d, zd_s]; rw [d] at this; omega
          · rw [zd_i d]; omega
        · intro h' p1 p2 p3
          refine hk h' ?_ ?_ p3
          · have q1 : yA [e + 4, e + 6] h h10 := by rw [e10]; exact (yA.rf _ h).w (by simp)
            exact (q1.w (by simp)).tr p1
          · intro s
            rw [p2 s, zd_a (by omega), e10]
            show _ = _ - (zc2 F G x s b + if F (b : Int) = x ∧ G (b : Int) = s then 1 else 0)
            by_cases d : G (b : Int) = s
            · rw [d, zd_s, if_pos ⟨c, rfl⟩]; omega
            · rw [zd_i (fun q => d q.symm), if_neg (by exact fun q => d q.2)]; omega
    · have e1 : zpv F x (b + 1) = zpv F x b := by show (if F (b : Int) = x then (b : Int) else zpv F x b) = _; rw [if_neg c]
      rw [e1]
      refine ih n (by omega) (by omega) h hF hG' hN' hh (fun c' hc' => by have := ht c' hc'; omega) (fun h' p1 p2 p3 => hk h' p1 (fun s => ?_) p3)
      rw [p2 s]
      show _ = _ - (zc2 F G x s b + if F (b : Int) = x ∧ G (b : Int) = s then 1 else 0)
      rw [if_neg (by exact fun q => c q.1)]; omega
/-- a walk over the list of an item -/
theorem L_bak2 {e y1 y2 : Int} {Q : Int → zH → Prop} {k : zH → Prop} {F G N : Int → Int} {x : Int} {B : Nat} (hB : B ≤ 12080)
    (hN : ∀ c : Nat, c < B → F c = x → N c = zpv F x c) (hG : ∀ c : Nat, c < B → 0 ≤ G c ∧ G c < 1364) :
    ∀ (b n : Nat), b ≤ B → b < n → ∀ h : zH, zd h (e + 7) = F → zd h (e + 8) = G → zd h (e + 9) = N → EH e h →
      (∀ c : Nat, c < B → -40000 ≤ zd h (e + 3) (G c) - b ∧ zd h (e + 3) (G c) + b ≤ 40000) →
      (∀ h', yA [e + 3, e + 6] h h' → (∀ s, zd h' (e + 3) s = zd h (e + 3) s - zc2 F G x s b) → EH e h' → k h') →
      P_E_back_L154 e y1 y2 Q k n (zpv F x b) h := by
  intro b
  induction b with
  | zero =>
    intro n _ hn h _ _ _ hh _ hk
    obtain ⟨n, rfl⟩ : ∃ m, n = m + 1 := ⟨n - 1, by omega⟩
    show P_E_back_L154 e y1 y2 Q k (n + 1) (-1005) h
    unfold P_E_back_L154
    rw [if_pos rfl]
    exact hk h (yA.rf _ _) (fun s => by show _ = _ - 0; omega) hh
  | succ b ih =>
    intro n hb hn h hF hG' hN' hh ht hk
    by_cases c : F (b : Int) = x
    · have e1 : zpv F x (b + 1) = (b : Int) := by show (if F (b : Int) = x then (b : Int) else zpv F x b) = _; rw [if_pos c]
      rw [e1]
      obtain ⟨n, rfl⟩ : ∃ m, n = m + 1 := ⟨n - 1, by omega⟩
      unfold P_E_back_L154
      rw [if_neg (by omega), hG']
      have g := hG b (by omega)
      have tb := ht b (by omega)
      refine ⟨⟨by omega, by omega⟩, g, g, ?_⟩
      intro h10 e10
      rw [w32_of (by omega) (by omega)] at e10
      refine ⟨⟨by omega, by omega⟩, ?_⟩
      have hG2 : zd h10 (e + 8) = G := by rw [e10, ← hG']; funext j; exact zd_a (by omega)
      have hF2 : zd h10 (e + 7) = F := by rw [e10, ← hF]; funext j; exact zd_a (by omega)
      have hN2 : zd h10 (e + 9) = N := by rw [e10, ← hN']; funext j; exact zd_a (by omega)
      rw [hG2]
      refine L_look g.1 g.2 ?_ ?_ ?_ (fun v hh2 => ?_)
      · intro t t0 t1 tn
        have := hh.1 t t0 t1
        unfold hotok at this ⊢
        rw [e10, zd_a (b := e + 6) (by omega), zd_a (b := e + 5) (by omega), zd_i (b := e + 3) tn, zd_a (b := e + 4) (by omega), zd_a (b := e + 2) (by omega)]
        exact this
      · intro w; rw [e10, zd_a (by omega)]; exact hh.2.1 w
      · intro t t0 t1; rw [e10, zd_a (by omega)]; exact hh.2.2 t t0 t1
      · refine ⟨⟨by omega, by omega⟩, ?_⟩
        intro x4 ex4
        have ex4 : x4 = zpv F x b := by rw [ex4, zd_a (by omega), hN2]; exact hN b (by omega) c
        rw [ex4]
        refine ih n (by omega) (by omega) _ ?_ ?_ ?_ hh2 ?_ ?_
        · rw [← hF2]; funext j; exact zd_a (by omega)
        · rw [← hG2]; funext j; exact zd_a (by omega)
        · rw [← hN2]; funext j; exact zd_a (by omega)
        · intro c' hc'
          have := ht c' hc'
          rw [zd_a (by omega), e10]
          by_cases d : G (c' : Int) = G (b : Int)
          · rw [d, zd_s]; rw [d] at this; omega
          · rw [zd_i d]; omega
        · intro h' p1 p2 p3
          refine hk h' ?_ ?_ p3
          · have q1 : yA [e + 3, e + 6] h h10 := by rw [e10]; exact (yA.rf _ h).w (by simp)
            exact (q1.w (by simp)).tr p1
          · intro s
            rw [p2 s, zd_a (by omega), e10]
            show _ = _ - (zc2 F G x s b + if F (b : Int) = x ∧ G (b : Int) = s then 1 else 0)
            by_cases d : G (b : Int) = s
            · rw [d, zd_s, if_pos ⟨c, rfl⟩]; omega
            · rw [zd_i (fun q => d q.symm), if_neg (by exact fun q => d q.2)]; omega
    · have e1 : zpv F x (b + 1) = zpv F x b := by show (if F (b : Int) = x then (b : Int) else zpv F x b) = _; rw [if_neg c]
      rw [e1]
      refine ih n (by omega) (by omega) h hF hG' hN' hh (fun c' hc' => by have := ht c' hc'; omega) (fun h' p1 p2 p3 => hk h' p1 (fun s => ?_) p3)
      rw [p2 s]
      show _ = _ - (zc2 F G x s b + if F (b : Int) = x ∧ G (b : Int) = s then 1 else 0)
      rw [if_neg (by exact fun q => c q.1)]; omega
