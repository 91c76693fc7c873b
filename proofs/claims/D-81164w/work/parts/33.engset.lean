/-! an engine's invariants; set -/
def eit (A x : Int) : Prop := (1 ≤ x ∧ x ≤ A) ∨ (-A ≤ x ∧ x ≤ -1)
def eidx (x : Int) : Int := if 0 < x then 2 * x else 1 - 2 * x
def zab (x : Int) : Int := if 0 ≤ x then x else -x
def zsg (x : Int) : Int := if 0 < x then 1 else -1
def est (e : Int) (h : zH) (x : Int) : Int := if 0 < x then zd h (e + 11) x else -(zd h (e + 11) (-x))
/-- a row that was laid -/
def elaid (e : Int) (h : zH) (s : Int) : Prop := (0 ≤ s ∧ s < 1364 ∧ zd h (e + 5) s = 1) ∨ ∃ c, 0 ≤ c ∧ c < zd h e 10 ∧ zd h (e + 8) c = s
def erow (e : Int) (h : zH) (s : Int) : Prop := (0 ≤ zd h (e + 1) s ∧ 0 ≤ zd h (e + 2) s ∧ zd h (e + 1) s + zd h (e + 2) s ≤ zd h e 10) ∧ ∀ c, 0 ≤ c → c < zd h e 10 → (zd h (e + 8) c = s ↔ zd h (e + 1) s ≤ c ∧ c < zd h (e + 1) s + zd h (e + 2) s)
/-- what the rows are -/
def ES (e : Int) (h : zH) (top : Int) : Prop := (0 ≤ zd h e 11 ∧ zd h e 11 ≤ 300) ∧ (0 ≤ zd h e 10 ∧ zd h e 10 ≤ 12080) ∧ (0 ≤ top ∧ top ≤ 1364) ∧
  (∀ x, eit (zd h e 11) x → zd h (e + 10) (eidx x) = zpv (zd h (e + 7)) x (zd h e 10).toNat) ∧
  (∀ c, 0 ≤ c → c < zd h e 10 → eit (zd h e 11) (zd h (e + 7) c) ∧ zd h (e + 9) c = zpv (zd h (e + 7)) (zd h (e + 7) c) c.toNat) ∧
  (∀ s, elaid e h s → (0 ≤ s ∧ s < top) ∧ erow e h s) ∧ (∀ s, 0 ≤ s → s < 1364 → zd h (e + 5) s = 0 ∨ zd h (e + 5) s = 1)
/-- how they stand -/
def ecnt (e : Int) (h : zH) (v s : Int) : Int := zct (fun c => est e h (zd h (e + 7) c)) v (zd h (e + 1) s) (zd h (e + 2) s).toNat
def EC (e : Int) (h : zH) : Prop := (∀ s, elaid e h s → zd h (e + 4) s = ecnt e h 1 s ∧ zd h (e + 3) s = ecnt e h (-1) s) ∧ EH e h ∧ ∀ n, 1 ≤ n → n ≤ zd h e 11 → zd h (e + 11) n = 0 ∨ zd h (e + 11) n = 1 ∨ zd h (e + 11) n = -1
theorem yA.f {l : List Int} {h h' : zH} (p : yA l h h') {b : Int} (q : b ∉ l) : zd h' b = zd h b := funext (p.d q)
theorem zw_f {h : zH} {a i v b : Int} (q : b ≠ a) : zd (zw h a i v) b = zd h b := funext (fun _ => zd_a q)
theorem ES.cg {e top : Int} {h h' : zH} (p : ES e h top) (a10 : zd h' e 10 = zd h e 10) (a11 : zd h' e 11 = zd h e 11) (b1 : zd h' (e + 1) = zd h (e + 1)) (b2 : zd h' (e + 2) = zd h (e + 2)) (b5 : zd h' (e + 5) = zd h (e + 5)) (b7 : zd h' (e + 7) = zd h (e + 7)) (b8 : zd h' (e + 8) = zd h (e + 8)) (b9 : zd h' (e + 9) = zd h (e + 9)) (b10 : zd h' (e + 10) = zd h (e + 10)) : ES e h' top := by
  unfold ES elaid erow at *
  rw [a10, a11, b1, b2, b5, b7, b8, b9, b10]
  exact p
theorem elaid.cg {e s : Int} {h h' : zH} (a10 : zd h' e 10 = zd h e 10) (b5 : zd h' (e + 5) = zd h (e + 5)) (b8 : zd h' (e + 8) = zd h (e + 8)) : elaid e h' s ↔ elaid e h s := by
  unfold elaid; rw [a10, b5, b8]
theorem EH.cg {e : Int} {h h' : zH} (p : EH e h) (b2 : zd h' (e + 2) = zd h (e + 2)) (b3 : zd h' (e + 3) = zd h (e + 3)) (b4 : zd h' (e + 4) = zd h (e + 4)) (b5 : zd h' (e + 5) = zd h (e + 5)) (b6 : zd h' (e + 6) = zd h (e + 6)) : EH e h' := by
  unfold EH hotok at *
  rw [b2, b3, b4, b5, b6]
  exact p
theorem zabs_of {A x : Int} (hx : eit A x) (hA : A ≤ 300) : zabs x = zab x := by
  unfold zabs zab eit at *
  split
  · rfl
  · rw [w32_of (by omega) (by omega)]; omega
theorem zab_r {A x : Int} (hx : eit A x) : 1 ≤ zab x ∧ zab x ≤ A := by unfold zab eit at *; split <;> omega
theorem eidx_of {A x : Int} (hx : eit A x) (hA : A ≤ 300) : (if x ≤ 0 then w32 (1 - (w32 (2 * x))) else w32 (2 * x)) = eidx x := by
  unfold eidx eit at *
  by_cases c : x ≤ 0
  · rw [if_pos c, if_neg (by omega), w32_of (x := 2 * x) (by omega) (by omega), w32_of (by omega) (by omega)]
  · rw [if_neg c, if_pos (by omega), w32_of (by omega) (by omega)]
theorem eidx_r {A x : Int} (hx : eit A x) (hA : A ≤ 300) : 0 ≤ eidx x ∧ eidx x < 602 := by unfold eidx eit at *; split <;> omega
theorem eidx_inj {A x y : Int} (hx : eit A x) (hy : eit A y) (h : eidx x = eidx y) : x = y := by
  unfold eidx eit at *
  split at h <;> split at h <;> omega
theorem eit_neg {A x : Int} (hx : eit A x) : eit A (-x) := by unfold eit at *; omega
theorem zsg_of (x : Int) : (if x ≤ 0 then (-1) else 1) = zsg x := by
  unfold zsg
  by_cases c : x ≤ 0
  · rw [if_pos c, if_neg (by omega)]
  · rw [if_neg c, if_pos (by omega)]
theorem zab_neg (x : Int) : zab (-x) = zab x := by unfold zab; split <;> split <;> omega
/-- an item's state by its name's value -/
theorem est_ab (e : Int) (h : zH) {A x : Int} (hx : eit A x) : est e h x = if 0 < x then zd h (e + 11) (zab x) else -(zd h (e + 11) (zab x)) := by
  unfold est zab eit at *
  by_cases c : 0 < x
  · rw [if_pos c, if_pos c, if_pos (by omega)]
  · rw [if_neg c, if_neg c, if_neg (by omega)]
theorem zct_add {f f' g : Int → Int} {v v' x a : Int} {n : Nat} (h : ∀ i, a ≤ i → i < a + n → (f' i = v' ↔ f i = v ∨ g i = x) ∧ ¬ (f i = v ∧ g i = x)) : zct f' v' a n = zct f v a n + zct g x a n := by
  induction n with
  | zero => rfl
  | succ n ih =>
    unfold zct
    rw [ih (fun i h1 h2 => h i h1 (by omega))]
    obtain ⟨q1, q2⟩ := h (a + n) (by omega) (by omega)
    by_cases c1 : f (a + (n : Int)) = v
    · rw [if_pos c1, if_pos (q1.mpr (Or.inl c1)), if_neg (by exact fun q => q2 ⟨c1, q⟩)]; omega
    · by_cases c2 : g (a + (n : Int)) = x
      · rw [if_neg c1, if_pos c2, if_pos (q1.mpr (Or.inr c2))]; omega
      · rw [if_neg c1, if_neg c2, if_neg (by exact fun q => (q1.mp q).elim c1 c2)]; omega
/-- one name's value anew: how the items stand -/
theorem est_set {e x : Int} {h h' : zH} {A y : Int} (hx : eit A x) (hy : eit A y) (ho : est e h x = 0) (hv : ∀ j, zd h' (e + 11) j = if j = zab x then zsg x else zd h (e + 11) j) :
    (est e h' y = 1 ↔ est e h y = 1 ∨ y = x) ∧ ¬ (est e h y = 1 ∧ y = x) ∧ (est e h' y = -1 ↔ est e h y = -1 ∨ y = -x) ∧ ¬ (est e h y = -1 ∧ y = -x) := by
  have e0 : zd h (e + 11) (zab x) = 0 := by
    rw [est_ab e h hx] at ho
    split at ho <;> omega
  rw [est_ab e h hy, est_ab e h' hy, hv]
  by_cases c : zab y = zab x
  · rw [if_pos c, c, e0]
    unfold zsg zab eit at *
    have : y = x ∨ y = -x := by split at c <;> split at c <;> omega
    rcases this with d | d
    · rw [d]; split <;> omega
    · rw [d]; split <;> split <;> omega
  · rw [if_neg c]
    have n1 : y ≠ x := fun q => c (by rw [q])
    have n2 : y ≠ -x := fun q => c (by rw [q, zab_neg])
    refine ⟨⟨Or.inl, fun q => q.elim id (fun q => absurd q n1)⟩, fun q => n1 q.2, ⟨Or.inl, fun q => q.elim id (fun q => absurd q n2)⟩, fun q => n2 q.2⟩
/-! sources by bits -/
def srcE (e : Int) (h : zH) (s w : Int) (k : Nat) : Bool := if s < 500 then decide (w = s / 64 ∧ (k : Int) = s % 64) else if s < 564 then false else hb (zd h (e + 19) ((s - 564) * 8 + w)) k
theorem L_addRoot {e a t n : Int} {h : zH} {Q : Int → zH → Prop} (ha : zt h a = 53) (t0 : 0 ≤ t) (t1 : t + 8 ≤ zl h a) (t2 : zl h a ≤ 12800) (n0 : 0 ≤ n) (n1 : n ≤ 300) (hd : a = e + 16 → t + 8 ≤ n * 8 ∨ n * 8 + 8 ≤ t)
    (hq : ∀ h', yA [a] h h' → (∀ j, j < t ∨ t + 8 ≤ j → zd h' a j = zd h a j) → (∀ w k, 0 ≤ w → w < 8 → hb (zd h' a (t + w)) k = (hb (zd h a (t + w)) k || hb (zd h (e + 16) (n * 8 + w)) k)) → Q 0 h') : P_E_addRoot e a t n h Q := by
  have key : ∀ (m f : Nat) (y : Int) (g : zH), y = 8 - m → 0 ≤ y → m < f → zt g a = 53 → zl g a = zl h a → (∀ h', yA [a] g h' → (∀ j, j < t + y ∨ t + 8 ≤ j → zd h' a j = zd g a j) → (∀ w k, y ≤ w → w < 8 → hb (zd h' a (t + w)) k = (hb (zd g a (t + w)) k || hb (zd g (e + 16) (n * 8 + w)) k)) → Q 0 h') → P_E_addRoot_L3 e a t n Q f y g := by
    intro m
    induction m with
    | zero =>
      intro f y g hy y0 hf gt gl k
      obtain ⟨f, rfl⟩ : ∃ m, f = m + 1 := ⟨f - 1, by omega⟩
      unfold P_E_addRoot_L3
      rw [if_pos (by omega)]
      exact k g (yA.rf _ _) (fun _ _ => rfl) (fun w k h1 h2 => by omega)
    | succ m ih =>
      intro f y g hy y0 hf gt gl k
      obtain ⟨f, rfl⟩ : ∃ m, f = m + 1 := ⟨f - 1, by omega⟩
      unfold P_E_addRoot_L3
      rw [if_neg (by omega), w32_of (x := t + y) (by omega) (by omega), w32_of (x := n * 8) (by omega) (by omega), w32_of (x := n * 8 + y) (by omega) (by omega)]
      refine ⟨⟨gt, by omega, by omega⟩, ⟨by omega, by omega⟩, ⟨gt, by omega, by omega⟩, ?_⟩
      intro h1 e1 x4 e4
      rw [w32_of (by omega) (by omega)] at e4
      rw [e4, e1]
      refine ih f (y + 1) _ (by omega) (by omega) (by omega) gt gl (fun h' p1 p2 p3 => k h' ?_ ?_ ?_)
      · exact ((yA.rf [a] g).w (by simp)).tr p1
      · intro j hj
        rw [p2 j (by omega), zd_i (by omega)]
      · intro w b h1 h2
        by_cases c : w = y
        · rw [c, p2 _ (by omega), zd_s, hb_or]
        · rw [p3 w b (by omega) h2, zd_i (by omega)]
          by_cases d : a = e + 16
          · rw [zd_i (j := n * 8 + w) (by have := hd d; omega)]
          · rw [zd_a (b := e + 16) (fun q => d q.symm)]
  unfold P_E_addRoot
  refine ⟨9, key 8 9 0 h (by decide) (by decide) (by decide) ha rfl (fun h' p1 p2 p3 => hq h' p1 (fun j hj => p2 j (by omega)) p3)⟩
theorem L_addSource {e a t s : Int} {h : zH} {Q : Int → zH → Prop} (ha : zt h a = 53) (t0 : 0 ≤ t) (t1 : t + 8 ≤ zl h a) (t2 : zl h a ≤ 12800) (s0 : 0 ≤ s) (s1 : s < 1364) (hd : a ≠ e + 19)
    (hq : ∀ h', yA [a] h h' → (∀ j, j < t ∨ t + 8 ≤ j → zd h' a j = zd h a j) → (∀ w k, 0 ≤ w → w < 8 → k < 64 → hb (zd h' a (t + w)) k = (hb (zd h a (t + w)) k || srcE e h s w k)) → Q 0 h') : P_E_addSource e a t s h Q := by
  have key : ∀ (m f : Nat) (y : Int) (g : zH), 564 ≤ s → y = 8 - m → 0 ≤ y → m < f → zt g a = 53 → zl g a = zl h a → (∀ h', yA [a] g h' → (∀ j, j < t + y ∨ t + 8 ≤ j → zd h' a j = zd g a j) → (∀ w k, y ≤ w → w < 8 → hb (zd h' a (t + w)) k = (hb (zd g a (t + w)) k || hb (zd g (e + 19) ((s - 564) * 8 + w)) k)) → Q 0 h') → P_E_addSource_L37 e a t s Q f y g := by
    intro m
    induction m with
    | zero =>
      intro f y g hs hy y0 hf gt gl k
      obtain ⟨f, rfl⟩ : ∃ m, f = m + 1 := ⟨f - 1, by omega⟩
      unfold P_E_addSource_L37
      rw [if_pos (by omega)]
      exact k g (yA.rf _ _) (fun _ _ => rfl) (fun w k h1 h2 => by omega)
    | succ m ih =>
      intro f y g hs hy y0 hf gt gl k
      obtain ⟨f, rfl⟩ : ∃ m, f = m + 1 := ⟨f - 1, by omega⟩
      unfold P_E_addSource_L37
      rw [if_neg (by omega), w32_of (x := t + y) (by omega) (by omega), w32_of (x := s - 564) (by omega) (by omega), w32_of (x := (s - 564) * 8) (by omega) (by omega), w32_of (x := (s - 564) * 8 + y) (by omega) (by omega)]
      refine ⟨⟨gt, by omega, by omega⟩, ⟨by omega, by omega⟩, ⟨gt, by omega, by omega⟩, ?_⟩
      intro h1 e1 x4 e4
      rw [w32_of (by omega) (by omega)] at e4
      rw [e4, e1]
      refine ih f (y + 1) _ hs (by omega) (by omega) (by omega) gt gl (fun h' p1 p2 p3 => k h' ?_ ?_ ?_)
      · exact ((yA.rf [a] g).w (by simp)).tr p1
      · intro j hj
        rw [p2 j (by omega), zd_i (by omega)]
      · intro w b h1 h2
        by_cases c : w = y
        · rw [c, p2 _ (by omega), zd_s, hb_or]
        · rw [p3 w b (by omega) h2, zd_i (by omega), zd_a (b := e + 19) (fun q => hd q.symm)]
  unfold P_E_addSource
  by_cases c : 500 ≤ s
  · rw [if_pos c]
    by_cases d : s < 564
    · rw [if_pos d]
      refine hq h (yA.rf _ _) (fun _ _ => rfl) (fun w k h1 h2 h3 => ?_)
      unfold srcE; rw [if_neg (by omega), if_pos d]; simp
    · rw [if_neg d]
      refine ⟨9, key 8 9 0 h (by omega) (by decide) (by decide) (by decide) ha rfl (fun h' p1 p2 p3 => hq h' p1 (fun j hj => p2 j (by omega)) (fun w k h1 h2 h3 => ?_))⟩
      rw [p3 w k h1 h2]; unfold srcE; rw [if_neg (by omega), if_neg d]
  · rw [if_neg c, zshr6 s0 s1, zand63 s0 s1, w32_of (x := t + s / 64) (by omega) (by omega)]
    refine ⟨⟨ha, by omega, by omega⟩, ⟨ha, by omega, by omega⟩, ?_⟩
    intro h3 e3
    rw [e3]
    refine hq _ ((yA.rf [a] h).w (by simp)) (fun j hj => zd_i (by omega)) (fun w k h1 h2 h4 => ?_)
    unfold srcE; rw [if_pos (by omega)]
    by_cases d : w = s / 64
    · rw [d, zd_s, hb_or, hb_one (by omega) (by omega) h4]
      simp
    · rw [zd_i (by omega), decide_eq_false (by exact fun q => d q.1)]; simp
/-- what a name of no level comes from -/
def rootOf (e x why : Int) (h : zH) (w : Int) (k : Nat) : Prop := srcE e h why w k = true ∨ ∃ c, zd h (e + 1) why ≤ c ∧ c < zd h (e + 1) why + zd h (e + 2) why ∧ zab (zd h (e + 7) c) ≠ x ∧ hb (zd h (e + 16) (zab (zd h (e + 7) c) * 8 + w)) k = true
theorem L_rootSource {e x why top : Int} {h : zH} {Q : Int → zH → Prop} (hs : ES e h top) (ht : zt h (e + 16) = 53) (hl : zl h (e + 16) = 2408) (x0 : 1 ≤ x) (x1 : x ≤ 300) (hw : elaid e h why)
    (hq : ∀ h', yA [e + 16] h h' → (∀ j, j < x * 8 ∨ x * 8 + 8 ≤ j → zd h' (e + 16) j = zd h (e + 16) j) → (∀ w k, 0 ≤ w → w < 8 → k < 64 → (hb (zd h' (e + 16) (x * 8 + w)) k = true ↔ rootOf e x why h w k)) → Q 0 h') : P_E_rootSource e x why h Q := by
  obtain ⟨⟨w0, w1⟩, ⟨f0, z0, f1⟩, -⟩ := hs.2.2.2.2.2.1 why hw
  have tp := hs.2.2.1
  have cl := hs.2.1
  have al := hs.1
  have k1 : ∀ (m f : Nat) (y : Int) (g : zH) (K : zH → Prop), y = 8 - m → 0 ≤ y → m < f → (∀ h', yA [e + 16] g h' → (∀ j, j < x * 8 + y ∨ x * 8 + 8 ≤ j → zd h' (e + 16) j = zd g (e + 16) j) → (∀ w, y ≤ w → w < 8 → zd h' (e + 16) (x * 8 + w) = 0) → K h') → P_E_rootSource_L2 e x why Q K f y g := by
    intro m
    induction m with
    | zero =>
      intro f y g K hy y0 hf k
      obtain ⟨f, rfl⟩ : ∃ m, f = m + 1 := ⟨f - 1, by omega⟩
      unfold P_E_rootSource_L2
      rw [if_pos (by omega)]
      exact k g (yA.rf _ _) (fun _ _ => rfl) (fun w h1 h2 => by omega)
    | succ m ih =>
      intro f y g K hy y0 hf k
      obtain ⟨f, rfl⟩ : ∃ m, f = m + 1 := ⟨f - 1, by omega⟩
      unfold P_E_rootSource_L2
      rw [if_neg (by omega), w32_of (x := x * 8) (by omega) (by omega), w32_of (x := x * 8 + y) (by omega) (by omega)]
      refine ⟨⟨by omega, by omega⟩, ?_⟩
      intro h1 e1 x4 e4
      rw [w32_of (by omega) (by omega)] at e4
      rw [e4, e1]
      refine ih f (y + 1) _ K (by omega) (by omega) (by omega) (fun h' p1 p2 p3 => k h' ?_ ?_ ?_)
      · exact ((yA.rf [e + 16] g).w (by simp)).tr p1
      · intro j hj
        rw [p2 j (by omega), zd_i (by omega)]
      · intro w h1 h2
        by_cases c : w = y
        · rw [c, p2 _ (by omega), zd_s]
        · exact p3 w (by omega) h2
  have k2 : ∀ (m f : Nat) (y : Int) (g : zH), y = zd h (e + 1) why + zd h (e + 2) why - m → zd h (e + 1) why ≤ y → m < f → zt g (e + 16) = 53 → zl g (e + 16) = 2408 → zd g (e + 1) = zd h (e + 1) → zd g (e + 2) = zd h (e + 2) → zd g (e + 7) = zd h (e + 7) → (∀ j, j < x * 8 ∨ x * 8 + 8 ≤ j → zd g (e + 16) j = zd h (e + 16) j) →
      (∀ h', yA [e + 16] g h' → (∀ j, j < x * 8 ∨ x * 8 + 8 ≤ j → zd h' (e + 16) j = zd g (e + 16) j) → (∀ w k, 0 ≤ w → w < 8 → (hb (zd h' (e + 16) (x * 8 + w)) k = true ↔ hb (zd g (e + 16) (x * 8 + w)) k = true ∨ ∃ c, y ≤ c ∧ c < zd h (e + 1) why + zd h (e + 2) why ∧ zab (zd h (e + 7) c) ≠ x ∧ hb (zd h (e + 16) (zab (zd h (e + 7) c) * 8 + w)) k = true)) → Q 0 h') → P_E_rootSource_L46 e x why Q f y g := by
    intro m
    induction m with
    | zero =>
      intro f y g hy y0 hf gt gl g1 g2 g7 gs k
      obtain ⟨f, rfl⟩ : ∃ m, f = m + 1 := ⟨f - 1, by omega⟩
      unfold P_E_rootSource_L46
      rw [g1, g2, w32_of (by omega) (by omega), if_pos (by omega)]
      refine ⟨⟨by omega, by omega⟩, ⟨by omega, by omega⟩, k g (yA.rf _ _) (fun _ _ => rfl) (fun w b h1 h2 => ⟨Or.inl, fun q => q.elim id (fun ⟨c, c1, c2, _⟩ => by omega)⟩)⟩
    | succ m ih =>
      intro f y g hy y0 hf gt gl g1 g2 g7 gs k
      obtain ⟨f, rfl⟩ : ∃ m, f = m + 1 := ⟨f - 1, by omega⟩
      unfold P_E_rootSource_L46 P_E_rootSource_J94
      rw [g1, g2, g7, w32_of (by omega) (by omega), if_neg (by omega)]
      refine ⟨⟨by omega, by omega⟩, ⟨by omega, by omega⟩, ⟨by omega, by omega⟩, ?_⟩
      have it := (hs.2.2.2.2.1 y (by omega) (by omega)).1
      have ir := zab_r it
      intro x4 e4
      rw [zabs_of it (by omega)] at e4
      rw [e4]
      have st : w32 (y + 1) = y + 1 := w32_of (by omega) (by omega)
      refine zif_i (fun c => ?_) (fun c => ?_)
      · intro x3 e3
        rw [e3, st]
        refine ih f (y + 1) g (by omega) (by omega) (by omega) gt gl g1 g2 g7 gs (fun h' p1 p2 p3 => k h' p1 p2 (fun w b h1 h2 => ?_))
        rw [p3 w b h1 h2]
        refine or_congr Iff.rfl ⟨fun ⟨c', q1, q2, q3⟩ => ⟨c', by omega, q2, q3⟩, fun ⟨c', q1, q2, q3, q4⟩ => ⟨c', ?_, q2, q3, q4⟩⟩
        by_cases d : c' = y
        · rw [d] at q3; exact absurd c q3
        · omega
      · rw [w32_of (x := x * 8) (by omega) (by omega)]
        refine L_addRoot gt (by omega) (by omega) (by omega) (by omega) (by omega) (fun _ => by omega) (fun h10 p1 p2 p3 => ?_)
        intro x3 e3
        rw [e3, st]
        refine ih f (y + 1) h10 (by omega) (by omega) (by omega) (by rw [p1.t]; exact gt) (by rw [p1.l]; exact gl) (by rw [p1.f (by simp only [List.mem_cons, List.not_mem_nil, or_false]; omega)]; exact g1) (by rw [p1.f (by simp only [List.mem_cons, List.not_mem_nil, or_false]; omega)]; exact g2) (by rw [p1.f (by simp only [List.mem_cons, List.not_mem_nil, or_false]; omega)]; exact g7) (fun j hj => by rw [p2 j hj]; exact gs j hj) (fun h' q1 q2 q3 => k h' (p1.tr q1) (fun j hj => by rw [q2 j hj, p2 j hj]) (fun w b h1 h2 => ?_))
        rw [q3 w b h1 h2, p3 w b h1 h2, gs (zab (zd h (e + 7) y) * 8 + w) (by omega), Bool.or_eq_true]
        constructor
        · rintro ((r | r) | ⟨c', r1, r2, r3⟩)
          · exact Or.inl r
          · exact Or.inr ⟨y, by omega, by omega, c, r⟩
          · exact Or.inr ⟨c', by omega, r2, r3⟩
        · rintro (r | ⟨c', r1, r2, r3, r4⟩)
          · exact Or.inl (Or.inl r)
          · by_cases d : c' = y
            · rw [d] at r4; exact Or.inl (Or.inr r4)
            · exact Or.inr ⟨c', by omega, r2, r3, r4⟩
  unfold P_E_rootSource
  refine ⟨9, k1 8 9 0 h _ (by decide) (by decide) (by decide) (fun h3 p1 p2 p3 => ?_)⟩
  have q1 : zd h3 (e + 1) = zd h (e + 1) := p1.f (by simp only [List.mem_cons, List.not_mem_nil, or_false]; omega)
  have q2 : zd h3 (e + 2) = zd h (e + 2) := p1.f (by simp only [List.mem_cons, List.not_mem_nil, or_false]; omega)
  have q7 : zd h3 (e + 7) = zd h (e + 7) := p1.f (by simp only [List.mem_cons, List.not_mem_nil, or_false]; omega)
  have q19 : zd h3 (e + 19) = zd h (e + 19) := p1.f (by simp only [List.mem_cons, List.not_mem_nil, or_false]; omega)
  rw [w32_of (x := x * 8) (by omega) (by omega)]
  refine L_addSource (by rw [p1.t]; exact ht) (by omega) (by rw [p1.l]; omega) (by rw [p1.l]; omega) w0 (by omega) (by omega) (fun h5 r1 r2 r3 => ?_)
  have s1 : zd h5 (e + 1) = zd h (e + 1) := (r1.f (by simp only [List.mem_cons, List.not_mem_nil, or_false]; omega)).trans q1
  have s2 : zd h5 (e + 2) = zd h (e + 2) := (r1.f (by simp only [List.mem_cons, List.not_mem_nil, or_false]; omega)).trans q2
  have s7 : zd h5 (e + 7) = zd h (e + 7) := (r1.f (by simp only [List.mem_cons, List.not_mem_nil, or_false]; omega)).trans q7
  refine ⟨⟨w0, by omega⟩, ?_⟩
  intro x3 e3
  rw [s1] at e3
  rw [e3]
  refine ⟨(zd h (e + 2) why).toNat + 1, k2 (zd h (e + 2) why).toNat _ _ h5 (by omega) (by omega) (by omega) (by rw [r1.t, p1.t]; exact ht) (by rw [r1.l, p1.l]; exact hl) s1 s2 s7 (fun j hj => by rw [r2 j hj, p2 j (by omega)]) (fun h' u1 u2 u3 => hq h' ((p1.tr r1).tr u1) (fun j hj => by rw [u2 j hj, r2 j hj, p2 j (by omega)]) (fun w k h1 h2 h4 => ?_))⟩
  rw [u3 w k h1 h2, r3 w k h1 h2 h4, p3 w h1 h2, hb_0, Bool.false_or]
  unfold rootOf srcE
  rw [q19]
