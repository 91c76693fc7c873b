/-! what is kept here is recorded there -/
theorem rec_mono {e q : Int} {h m : zH} (r5 : R5 e q h m) : ∀ (d : Nat) (k : Int), 0 ≤ k → k + d ≤ zd h e 25 → 0 ≤ zd m 152 (801 * q + k) ∧ zd m 152 (801 * q + k) ≤ zd m 152 (801 * q + (k + d)) := by
  have base : ∀ k : Nat, (k : Int) ≤ zd h e 25 → 0 ≤ zd m 152 (801 * q + k) := by
    intro k
    induction k with
    | zero => intro _; rw [show 801 * q + ((0 : Nat) : Int) = 801 * q by omega, r5.2.2.1]; decide
    | succ k ih =>
      intro hk
      have := ih (by omega)
      have s := r5.2.2.2.1 k (by omega) (by omega)
      rw [show 801 * q + ((k + 1 : Nat) : Int) = 801 * q + (k : Int) + 1 by omega]; omega
  intro d
  induction d with
  | zero =>
    intro k k0 k1
    have := base k.toNat (by omega)
    rw [show (k.toNat : Int) = k by omega] at this
    exact ⟨this, by rw [show k + ((0 : Nat) : Int) = k by omega]; exact Int.le_refl _⟩
  | succ d ih =>
    intro k k0 k1
    obtain ⟨a, b⟩ := ih k k0 (by omega)
    have s := r5.2.2.2.1 (k + d) (by omega) (by omega)
    rw [show 801 * q + (k + d) + 1 = 801 * q + (k + ((d + 1 : Nat) : Int)) by omega] at s
    exact ⟨a, Int.le_trans b s⟩
theorem rec_le {e q k l : Int} {h m : zH} (r5 : R5 e q h m) (k0 : 0 ≤ k) (kl : k ≤ l) (l1 : l ≤ zd h e 25) : 0 ≤ zd m 152 (801 * q + k) ∧ zd m 152 (801 * q + k) ≤ zd m 152 (801 * q + l) := by
  have := rec_mono r5 (l - k).toNat k k0 (by omega)
  rw [show k + ((l - k).toNat : Int) = l by omega] at this; exact this
theorem S_keep {e q top a : Int} {h h' m m' : zH} (he : 14 < e) (q0 : 0 ≤ q) (q1 : q ≤ 1) (hs : ES e h top) (ht : top ≤ 564 + zd h e 25) (R : RMs e q h m) (rl : zd m 155 q = zd m 154 q) (r1 : zd h e 25 < 800) (n0 : 0 ≤ zd h e 50) (n1 : zd h e 26 + zd h e 50 ≤ 8000) (hit : ∀ j, 0 ≤ j → j < zd h e 50 → eit (zd h e 11) (zd h (e + 28) j)) (hfr : ∀ j, 0 ≤ j → j < zd h e 50 → zd m 167 j = zd h (e + 28) j) (hsr : ∀ w b, 0 ≤ w → w < 8 → b < 64 → hb (zd h (e + 29) w) b = hb (zd m 160 w) b)
    (pe : KeepP e a h h') (cb : ∀ k, k ∈ ([119, 120, 123, 124, 137, 138, 139, 140, 141, 143, 144, 145, 146, 147, 148, 149, 150, 151, 159] : List Int) → zd m' k = zd m k) (cc : ∀ k, k ∈ ([30, 31, 58, 66, 67] : List Int) → zd m' 101 k = zd m 101 k)
    (w153 : ∀ j, zd m' 153 j = if 8050 * q + zd m 152 (801 * q + zd m 154 q) ≤ j ∧ j < 8050 * q + zd m 152 (801 * q + zd m 154 q) + zd h e 50 then zd m 167 (j - (8050 * q + zd m 152 (801 * q + zd m 154 q))) else zd m 153 j) (w152 : ∀ j, zd m' 152 j = if j = 801 * q + zd m 154 q + 1 then zd m 152 (801 * q + zd m 154 q) + zd h e 50 else zd m 152 j) (w154 : zd m' 154 q = zd m 154 q + 1) (w158 : ∀ j, zd m' 158 j = if 8 * (800 * q + zd m 154 q) ≤ j ∧ j < 8 * (800 * q + zd m 154 q) + 8 then zd m 160 (j - 8 * (800 * q + zd m 154 q)) else zd m 158 j)
    (w155 : zd m' 155 q = if a = 0 then zd m 155 q else zd m 155 q + 1) (w156 : ∀ j, zd m' 156 j = if a ≠ 0 ∧ j = 800 * q + zd m 154 q then 1 else zd m 156 j) (w157 : ∀ j, zd m' 157 j = if a ≠ 0 ∧ j = 800 * q + zd m 154 q then 0 else zd m 157 j) : RMs e q h' m' := by
  obtain ⟨R1, R2', R3', R4', R5', R6', R8', R9'⟩ := R
  obtain ⟨K1, K2, K3, K4, K5, K6, K7, K8⟩ := pe
  have r5 := R5'
  obtain ⟨⟨c1, c2, c3⟩, c4, c5, c6, c7, ⟨c8, c9⟩, c10, c11, c12⟩ := R5'
  rw [← c1] at w153 w152 w154 w158 w156 w157 rl
  have A3 := hs.1
  have cl := hs.2.1
  have ca : ∀ k, k ∈ ([11, 12, 13, 14, 15, 16, 17, 21] : List Int) → zd h' (e + k) = zd h (e + k) := fun k hk => K1.f (by simp only [List.mem_cons, List.not_mem_nil, or_false] at hk ⊢; omega)
  have cf : ∀ j, j ≠ 25 → j ≠ 26 → j ≠ 10 → j ≠ 37 → zd h' e j = zd h e j := fun j a1 a2 a3 a4 => by rw [K2, if_neg a1, if_neg a2, if_neg a3, if_neg (by exact fun w => a4 w.1)]
  have e11 : zd h' e 11 = zd h e 11 := cf 11 (by decide) (by decide) (by decide) (by decide)
  have e25 : zd h' e 25 = zd h e 25 + 1 := by rw [K2, if_pos rfl]
  have recb := rec_le r5 (Int.le_refl 0) c2 (Int.le_refl _)
  -- rows of the engine that were there are as they were
  have old : ∀ s, 0 ≤ s → s < 1364 → s ≠ 564 + zd h e 25 → zd h (e + 5) s = 1 → zd h' (e + 1) s = zd h (e + 1) s ∧ zd h' (e + 2) s = zd h (e + 2) s ∧ ∀ i, 0 ≤ i → i < zd h (e + 2) s → zd h' (e + 7) (zd h (e + 1) s + i) = zd h (e + 7) (zd h (e + 1) s + i) := by
    intro s s0 s1 sn st
    obtain ⟨-, ⟨f0, z0, f1⟩, -⟩ := hs.2.2.2.2.2.1 s (Or.inl ⟨s0, s1, st⟩)
    refine ⟨by rw [K3, if_neg sn], by rw [K4, if_neg sn], fun i i0 i1 => by rw [K6, if_neg (by omega)]⟩
  have noth : zd h (e + 5) (564 + zd h e 25) ≠ 1 := by
    intro w
    have := (hs.2.2.2.2.2.1 (564 + zd h e 25) (Or.inl ⟨by omega, by omega, w⟩)).1; omega
  -- records: sizes and items there
  have msz_old : ∀ r, mlive m q r → msz m' q r = msz m q r ∧ ∀ i, 0 ≤ i → i < msz m q r → mit m' q r i = mit m q r i := by
    intro r l
    unfold msz mit
    rw [cb 119 (by decide), cb 120 (by decide), cb 123 (by decide), cb 124 (by decide), cc 66 (by decide)]
    by_cases x1 : r < 1000
    · rw [if_pos x1, if_pos x1]; exact ⟨rfl, fun i _ _ => by rw [if_pos x1, if_pos x1]⟩
    · rw [if_neg x1, if_neg x1]
      by_cases x2 : r < 2000
      · rw [if_pos x2, if_pos x2]; exact ⟨rfl, fun i _ _ => by rw [if_neg x1, if_neg x1, if_pos x2, if_pos x2]⟩
      · rw [if_neg x2, if_neg x2]
        have lr : r < 2000 + zd m 155 q := by
          have := R1.2.1; have := R1.2.2.1
          unfold mlive at l; omega
        rw [w152, w152, if_neg (show ¬ 801 * q + r - 1999 = 801 * q + zd h e 25 + 1 by omega), if_neg (show ¬ 801 * q + r - 2000 = 801 * q + zd h e 25 + 1 by omega)]
        refine ⟨rfl, fun i i0 i1 => ?_⟩
        rw [if_neg x1, if_neg x1, if_neg x2, if_neg x2, w153, if_neg]
        have b := rec_le r5 (k := r - 1999) (l := zd h e 25) (by omega) (by omega) (Int.le_refl _)
        rw [show 801 * q + (r - 1999) = 801 * q + r - 1999 by omega] at b
        omega
  have live_old : ∀ r, r ≠ 2000 + zd h e 25 → (mlive m' q r ↔ mlive m q r) := by
    intro r rn
    unfold mlive
    rw [cb 138 (by decide), cb 139 (by decide), cc 67 (by decide), cc 58 (by decide), w156, if_neg (by exact fun w => rn (by omega))]
    have : zd m' 155 q = zd m 155 q ∨ zd m' 155 q = zd m 155 q + 1 := by rw [w155]; split <;> omega
    constructor
    · rintro (z | z | ⟨z1, z2, z3⟩)
      · exact Or.inl z
      · exact Or.inr (Or.inl z)
      · exact Or.inr (Or.inr ⟨z1, by omega, z3⟩)
    · rintro (z | z | ⟨z1, z2, z3⟩)
      · exact Or.inl z
      · exact Or.inr (Or.inl z)
      · exact Or.inr (Or.inr ⟨z1, by omega, z3⟩)
  have live_new : mlive m' q (2000 + zd h e 25) ↔ a ≠ 0 := by
    unfold mlive
    rw [cb 138 (by decide), cc 67 (by decide), w156, w155, show 800 * q + (2000 + zd h e 25) - 2000 = 800 * q + zd h e 25 by omega]
    have := R1.2.1; have := R1.2.2.1
    by_cases z : a = 0
    · rw [if_pos z]
      constructor
      · intro w; omega
      · intro w; exact absurd z w
    · rw [if_neg z, if_pos ⟨z, rfl⟩]
      exact ⟨fun _ => z, fun _ => Or.inr (Or.inr ⟨by omega, by omega, by decide⟩)⟩
  have num_new : num (564 + zd h e 25) = 2000 + zd h e 25 := by unfold num; rw [if_neg (by omega), if_neg (by omega)]; omega
  have msz_new : msz m' q (2000 + zd h e 25) = zd h e 50 := by
    unfold msz
    rw [if_neg (by omega), if_neg (by omega), w152, w152, if_pos (by omega), if_neg (by omega), show 801 * q + (2000 + zd h e 25) - 2000 = 801 * q + zd h e 25 by omega]; omega
  have mit_new : ∀ i, 0 ≤ i → i < zd h e 50 → mit m' q (2000 + zd h e 25) i = zd h (e + 28) i := by
    intro i i0 i1
    unfold mit
    rw [if_neg (by omega), if_neg (by omega), w152, if_neg (by omega), show 801 * q + (2000 + zd h e 25) - 2000 = 801 * q + zd h e 25 by omega, w153, if_pos (by omega), show 8050 * q + zd m 152 (801 * q + zd h e 25) + i - (8050 * q + zd m 152 (801 * q + zd h e 25)) = i by omega]
    exact hfr i i0 i1
  refine ⟨?_, ?_, ?_, ?_, ?_, ?_, ?_, ?_⟩
  · -- MRows
    rw [e11]
    obtain ⟨v, b1, b2, b3, b4⟩ := R1
    refine ⟨by unfold MV; rw [cb 143 (by decide)]; exact v, by rw [cb 138 (by decide)]; exact b1, by rw [cc 67 (by decide)]; exact b2, by rw [w155]; split <;> omega, fun r l => ?_⟩
    by_cases z : r = 2000 + zd h e 25
    · rw [z]
      refine ⟨Or.inr (Or.inr ?_), fun i i0 i1 => ?_⟩
      · rw [w152, w152, if_neg (by omega), if_pos (by omega), show 801 * q + (2000 + zd h e 25) - 2000 = 801 * q + zd h e 25 by omega]; omega
      · rw [msz_new] at i1
        rw [mit_new i i0 i1]; exact hit i i0 i1
    · have l0 := (live_old r z).mp l
      obtain ⟨s1, s2⟩ := msz_old r l0
      have o := b4 r l0
      refine ⟨?_, fun i i0 i1 => ?_⟩
      · rw [cb 119 (by decide), cb 123 (by decide), cc 66 (by decide)]
        rcases o.1 with x | x | x
        · exact Or.inl x
        · exact Or.inr (Or.inl x)
        · have lr : r < 2000 + zd m 155 q := by unfold mlive at l0; omega
          refine Or.inr (Or.inr ?_)
          rw [w152, w152, if_neg (show ¬ 801 * q + r - 1999 = 801 * q + zd h e 25 + 1 by omega), if_neg (show ¬ 801 * q + r - 2000 = 801 * q + zd h e 25 + 1 by omega)]; exact x
      · rw [s1] at i1
        rw [s2 i i0 i1]; exact o.2 i i0 i1
  · exact R2'.cg (fun k hk => ca k (by simp only [List.mem_cons, List.not_mem_nil, or_false] at hk ⊢; omega)) (fun k hk => cf k (by simp only [List.mem_cons, List.not_mem_nil, or_false] at hk; omega) (by simp only [List.mem_cons, List.not_mem_nil, or_false] at hk; omega) (by simp only [List.mem_cons, List.not_mem_nil, or_false] at hk; omega) (by simp only [List.mem_cons, List.not_mem_nil, or_false] at hk; omega)) (fun k hk => cb k (by simp only [List.mem_cons, List.not_mem_nil, or_false] at hk ⊢; omega))
  · -- R3
    refine ⟨fun s s0 s1 st => ?_, fun r l => ?_⟩
    · rw [K5] at st
      by_cases z : s = 564 + zd h e 25
      · rw [if_pos z] at st
        have an : a ≠ 0 := fun w => by rw [if_pos w] at st; omega
        rw [z, num_new]
        refine ⟨live_new.mpr an, ?_, fun i i0 i1 => ?_⟩
        · rw [K4, if_pos rfl, msz_new]
        · rw [K4, if_pos rfl] at i1
          rw [K3, if_pos rfl, K6, if_pos (by omega), mit_new i i0 i1]; congr 1; omega
      · rw [if_neg z] at st
        obtain ⟨l, g1, g2⟩ := R3'.1 s s0 s1 st
        have nn : num s ≠ 2000 + zd h e 25 := fun w => z (num_inj (w.trans num_new.symm))
        obtain ⟨o1, o2, o3⟩ := old s s0 s1 z st
        obtain ⟨x1, x2⟩ := msz_old (num s) l
        refine ⟨(live_old _ nn).mpr l, ?_, fun i i0 i1 => ?_⟩
        · rw [o2, x1]; exact g1
        · rw [o2] at i1
          rw [o1, o3 i i0 i1, x2 i i0 (by rw [← g1]; exact i1)]; exact g2 i i0 i1
    · by_cases z : r = 2000 + zd h e 25
      · rw [z] at l
        have an := live_new.mp l
        exact ⟨564 + zd h e 25, by omega, by omega, by rw [K5, if_pos rfl, if_neg an], by rw [num_new, z]⟩
      · obtain ⟨s, s0, s1, s2, s3⟩ := R3'.2 r ((live_old r z).mp l)
        have sn : s ≠ 564 + zd h e 25 := fun w => noth (by rw [← w]; exact s2)
        exact ⟨s, s0, s1, by rw [K5, if_neg sn]; exact s2, s3⟩
  · exact R4'.cg (fun k hk => ca k (by simp only [List.mem_cons, List.not_mem_nil, or_false] at hk ⊢; omega)) (fun k hk => cf k (by simp only [List.mem_cons, List.not_mem_nil, or_false] at hk; omega) (by simp only [List.mem_cons, List.not_mem_nil, or_false] at hk; omega) (by simp only [List.mem_cons, List.not_mem_nil, or_false] at hk; omega) (by simp only [List.mem_cons, List.not_mem_nil, or_false] at hk; omega)) (fun k hk => cb k (by simp only [List.mem_cons, List.not_mem_nil, or_false] at hk ⊢; omega))
  · -- R5
    have e26 : zd h' e 26 = zd h e 26 + zd h e 50 := by rw [K2, if_neg (by decide), if_pos rfl]
    refine ⟨by rw [e25, w154]; omega, ?_, ?_, fun k k0 k1 => ?_, ?_, by rw [w155, e25]; split <;> omega, fun k k0 k1 => ?_, fun k k0 k1 => ?_, ?_⟩
    · rw [e26, e25, w152, if_pos (by omega), c4]
    · rw [w152, if_neg (by omega)]; exact c5
    · rw [e25] at k1
      rw [w152, w152, if_neg (by omega)]
      by_cases z : k = zd h e 25
      · rw [if_pos (by omega), z]; omega
      · rw [if_neg (by omega)]; exact c6 k k0 (by omega)
    · rw [e25, w152, if_pos (by omega)]; omega
    · rw [w155] at k1
      rw [K7, w157]
      by_cases z : a = 0
      · rw [if_pos z] at k1
        rw [if_neg (by omega), if_neg (by exact fun w => w.1 z)]; exact c10 k k0 k1
      · rw [if_neg z] at k1
        by_cases y : k = zd h e 25
        · rw [if_pos y, if_pos ⟨z, by omega⟩]
        · rw [if_neg y, if_neg (by omega)]; exact c10 k k0 (by omega)
    · rw [e25] at k1
      rw [e11]
      by_cases z : k = zd h e 25
      · rw [z, K3, K4, if_pos rfl, if_pos rfl, w152, w152, if_pos rfl, if_neg (by omega)]
        refine ⟨by rw [K2, if_neg (by decide), if_neg (by decide), if_pos rfl]; omega, by omega, fun i i0 i1 => ?_⟩
        rw [K6, if_pos (by omega), show zd h e 10 + i - zd h e 10 = i by omega, w153, if_pos (by omega), show 8050 * q + zd m 152 (801 * q + zd h e 25) + i - (8050 * q + zd m 152 (801 * q + zd h e 25)) = i by omega]
        exact ⟨(hfr i i0 i1).symm, hit i i0 i1⟩
      · obtain ⟨d0, d1, d2⟩ := c11 k k0 (by omega)
        have b := rec_le r5 (k := k + 1) (l := zd h e 25) (by omega) (by omega) (Int.le_refl _)
        rw [show 801 * q + (k + 1) = 801 * q + k + 1 by omega] at b
        have b2 := rec_le r5 (k := k) (l := zd h e 25) k0 (by omega) (Int.le_refl _)
        rw [K3, K4, if_neg (by omega), if_neg (by omega), w152, w152, if_neg (by omega), if_neg (by omega)]
        refine ⟨by rw [K2, if_neg (by decide), if_neg (by decide), if_pos rfl]; omega, d1, fun i i0 i1 => ?_⟩
        obtain ⟨d3, d4⟩ := d2 i i0 i1
        rw [w153, if_neg (by omega), K6, if_neg (by omega)]; exact ⟨d3, d4⟩
    · have f37 : zd h' e 37 = if a ≠ 0 then w32 (zd h e 37 + 1) else zd h e 37 := by
        rw [K2, if_neg (by decide), if_neg (by decide), if_neg (by decide)]
        by_cases z : a = 0
        · rw [if_neg (by exact fun w => w.2 z), if_neg (by exact fun w => w z)]
        · rw [if_pos ⟨rfl, z⟩, if_pos z]
      have zl := zct_le (zd h (e + 5)) 1 564 (zd m 155 q).toNat
      have sm : zct (zd h' (e + 5)) 1 564 (zd m 155 q).toNat = zct (zd h (e + 5)) 1 564 (zd m 155 q).toNat := zct_congr (fun i i0 i1 => by rw [K5, if_neg (by omega)])
      rw [f37, w155]
      by_cases z : a = 0
      · rw [if_neg (by exact fun w => w z), if_pos z, sm]; exact c12
      · rw [if_pos z, if_neg z, w32_of (by omega) (by omega), show (zd m 155 q + 1).toNat = (zd m 155 q).toNat + 1 by omega]
        show _ = zct (zd h' (e + 5)) 1 564 (zd m 155 q).toNat + if zd h' (e + 5) (564 + ((zd m 155 q).toNat : Int)) = 1 then 1 else 0
        rw [sm, if_pos (by rw [K5, if_pos (by omega), if_neg z])]; omega
  · -- R6
    refine ⟨?_, fun k k0 k1 w b w0 w1 b1 => ?_⟩
    · rw [e11, ca 11 (by decide), ca 12 (by decide), ca 16 (by decide), cb 159 (by decide)]; exact R6'.1
    · rw [e25] at k1
      rw [K8, w158]
      by_cases z : k = zd h e 25
      · rw [z, if_pos (by omega), if_pos (by omega), show zd h e 25 * 8 + w - zd h e 25 * 8 = w by omega, show 8 * (800 * q + zd h e 25) + w - 8 * (800 * q + zd h e 25) = w by omega]
        exact hsr w b w0 w1 b1
      · rw [if_neg (by omega), if_neg (by omega)]; exact R6'.2 k k0 (by omega) w b w0 w1 b1
  · exact R8'.cg (fun k hk => ca k (by simp only [List.mem_cons, List.not_mem_nil, or_false] at hk ⊢; omega)) (fun k hk => cf k (by simp only [List.mem_cons, List.not_mem_nil, or_false] at hk; omega) (by simp only [List.mem_cons, List.not_mem_nil, or_false] at hk; omega) (by simp only [List.mem_cons, List.not_mem_nil, or_false] at hk; omega) (by simp only [List.mem_cons, List.not_mem_nil, or_false] at hk; omega)) (fun k hk => cb k (by simp only [List.mem_cons, List.not_mem_nil, or_false] at hk ⊢; omega))
  · exact R9'.cg (fun k hk => cc k (by simp only [List.mem_cons, List.not_mem_nil, or_false] at hk ⊢; omega)) (fun k _ => K1.d (by simp only [List.mem_cons, List.not_mem_nil, or_false]; omega) k)
