/-! learning: the set, here and there -/
theorem EInv.cg {e top : Int} {h h' : zH} (p : EInv e h top) (ca : ∀ k, k ∈ ([1, 2, 3, 4, 5, 6, 7, 8, 9, 10, 11, 12, 13, 17, 18] : List Int) → zd h' (e + k) = zd h (e + k)) (cf : ∀ k, k ∈ ([10, 11, 20, 21] : List Int) → zd h' e k = zd h e k) (ht : zt h' (e + 16) = zt h (e + 16)) (hl : zl h' (e + 16) = zl h (e + 16)) : EInv e h' top := by
  obtain ⟨p1, p2, p3, p4, p5, p6, p7⟩ := p
  refine ⟨p1.cg (cf 10 (by decide)) (cf 11 (by decide)) (ca 1 (by decide)) (ca 2 (by decide)) (ca 5 (by decide)) (ca 7 (by decide)) (ca 8 (by decide)) (ca 9 (by decide)) (ca 10 (by decide)), ⟨fun s ls => ?_, p2.2.1.cg (ca 2 (by decide)) (ca 3 (by decide)) (ca 4 (by decide)) (ca 5 (by decide)) (ca 6 (by decide)), ?_⟩, ?_, ?_, ?_, ht.trans p6, hl.trans p7⟩
  · have := p2.1 s ((elaid.cg (cf 10 (by decide)) (ca 5 (by decide)) (ca 8 (by decide))).mp ls)
    unfold ecnt est at this ⊢
    rw [ca 4 (by decide), ca 3 (by decide), ca 11 (by decide), ca 7 (by decide), ca 1 (by decide), ca 2 (by decide)]
    exact this
  · rw [cf 11 (by decide), ca 11 (by decide)]; exact p2.2.2
  · unfold ET est at p3 ⊢
    rw [cf 20 (by decide), cf 11 (by decide), ca 17 (by decide), ca 11 (by decide)]; exact p3
  · unfold ELv ELg tn at p4 ⊢
    rw [cf 20 (by decide), cf 11 (by decide), cf 21 (by decide), ca 17 (by decide), ca 11 (by decide), ca 12 (by decide), ca 18 (by decide)]; exact p4
  · unfold EO EOi tn at p5 ⊢
    rw [cf 20 (by decide), ca 17 (by decide), ca 13 (by decide), ca 12 (by decide), ca 18 (by decide), ca 5 (by decide), ca 1 (by decide), ca 2 (by decide), ca 7 (by decide)]; exact p5
theorem EX.cg {e : Int} {h h' : zH} (p : EX e h) (ca : ∀ k, k ∈ ([1, 2, 5, 7, 11, 12] : List Int) → zd h' (e + k) = zd h (e + k)) (cf : zd h' e 21 = zd h e 21) : EX e h' := by
  unfold EX est at p ⊢
  rw [cf, ca 1 (by decide), ca 2 (by decide), ca 5 (by decide), ca 7 (by decide), ca 11 (by decide), ca 12 (by decide)]; exact p
/-- what the sets are, here and there -/
def GLr (e q : Int) (h m : zH) : Prop := (∀ n, 1 ≤ n → n ≤ zd h e 11 → zd h (e + 25) n = zd m 168 n ∧ zd h (e + 26) n = zd m 169 n) ∧
  (∀ w b, 0 ≤ w → w < 8 → b < 64 → (hb (zd h (e + 29) w) b = true ↔ ∃ i, 0 ≤ i ∧ i < zd m 101 106 ∧ (srcM m q (zd m 170 i) w b = true ∨ lowM m q (zd m 170 i) 0 w b))) ∧
  (∀ k, 0 ≤ k → zct (zd h (e + 30)) k 0 (zd h e 54).toNat = zct (zd m 170) (2000 + k) 0 (zd m 101 106).toNat) ∧ (∀ i, 0 ≤ i → i < zd m 101 106 → ∃ s, 0 ≤ s ∧ s < 1364 ∧ zd h (e + 5) s = 1 ∧ zd m 170 i = num s) ∧ (0 ≤ zd h e 54 ∧ zd h e 54 ≤ zd m 101 106)
theorem zct_snoc {f g : Int → Int} {v x : Int} {n : Nat} (hs : ∀ j : Int, 0 ≤ j → j < n → g j = f j) (hn : g n = x) : zct g v 0 (n + 1) = zct f v 0 n + if x = v then 1 else 0 := by
  show zct g v 0 n + (if g (0 + (n : Int)) = v then 1 else 0) = _
  rw [zct_congr (g := f) (u := v) (fun i i0 i1 => by rw [hs i i0 (by omega)]), show (0 : Int) + (n : Int) = n by omega, hn]
theorem lowM_cg {m m' : zH} {q r but w : Int} {b : Nat} (cb : ∀ k, k ∈ ([119, 120, 123, 124, 143, 144, 152, 153, 159] : List Int) → zd m' k = zd m k) (cc : zd m' 101 66 = zd m 101 66) : lowM m' q r but w b ↔ lowM m q r but w b := by
  unfold lowM msz mit
  rw [cb 119 (by decide), cb 120 (by decide), cb 123 (by decide), cb 124 (by decide), cb 143 (by decide), cb 144 (by decide), cb 152 (by decide), cb 153 (by decide), cb 159 (by decide), cc]
/-- one row more -/
theorem S_gather {e q s but top r : Int} {h h' m m' : zH} (he : zE e) (q0 : 0 ≤ q) (q1 : q ≤ 1) (p : EInv e h top) (R : RMs e q h m) (s0 : 0 ≤ s) (s1 : s < 1364) (ht : zd h (e + 5) s = 1) (hv : ∀ c, zd h (e + 1) s ≤ c → c < zd h (e + 1) s + zd h (e + 2) s → zd h (e + 11) (zab (zd h (e + 7) c)) ≠ 0) (hb' : but = 0 ∨ zd h (e + 12) but ≠ 0) (ha : ∀ n, 1 ≤ n → n ≤ zd h e 11 → zd h (e + 25) n = 1 → zd h (e + 11) n ≠ 0) (eg : EG e h) (mg : MG (zd h e 11) m) (g : GLr e q h m) (hu : 0 ≤ zd m 101 106) (pe : EgatP e s but (zd h e 21) h h' r) (pm : MuseP q (zd h e 11) (num s) but m m') : RMs e q h' m' ∧ GLr e q h' m' ∧ zd m' 101 104 = zd m 101 104 + r := by
  have eR : 25 ≤ e ∧ e ≤ 58 := by rcases he with z | z <;> omega
  obtain ⟨hs, hc, hT, hL, -, -, -⟩ := p
  obtain ⟨E1, E2, E3, E4, E5, E6, E7, E8, E9⟩ := pe
  obtain ⟨M1, M2, M3, M4, M5, M6, M7⟩ := pm
  obtain ⟨r1, r2, r3, r4, r5, r6, r8, r9⟩ := id R
  have ls : elaid e h s := Or.inl ⟨s0, s1, ht⟩
  obtain ⟨-, ⟨f0, z0, f1⟩, -⟩ := hs.2.2.2.2.2.1 s ls
  obtain ⟨lv, g1, g2⟩ := r3.1 s s0 s1 ht
  have it : ∀ c, zd h (e + 1) s ≤ c → c < zd h (e + 1) s + zd h (e + 2) s → eit (zd h e 11) (zd h (e + 7) c) := fun c k0 k1 => (hs.2.2.2.2.1 c (by omega) (by omega)).1
  have lvl : ∀ c, zd h (e + 1) s ≤ c → c < zd h (e + 1) s + zd h (e + 2) s → zd h (e + 12) (zab (zd h (e + 7) c)) = zd m 144 (301 * q + zab (zd h (e + 7) c)) ∧ 0 ≤ zd h (e + 12) (zab (zd h (e + 7) c)) ∧ zd m 143 (301 * q + zab (zd h (e + 7) c)) ≠ 2 := by
    intro c k0 k1
    have zr := zab_r (it c k0 k1)
    have v := hv c k0 k1
    have a := (r2.2.1 _ zr.1 zr.2 v).1
    have b := r2.1 _ zr.1 zr.2
    obtain ⟨i, i0, i1, i2⟩ := hL.1.2.2.2 _ zr.1 zr.2 v
    have c' := hL.1.2.1 i i0 i1
    rw [i2] at c'
    unfold vrel at b
    exact ⟨a, c'.1, by omega⟩
  have sw : ∀ c, zd h (e + 1) s ≤ c → c < zd h (e + 1) s + zd h (e + 2) s → zd h (e + 7) c = mit m q (num s) (c - zd h (e + 1) s) := by
    intro c k0 k1
    rw [← g2 _ (by omega) (by omega), show zd h (e + 1) s + (c - zd h (e + 1) s) = c by omega]
  have has : ∀ n, rowHas e h s but n (zd h (e + 1) s) ↔ mrHas q m (num s) but n 0 := by
    intro n
    unfold rowHas mrHas
    constructor
    · rintro ⟨c, c0, c1, c2, c3, c4⟩
      have l := lvl c c0 c1
      rw [c2] at l
      exact ⟨c - zd h (e + 1) s, by omega, by rw [← g1]; omega, by rw [← sw c c0 c1]; exact c2, c3, by omega⟩
    · rintro ⟨i, i0, i1, i2, i3, i4⟩
      rw [← g1] at i1
      rw [← g2 i i0 i1] at i2
      have l := lvl (zd h (e + 1) s + i) (by omega) (by omega)
      rw [i2] at l
      exact ⟨zd h (e + 1) s + i, by omega, by omega, i2, i3, by omega⟩
  have low : ∀ w b, 0 ≤ w → w < 8 → b < 64 → (lowE e h s but w b (zd h (e + 1) s) ↔ lowM m q (num s) 0 w b) := by
    intro w b w0 w1 b1
    unfold lowE lowM
    constructor
    · rintro ⟨c, c0, c1, c2, c3, c4⟩
      have l := lvl c c0 c1
      have zr := zab_r (it c c0 c1)
      rw [r6.1 _ zr.1 zr.2 (hv c c0 c1) c3 w b w0 w1 b1] at c4
      refine ⟨c - zd h (e + 1) s, by omega, by rw [← g1]; omega, ?_⟩
      rw [← sw c c0 c1]
      exact ⟨by omega, l.2.2, by omega, c4⟩
    · rintro ⟨i, i0, i1, i2, i3, i4, i5⟩
      rw [← g1] at i1
      rw [← g2 i i0 i1] at i2 i3 i4 i5
      have l := lvl (zd h (e + 1) s + i) (by omega) (by omega)
      have zr := zab_r (it (zd h (e + 1) s + i) (by omega) (by omega))
      have z : zd h (e + 12) (zab (zd h (e + 7) (zd h (e + 1) s + i))) = 0 := by omega
      rw [← r6.1 _ zr.1 zr.2 (hv _ (by omega) (by omega)) z w b w0 w1 b1] at i5
      refine ⟨zd h (e + 1) s + i, by omega, by omega, fun q => ?_, z, i5⟩
      rcases hb' with y | y
      · omega
      · rw [← q] at y; exact y z
  have ca : ∀ k, k ∈ ([1, 2, 5, 7, 11, 12, 13, 14, 15, 16, 17, 19, 20, 21] : List Int) → zd h' (e + k) = zd h (e + k) := fun k hk => E1.f (by simp only [List.mem_cons, List.not_mem_nil, or_false] at hk ⊢; omega)
  have cf : ∀ k, k ≠ 52 → k ≠ 54 → zd h' e k = zd h e k := E2
  have cb : ∀ k, k ∈ ([119, 120, 123, 124, 137, 138, 139, 140, 141, 143, 144, 145, 146, 147, 148, 149, 150, 151, 152, 153, 154, 155, 156, 157, 158, 159] : List Int) → zd m' k = zd m k := fun k hk => M1.f (by simp only [List.mem_cons, List.not_mem_nil, or_false] at hk ⊢; omega)
  have R' : RMs e q h' m' := R.cg ca (fun k hk => cf k (by simp only [List.mem_cons, List.not_mem_nil, or_false] at hk; omega) (by simp only [List.mem_cons, List.not_mem_nil, or_false] at hk; omega)) (fun k _ => E1.d (by simp only [List.mem_cons, List.not_mem_nil, or_false]; omega) k) cb (fun k hk => M2 k (by simp only [List.mem_cons, List.not_mem_nil, or_false] at hk; omega) (by simp only [List.mem_cons, List.not_mem_nil, or_false] at hk; omega))
  have a11 : zd h' e 11 = zd h e 11 := cf 11 (by decide) (by decide)
  obtain ⟨G1, G2, G3, G4, G5⟩ := g
  have same1 : ∀ n, 1 ≤ n → n ≤ zd h e 11 → zd h' (e + 25) n = zd m' 168 n ∧ zd h' (e + 26) n = zd m' 169 n := by
    intro n n0 n1
    obtain ⟨a1, a2⟩ := E4 n n0 n1
    obtain ⟨b1, b2⟩ := M4 n n0 n1
    have x := E3 n n0 (by rw [a11]; exact n1)
    have y := M3 n n0 n1
    obtain ⟨c1, c2⟩ := G1 n n0 n1
    rw [c1, has n] at a1
    rw [c2, has n] at a2
    have d1 : zd h' (e + 25) n = 1 ↔ zd m' 168 n = 1 := a1.trans b1.symm
    have d2 : zd h' (e + 26) n = 1 ↔ zd m' 169 n = 1 := a2.trans b2.symm
    omega
  have lev : zd m 151 q = zd h e 21 := r2.2.2.2.2.1.symm
  have mk : ∀ (g : zH) (g' : zH), zd g e 11 = zd h e 11 → zd g (e + 12) = zd h (e + 12) → zd g' 144 = zd m 144 → (∀ n, 1 ≤ n → n ≤ zd h e 11 → zd g (e + 25) n = zd g' 168 n ∧ (zd g (e + 25) n = 1 → zd h (e + 11) n ≠ 0)) → cmk e g (zd h e 21) = mmk q (zd h e 11) g' (zd m 151 q) := by
    intro g g' a b c d
    unfold cmk mmk
    rw [a, b, c, lev]
    refine zct_congr (fun n n0 n1 => ?_)
    obtain ⟨d1, d2⟩ := d n (by omega) (by omega)
    by_cases y : zd g (e + 25) n = 1
    · have l := (r2.2.1 n (by omega) (by omega) (d2 y)).1
      rw [← d1, ← l]
    · rw [if_neg (by exact fun q => y q.1), if_neg (by exact fun q => y (by rw [d1]; exact q.1))]
  have vm : ∀ n, 1 ≤ n → n ≤ zd h e 11 → zd h' (e + 25) n = 1 → zd h (e + 25) n = 1 ∨ zd h (e + 11) n ≠ 0 := by
    intro n n0 n1 y
    rcases ((E4 n n0 n1).1.mp y) with z | ⟨c, c0, c1, c2, _⟩
    · exact Or.inl z
    · right; rw [← c2]; exact hv c c0 c1
  refine ⟨R', ⟨fun n n0 n1 => same1 n n0 (by rw [← a11]; exact n1), fun w b w0 w1 b1 => ?_, fun k k0 => ?_, fun i i0 i1 => ?_, ?_⟩, ?_⟩
  · rw [E7 w b w0 w1 b1, G2 w b w0 w1 b1, S_src r1 r3 r5 r6 s0 s1 ht w0 w1 b1, low w b w0 w1 b1, M6]
    have cbl : ∀ k, k ∈ ([119, 120, 123, 124, 143, 144, 152, 153, 159] : List Int) → zd m' k = zd m k := fun k hk => cb k (by simp only [List.mem_cons, List.not_mem_nil, or_false] at hk ⊢; omega)
    have c66 := M2 66 (by decide) (by decide)
    have s158 : ∀ r, srcM m' q r w b = srcM m q r w b := fun r => by unfold srcM; rw [cb 158 (by decide)]
    constructor
    · rintro (⟨i, i0, i1, i2⟩ | y)
      · refine ⟨i, i0, by omega, ?_⟩
        rw [M7, if_neg (by omega), s158, lowM_cg cbl c66]; exact i2
      · refine ⟨zd m 101 106, hu, by omega, ?_⟩
        rw [M7, if_pos rfl, s158, lowM_cg cbl c66]; exact y
    · rintro ⟨i, i0, i1, i2⟩
      rw [M7, s158, lowM_cg cbl c66] at i2
      by_cases z : i = zd m 101 106
      · rw [if_pos z] at i2; exact Or.inr i2
      · rw [if_neg z] at i2; exact Or.inl ⟨i, i0, by omega, i2⟩
  · rw [M6, show (zd m 101 106 + 1).toNat = (zd m 101 106).toNat + 1 by omega, zct_snoc (f := zd m 170) (x := num s) (fun j j0 j1 => by rw [M7, if_neg (by omega)]) (by rw [M7, if_pos (by omega)]), ← G3 k k0]
    by_cases c : s < 564
    · obtain ⟨u1, u2⟩ := E8 c
      rw [u1, u2, if_neg (by unfold num; split <;> (try split) <;> omega)]; omega
    · obtain ⟨u1, u2⟩ := E9 (by omega)
      rw [u1, show (zd h e 54 + 1).toNat = (zd h e 54).toNat + 1 by omega, zct_snoc (f := zd h (e + 30)) (x := s - 564) (fun j j0 j1 => by rw [u2, if_neg (by omega)]) (by rw [u2, if_pos (by omega)])]
      have : num s = s + 1436 := by unfold num; rw [if_neg (by omega), if_neg c]
      rw [this]
      by_cases z : s - 564 = k
      · rw [if_pos z, if_pos (by omega)]
      · rw [if_neg z, if_neg (by omega)]
  · rw [M6] at i1
    rw [M7, ca 5 (by decide)]
    by_cases z : i = zd m 101 106
    · rw [if_pos z]; exact ⟨s, s0, s1, ht, rfl⟩
    · rw [if_neg z]; exact G4 i i0 (by omega)
  · rw [M6]
    by_cases c : s < 564
    · rw [(E8 c).1]; omega
    · rw [(E9 (by omega)).1]; omega
  · rw [M5, E5, mk h' m' a11 (ca 12 (by decide)) (cb 144 (by decide)) (fun n n0 n1 => ⟨(same1 n n0 n1).1, fun y => (vm n n0 n1 y).elim (ha n n0 n1) id⟩), mk h m rfl rfl rfl (fun n n0 n1 => ⟨(G1 n n0 n1).1, ha n n0 n1⟩)]
