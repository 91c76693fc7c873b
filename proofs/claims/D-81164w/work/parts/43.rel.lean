/-! an engine against one of the model's solvings -/
def num (s : Int) : Int := if s < 500 then s else if s < 564 then s + 500 else s + 1436
theorem num_lt {s t : Int} (h0 : 0 ≤ s) (h1 : t < 1364) : s < t ↔ num s < num t := by unfold num; split <;> split <;> (try split) <;> (try split) <;> omega
theorem num_inj {s t : Int} (h : num s = num t) : s = t := by
  unfold num at h
  split at h <;> split at h <;> (try split at h) <;> (try split at h) <;> omega
theorem num_r {s : Int} (h0 : 0 ≤ s) (h1 : s < 1364) : 0 ≤ num s ∧ num s < 2800 := by unfold num; split <;> (try split) <;> omega
def vrel (v V : Int) : Prop := (v = 0 ∧ V = 2) ∨ (v = 1 ∧ V = 1) ∨ (v = -1 ∧ V = 0)
def rrel (r R : Int) : Prop := (r = -1005 ∧ R = -7) ∨ (0 ≤ r ∧ r < 1364 ∧ R = num r)
/-- names: what they are, at which level, why; the trail -/
def R2 (e q : Int) (h m : zH) : Prop := (∀ n, 1 ≤ n → n ≤ zd h e 11 → vrel (zd h (e + 11) n) (zd m 143 (301 * q + n))) ∧
  (∀ n, 1 ≤ n → n ≤ zd h e 11 → zd h (e + 11) n ≠ 0 → zd h (e + 12) n = zd m 144 (301 * q + n) ∧ rrel (zd h (e + 13) n) (zd m 145 (301 * q + n))) ∧
  zd h e 20 = zd m 150 q ∧ (∀ i, 0 ≤ i → i < zd h e 20 → zd h (e + 17) i = zd m 149 (300 * q + i)) ∧ zd h e 21 = zd m 151 q ∧ zd h e 11 = zd m 137 q
def rsim (e q : Int) (h m : zH) (s r : Int) : Prop := zd h (e + 2) s = msz m q r ∧ ∀ i, 0 ≤ i → i < zd h (e + 2) s → zd h (e + 7) (zd h (e + 1) s + i) = mit m q r i
/-- rows -/
def R3 (e q : Int) (h m : zH) : Prop := (∀ s, 0 ≤ s → s < 1364 → zd h (e + 5) s = 1 → mlive m q (num s) ∧ rsim e q h m s (num s)) ∧ ∀ r, mlive m q r → ∃ s, 0 ≤ s ∧ s < 1364 ∧ zd h (e + 5) s = 1 ∧ num s = r
theorem R2.st {e q : Int} {h m : zH} (p : R2 e q h m) {x : Int} (hx : eit (zd h e 11) x) : (est e h x = 0 ↔ mst m q x = 2) ∧ (est e h x = 1 ↔ mst m q x = 1) ∧ (est e h x = -1 ↔ mst m q x = 0) := by
  have := p.1 (zab x) (zab_r hx).1 (zab_r hx).2
  rw [est_ab e h hx]
  unfold mst
  unfold eit at hx
  rcases this with ⟨a, b⟩ | ⟨a, b⟩ | ⟨a, b⟩
  · rw [a, b, if_pos rfl]; split <;> omega
  · rw [a, b, if_neg (show ¬ (1 : Int) = 2 by decide)]
    by_cases c : 0 < x
    · rw [if_pos c, if_neg (show ¬ x ≤ 0 by omega)]; omega
    · rw [if_neg c, if_pos (show x ≤ 0 by omega)]; omega
  · rw [a, b, if_neg (show ¬ (0 : Int) = 2 by decide)]
    by_cases c : 0 < x
    · rw [if_pos c, if_neg (show ¬ x ≤ 0 by omega)]; omega
    · rw [if_neg c, if_pos (show x ≤ 0 by omega)]; omega
/-- a quarrel here is one there -/
theorem bz_q {e q top : Int} {h m : zH} (hs : ES e h top) (hc : EC e h) (p2 : R2 e q h m) (p3 : R3 e q h m) {s : Int} (s0 : 0 ≤ s) (s1 : s < 1364) (ht : zd h (e + 5) s = 1) : Equar e h s ↔ mq0 m q (num s) := by
  have ls : elaid e h s := Or.inl ⟨s0, s1, ht⟩
  obtain ⟨-, ⟨f0, z0, f1⟩, -⟩ := hs.2.2.2.2.2.1 s ls
  obtain ⟨c1, c2⟩ := hc.1 s ls
  obtain ⟨-, g1, g2⟩ := p3.1 s s0 s1 ht
  unfold Equar mq0
  rw [c1, c2]
  unfold ecnt
  have it : ∀ i, 0 ≤ i → i < zd h (e + 2) s → eit (zd h e 11) (zd h (e + 7) (zd h (e + 1) s + i)) := fun i i0 i1 => (hs.2.2.2.2.1 _ (by omega) (by omega)).1
  have zn' : ((zd h (e + 2) s).toNat : Int) = zd h (e + 2) s := by omega
  constructor
  · rintro ⟨-, -, q3⟩ i i0 i1
    rw [← g1] at i1
    rw [← g2 i i0 i1]
    have al := zct_all.mp (q3.trans zn'.symm) (zd h (e + 1) s + i) (by omega) (by omega)
    exact (p2.st (it i i0 i1)).2.2.mp al
  · intro al
    have fa : ∀ c, zd h (e + 1) s ≤ c → c < zd h (e + 1) s + (zd h (e + 2) s).toNat → est e h (zd h (e + 7) c) = -1 := by
      intro c k0 k1
      have := al (c - zd h (e + 1) s) (by omega) (by rw [← g1]; omega)
      rw [← g2 _ (by omega) (by omega), show zd h (e + 1) s + (c - zd h (e + 1) s) = c by omega] at this
      have i2 := it (c - zd h (e + 1) s) (by omega) (by omega)
      rw [show zd h (e + 1) s + (c - zd h (e + 1) s) = c by omega] at i2
      exact (p2.st i2).2.2.mpr this
    refine ⟨by omega, zct_0.mpr (fun c k0 k1 => by rw [fa c k0 k1]; decide), ?_⟩
    rw [zct_all.mpr fa]; exact zn'
/-- a row that forces here does so there -/
theorem bz_f {e q top : Int} {h m : zH} (hs : ES e h top) (hc : EC e h) (p2 : R2 e q h m) (p3 : R3 e q h m) {s : Int} (s0 : 0 ≤ s) (s1 : s < 1364) (ht : zd h (e + 5) s = 1) : (Ehot e h s ∧ ¬ Equar e h s) ↔ ∃ u, mf1 m q (num s) u := by
  have ls : elaid e h s := Or.inl ⟨s0, s1, ht⟩
  obtain ⟨-, ⟨f0, z0, f1⟩, -⟩ := hs.2.2.2.2.2.1 s ls
  obtain ⟨c1, c2⟩ := hc.1 s ls
  obtain ⟨-, g1, g2⟩ := p3.1 s s0 s1 ht
  unfold Ehot Equar
  rw [c1, c2]
  unfold ecnt
  have it : ∀ i, 0 ≤ i → i < zd h (e + 2) s → eit (zd h e 11) (zd h (e + 7) (zd h (e + 1) s + i)) := fun i i0 i1 => (hs.2.2.2.2.1 _ (by omega) (by omega)).1
  have zn' : ((zd h (e + 2) s).toNat : Int) = zd h (e + 2) s := by omega
  have two := zct_le (fun c => est e h (zd h (e + 7) c)) (-1) (zd h (e + 1) s) (zd h (e + 2) s).toNat
  have vr : ∀ i, 0 ≤ i → i < zd h (e + 2) s → est e h (zd h (e + 7) (zd h (e + 1) s + i)) = 0 ∨ est e h (zd h (e + 7) (zd h (e + 1) s + i)) = 1 ∨ est e h (zd h (e + 7) (zd h (e + 1) s + i)) = -1 := by
    intro i i0 i1
    have := it i i0 i1
    have v := hc.2.2 (zab (zd h (e + 7) (zd h (e + 1) s + i))) (zab_r this).1 (zab_r this).2
    rw [est_ab e h this]; split <;> omega
  constructor
  · rintro ⟨⟨-, q2, q3⟩, q4⟩
    have nq : zct (fun c => est e h (zd h (e + 7) c)) (-1) (zd h (e + 1) s) (zd h (e + 2) s).toNat ≠ zd h (e + 2) s := fun p => q4 ⟨by omega, q2, p⟩
    obtain ⟨c, k0, k1, k2, k3⟩ := zct_but (f := fun c => est e h (zd h (e + 7) c)) (v := -1) (a := zd h (e + 1) s) (n := (zd h (e + 2) s).toNat) (by omega) (by omega)
    have nt := zct_0.mp q2
    have vc := vr (c - zd h (e + 1) s) (by omega) (by omega)
    have ic := it (c - zd h (e + 1) s) (by omega) (by omega)
    rw [show zd h (e + 1) s + (c - zd h (e + 1) s) = c by omega] at vc ic
    have oc : est e h (zd h (e + 7) c) = 0 := by
      have := nt c k0 k1
      rcases vc with v | v | v
      · exact v
      · exact absurd v this
      · exact absurd v k2
    refine ⟨mit m q (num s) (c - zd h (e + 1) s), c - zd h (e + 1) s, by omega, by rw [← g1]; omega, ?_, rfl, fun j j0 j1 j2 => ?_⟩
    · rw [← g2 _ (by omega) (by omega), show zd h (e + 1) s + (c - zd h (e + 1) s) = c by omega]
      exact (p2.st ic).1.mp oc
    · rw [← g1] at j1
      rw [← g2 j j0 j1]
      exact (p2.st (it j j0 j1)).2.2.mp (k3 _ (by omega) (by omega) (by omega))
  · rintro ⟨u, i, i0, i1, i2, -, i4⟩
    rw [← g1] at i1
    rw [← g2 i i0 i1] at i2
    have oi := (p2.st (it i i0 i1)).1.mpr i2
    have fa : ∀ j, zd h (e + 1) s ≤ j → j < zd h (e + 1) s + (zd h (e + 2) s).toNat → j ≠ zd h (e + 1) s + i → est e h (zd h (e + 7) j) = -1 := by
      intro j j0 j1 j2
      have := i4 (j - zd h (e + 1) s) (by omega) (by rw [← g1]; omega) (by omega)
      rw [← g2 _ (by omega) (by omega), show zd h (e + 1) s + (j - zd h (e + 1) s) = j by omega] at this
      have ij := it (j - zd h (e + 1) s) (by omega) (by omega)
      rw [show zd h (e + 1) s + (j - zd h (e + 1) s) = j by omega] at ij
      exact (p2.st ij).2.2.mpr this
    have cb := zct_but' (f := fun c => est e h (zd h (e + 7) c)) (v := -1) (a := zd h (e + 1) s) (n := (zd h (e + 2) s).toNat) (i := zd h (e + 1) s + i) (by omega) (by omega) (by show est e h _ ≠ -1; omega) fa
    refine ⟨⟨by omega, zct_0.mpr (fun c k0 k1 => ?_), by omega⟩, fun p => by have := p.2.2; omega⟩
    by_cases d : c = zd h (e + 1) s + i
    · rw [d]; show est e h _ ≠ 1; omega
    · have := fa c k0 k1 d
      show est e h _ ≠ 1; omega
/-- the item that is open in both -/
theorem bz_u {e q top : Int} {h m : zH} (hs : ES e h top) (p2 : R2 e q h m) (p3 : R3 e q h m) {s u : Int} (s0 : 0 ≤ s) (s1 : s < 1364) (ht : zd h (e + 5) s = 1) (hf : mf1 m q (num s) u) {c : Int} (k0 : zd h (e + 1) s ≤ c) (k1 : c < zd h (e + 1) s + zd h (e + 2) s) (ko : est e h (zd h (e + 7) c) = 0) : zd h (e + 7) c = u := by
  have ls : elaid e h s := Or.inl ⟨s0, s1, ht⟩
  obtain ⟨-, ⟨f0, z0, f1⟩, -⟩ := hs.2.2.2.2.2.1 s ls
  obtain ⟨-, g1, g2⟩ := p3.1 s s0 s1 ht
  obtain ⟨i, i0, i1, i2, i3, i4⟩ := hf
  have ic := (hs.2.2.2.2.1 c (by omega) (by omega)).1
  have mc := (p2.st ic).1.mp ko
  have e1 : zd h (e + 7) c = mit m q (num s) (c - zd h (e + 1) s) := by
    rw [← g2 _ (by omega) (by omega), show zd h (e + 1) s + (c - zd h (e + 1) s) = c by omega]
  by_cases d : c - zd h (e + 1) s = i
  · rw [e1, d, i3]
  · rw [e1, i4 _ (by omega) (by rw [← g1]; omega) d] at mc; omega
