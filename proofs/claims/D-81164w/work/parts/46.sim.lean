/-! one name more, here and there -/
theorem MRows.cg {m m' : zH} {q A : Int} (p : MRows m q A) (hv : MV m' q A) (cb : ∀ k, k ∈ ([119, 120, 123, 124, 138, 139, 152, 153, 155, 156] : List Int) → zd m' k = zd m k) (cc : ∀ k, k ∈ ([58, 66, 67] : List Int) → zd m' 101 k = zd m 101 k) : MRows m' q A := by
  obtain ⟨-, p1, p2, p3, p4⟩ := p
  refine ⟨hv, ?_⟩
  unfold mlive MR msz mit at *
  rw [cb 119 (by decide), cb 120 (by decide), cb 123 (by decide), cb 124 (by decide), cb 138 (by decide), cb 139 (by decide), cb 152 (by decide), cb 153 (by decide), cb 155 (by decide), cb 156 (by decide), cc 58 (by decide), cc 66 (by decide), cc 67 (by decide)]
  exact ⟨p1, p2, p3, p4⟩
theorem R2.MV {e q top : Int} {h m : zH} (p : R2 e q h m) (hs : ES e h top) : MV m q (zd h e 11) := by
  refine ⟨hs.1, fun n n0 n1 => ?_⟩
  have := p.1 n n0 n1
  unfold vrel at this; omega
theorem S_src {e q A : Int} {h m : zH} (p1 : MRows m q A) (r3 : R3 e q h m) (r5 : R5 e q h m) (r6 : R6 e q h m) {s w : Int} {b : Nat} (s0 : 0 ≤ s) (s1 : s < 1364) (ht : zd h (e + 5) s = 1) (w0 : 0 ≤ w) (w1 : w < 8) (b1 : b < 64) : srcE e h s w b = srcM m q (num s) w b := by
  unfold srcE srcM num
  by_cases c : s < 500
  · rw [if_pos c, if_pos c, if_pos (by omega)]
  · rw [if_neg c, if_neg c]
    by_cases d : s < 564
    · rw [if_pos d, if_pos d, if_neg (by omega), if_pos (by omega)]
    · rw [if_neg d, if_neg d, if_neg (by omega), if_neg (by omega)]
      have l := (r3.1 s s0 s1 ht).1
      have k1 : s - 564 < zd m 155 q := by
        unfold mlive num at l
        rw [if_neg c, if_neg d] at l
        have := p1.2.1; have := p1.2.2.1; omega
      have := r6.2 (s - 564) (by omega) (by have := r5.2.2.2.2.2.1; omega) w b w0 w1 b1
      rw [this]; congr 2; omega
theorem S_set {e q x why WHY top : Int} {h h' m m' : zH} (q0 : 0 ≤ q) (q1 : q ≤ 1) (hs : ES e h top) (hT : ET e h) (hx : eit (zd h e 11) x) (ho : est e h x = 0) (p : EsetP e x why h h') (pm : MbecP q x WHY m m') (hw : rrel why WHY)
    (hroot : zd h e 21 = 0 → (0 ≤ why ∧ why < 1364 ∧ zd h (e + 5) why = 1) ∧ ∀ c, zd h (e + 1) why ≤ c → c < zd h (e + 1) why + zd h (e + 2) why → zab (zd h (e + 7) c) ≠ zab x → zd h (e + 11) (zab (zd h (e + 7) c)) ≠ 0 ∧ zd h (e + 12) (zab (zd h (e + 7) c)) = 0)
    (r1 : MRows m q (zd h e 11)) (r2 : R2 e q h m) (r3 : R3 e q h m) (r5 : R5 e q h m) (r6 : R6 e q h m) : R2 e q h' m' ∧ R6 e q h' m' := by
  have xr := zab_r hx
  have A3 := hs.1
  obtain ⟨pA, p11, p12, p13, p17, p0, ps1, ps2⟩ := p
  obtain ⟨mA, m3, m4, m5, m9, m10, ms1, ms2⟩ := pm
  have e11 : zd h' e 11 = zd h e 11 := by rw [p0, if_neg (by decide)]
  have e20 : zd h' e 20 = zd h e 20 + 1 := by rw [p0, if_pos rfl]
  have e21 : zd h' e 21 = zd h e 21 := by rw [p0, if_neg (by decide)]
  have e25 : zd h' e 25 = zd h e 25 := by rw [p0, if_neg (by decide)]
  obtain ⟨v1, v2, v3, v4, v5, v6⟩ := r2
  have T1 := hT.1
  constructor
  · unfold R2
    rw [e11, e20, e21, m10, if_pos rfl, mA.d (b := 151) (by decide), mA.d (b := 137) (by decide)]
    refine ⟨fun n n0 n1 => ?_, fun n n0 n1 n2 => ?_, by omega, fun i i0 i1 => ?_, v5, v6⟩
    · rw [p11, m3]
      by_cases c : n = zab x
      · rw [if_pos c, if_pos (by omega)]
        unfold vrel zsg
        by_cases d : 0 < x
        · rw [if_pos d, if_neg (by omega)]; omega
        · rw [if_neg d, if_pos (by omega)]; omega
      · rw [if_neg c, if_neg (by omega)]; exact v1 n n0 n1
    · rw [p12, p13, m4, m5]
      rw [p11] at n2
      by_cases c : n = zab x
      · rw [if_pos c, if_pos c, if_pos (by omega), if_pos (by omega)]; exact ⟨v5, hw⟩
      · rw [if_neg c] at n2
        rw [if_neg c, if_neg c, if_neg (by omega), if_neg (by omega)]; exact v2 n n0 n1 n2
    · rw [p17, m9]
      by_cases c : i = zd h e 20
      · rw [if_pos c, if_pos (by omega)]
      · rw [if_neg c, if_neg (by omega)]; exact v4 i i0 (by omega)
  · unfold R6
    rw [e11, e25, pA.f (b := e + 19) (by simp only [List.mem_cons, List.not_mem_nil, or_false]; omega), mA.f (b := 158) (by decide)]
    refine ⟨fun n n0 n1 n2 n3 w b w0 w1 b1 => ?_, r6.2⟩
    rw [p11] at n2
    rw [p12] at n3
    by_cases c : n = zab x
    · rw [if_pos c] at n3
      rw [c]
      obtain ⟨⟨w00, w01, w02⟩, hlow⟩ := hroot n3
      obtain ⟨u1, u2⟩ := ps2 n3
      have hW : WHY = num why := by
        rcases hw with ⟨a, _⟩ | ⟨_, _, a⟩
        · omega
        · exact a
      have nr := num_r w00 w01
      obtain ⟨t1, t2⟩ := ms2 (by rw [← v5]; exact n3) (by omega)
      apply Bool.eq_iff_iff.mpr
      rw [u2 w b w0 w1 b1, t2 w b w0 w1 b1]
      unfold rootOf
      rw [S_src r1 r3 r5 r6 w00 w01 w02 w0 w1 b1, hW]
      refine or_congr Iff.rfl ?_
      obtain ⟨-, g1, g2⟩ := r3.1 why w00 w01 w02
      obtain ⟨-, ⟨f0, z0, f1⟩, -⟩ := hs.2.2.2.2.2.1 why (Or.inl ⟨w00, w01, w02⟩)
      unfold lowM
      constructor
      · rintro ⟨c', k0, k1, k2, k3⟩
        have eq : zd h (e + 7) c' = mit m q (num why) (c' - zd h (e + 1) why) := by
          rw [← g2 _ (by omega) (by omega), show zd h (e + 1) why + (c' - zd h (e + 1) why) = c' by omega]
        obtain ⟨l1, l2⟩ := hlow c' k0 k1 k2
        have ic := zab_r (hs.2.2.2.2.1 c' (by omega) (by omega)).1
        have vv := v1 _ ic.1 ic.2
        have ll := (v2 _ ic.1 ic.2 l1).1
        have bb := r6.1 _ ic.1 ic.2 l1 l2 w b w0 w1 b1
        rw [bb] at k3
        refine ⟨c' - zd h (e + 1) why, by omega, by rw [← g1]; omega, ?_⟩
        rw [← eq]
        exact ⟨k2, by unfold vrel at vv; omega, by omega, k3⟩
      · rintro ⟨i, i0, i1, i2, i3, i4, i5⟩
        rw [← g1] at i1
        rw [← g2 i i0 i1] at i2 i5
        obtain ⟨l1, l2⟩ := hlow _ (by omega) (by omega) i2
        have ic := zab_r (hs.2.2.2.2.1 (zd h (e + 1) why + i) (by omega) (by omega)).1
        rw [← r6.1 _ ic.1 ic.2 l1 l2 w b w0 w1 b1] at i5
        exact ⟨zd h (e + 1) why + i, by omega, by omega, i2, i5⟩
    · rw [if_neg c] at n2 n3
      have old := r6.1 n n0 n1 n2 n3 w b w0 w1 b1
      have a1 : zd h' (e + 16) (n * 8 + w) = zd h (e + 16) (n * 8 + w) := by
        by_cases d : zd h e 21 = 0
        · exact (ps2 d).1 _ (by omega)
        · rw [ps1 d]
      have a2 : zd m' 159 (8 * (301 * q + n) + w) = zd m 159 (8 * (301 * q + n) + w) := by
        by_cases d : zd m 151 q ≠ 0 ∨ WHY < 0
        · rw [ms1 d]
        · exact (ms2 (by omega) (by omega)).1 _ (by omega)
      rw [a1, a2]; exact old
/-- the parts of the model that belong to one solving, or to none -/
def MFr (q : Int) (m m' : zH) : Prop := zF 101 175 m m' ∧ (∀ b, b ∈ ([102, 103, 104, 105, 106, 107, 108, 109, 110, 111, 112, 113, 114, 115, 116, 117, 118, 119, 120, 121, 122, 123, 124, 125, 126, 127, 128, 129, 130, 131, 132, 133, 134, 135, 136, 137, 138, 139, 140, 141, 142, 172, 173, 174] : List Int) → zd m' b = zd m b) ∧
  (∀ j, j ∉ ([89, 91, 94, 96, 97, 98, 99, 100, 104, 106] : List Int) → zd m' 101 j = zd m 101 j) ∧ (True → zd m' 101 91 = zd m 101 91 ∧ zd m' 101 94 = zd m 101 94 ∧ zd m' 101 96 = zd m 101 96 ∧ zd m' 164 = zd m 164 ∧ zd m' 165 = zd m 165 ∧ zd m' 166 = zd m 166 ∧ zd m' 155 = zd m 155) ∧
  (∀ b n, (b, n) ∈ ([(143, 301), (144, 301), (145, 301), (146, 301), (147, 301), (148, 1), (149, 300), (150, 1), (151, 1), (152, 801), (153, 8050), (154, 1), (155, 1), (156, 800), (157, 800), (158, 6400), (159, 2408), (161, 1), (162, 1), (163, 10)] : List (Int × Int)) → ∀ j, (j < n * q ∨ n * q + n ≤ j) → zd m' b j = zd m b j)
theorem MFr.rf (q : Int) (m : zH) : MFr q m m := ⟨zF.rf _ _ _, fun _ _ => rfl, fun _ _ => rfl, fun _ => ⟨rfl, rfl, rfl, rfl, rfl, rfl, rfl⟩, fun _ _ _ _ _ => rfl⟩
theorem MFr.tr {q : Int} {a b c : zH} (p : MFr q a b) (r : MFr q b c) : MFr q a c := by
  obtain ⟨p1, p2, p3, p4, p5⟩ := p
  obtain ⟨r1, r2, r3, r4, r5⟩ := r
  refine ⟨p1.tr r1, fun x hx => (r2 x hx).trans (p2 x hx), fun j hj => (r3 j hj).trans (p3 j hj), fun hq => ?_, fun x n hx j hj => (r5 x n hx j hj).trans (p5 x n hx j hj)⟩
  obtain ⟨a1, a2, a3, a4, a5, a6, a7⟩ := p4 hq
  obtain ⟨b1, b2, b3, b4, b5, b6, b7⟩ := r4 hq
  exact ⟨b1.trans a1, b2.trans a2, b3.trans a3, b4.trans a4, b5.trans a5, b6.trans a6, b7.trans a7⟩
