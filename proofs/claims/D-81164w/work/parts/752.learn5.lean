/-! learning: forgetting, keeping, telling -/
/-- the weaker frame: the main solving may tell its quarrel and its core -/
def MFw (q : Int) (m m' : zH) : Prop := zF 101 175 m m' ∧ (∀ b, b ∈ ([102, 103, 104, 105, 106, 107, 108, 109, 110, 111, 112, 113, 114, 115, 116, 117, 118, 119, 120, 121, 122, 123, 124, 125, 126, 127, 128, 129, 130, 131, 132, 133, 134, 135, 136, 137, 138, 139, 140, 141, 142, 172, 173, 174] : List Int) → zd m' b = zd m b) ∧
  (∀ j, j ∉ ([89, 91, 94, 96, 97, 98, 99, 100, 104, 106] : List Int) → zd m' 101 j = zd m 101 j) ∧ (q = 1 → zd m' 101 91 = zd m 101 91 ∧ zd m' 101 94 = zd m 101 94 ∧ zd m' 101 96 = zd m 101 96 ∧ zd m' 164 = zd m 164 ∧ zd m' 165 = zd m 165 ∧ zd m' 166 = zd m 166) ∧
  (∀ b n, (b, n) ∈ ([(143, 301), (144, 301), (145, 301), (146, 301), (147, 301), (148, 1), (149, 300), (150, 1), (151, 1), (152, 801), (153, 8050), (154, 1), (155, 1), (156, 800), (157, 800), (158, 6400), (159, 2408), (161, 1), (162, 1), (163, 10)] : List (Int × Int)) → ∀ j, (j < n * q ∨ n * q + n ≤ j) → zd m' b j = zd m b j)
theorem MFr.wk {q : Int} {m m' : zH} (p : MFr q m m') : MFw q m m' := by
  obtain ⟨a1, a2, a3, a4, a5, a6, -⟩ := p.2.2.2.1 trivial
  exact ⟨p.1, p.2.1, p.2.2.1, fun _ => ⟨a1, a2, a3, a4, a5, a6⟩, p.2.2.2.2⟩
theorem MFr.l {q : Int} {m m' : zH} (p : MFr q m m') : zd m' 155 = zd m 155 := (p.2.2.2.1 trivial).2.2.2.2.2.2
theorem MFw.of {q : Int} {l : List Int} {m m' : zH} (mA : yA l m m') (hl : ∀ b, b ∈ l → b ∈ ([143, 144, 145, 146, 147, 148, 149, 150, 151, 152, 153, 154, 155, 156, 157, 158, 159, 160, 161, 162, 163, 167, 168, 169, 170, 171] : List Int))
    (hb : ∀ b n, b ∈ l → (b, n) ∈ ([(143, 301), (144, 301), (145, 301), (146, 301), (147, 301), (148, 1), (149, 300), (150, 1), (151, 1), (152, 801), (153, 8050), (154, 1), (155, 1), (156, 800), (157, 800), (158, 6400), (159, 2408), (161, 1), (162, 1), (163, 10)] : List (Int × Int)) → ∀ j, (j < n * q ∨ n * q + n ≤ j) → zd m' b j = zd m b j) : MFw q m m' := by
  have out : ∀ b, b ∉ ([143, 144, 145, 146, 147, 148, 149, 150, 151, 152, 153, 154, 155, 156, 157, 158, 159, 160, 161, 162, 163, 167, 168, 169, 170, 171] : List Int) → zd m' b = zd m b := fun b n => mA.f (fun x => n (hl b x))
  refine ⟨⟨mA.1, mA.2.1, mA.2.2.1, fun b j hb => by rw [out b (by simp only [List.mem_cons, List.not_mem_nil, or_false]; omega)]⟩, fun b hb => out b (by simp only [List.mem_cons, List.not_mem_nil, or_false] at hb ⊢; omega), fun j _ => by rw [out 101 (by decide)], fun _ => ⟨by rw [out 101 (by decide)], by rw [out 101 (by decide)], by rw [out 101 (by decide)], out 164 (by decide), out 165 (by decide), out 166 (by decide)⟩, fun b n hbn j hj => ?_⟩
  by_cases c : b ∈ l
  · exact hb b n c hbn j hj
  · exact mA.d c j
theorem MFw.tr {q : Int} {a b c : zH} (p : MFw q a b) (r : MFw q b c) : MFw q a c := by
  obtain ⟨p1, p2, p3, p4, p5⟩ := p
  obtain ⟨r1, r2, r3, r4, r5⟩ := r
  refine ⟨p1.tr r1, fun x hx => (r2 x hx).trans (p2 x hx), fun j hj => (r3 j hj).trans (p3 j hj), fun hq => ?_, fun x n hx j hj => (r5 x n hx j hj).trans (p5 x n hx j hj)⟩
  obtain ⟨a1, a2, a3, a4, a5, a6⟩ := p4 hq
  obtain ⟨b1, b2, b3, b4, b5, b6⟩ := r4 hq
  exact ⟨b1.trans a1, b2.trans a2, b3.trans a3, b4.trans a4, b5.trans a5, b6.trans a6⟩
def RQ (e : Int) (h m : zH) : Prop := zd h e 42 = zd m 101 91 ∧ ∀ k, 0 ≤ k → k < 5 → zd h (e + 22) k = zd m 164 k
/-- what holds of an engine while it searches -/
def SI0 (e : Int) (h : zH) : Prop := EInv e h (564 + zd h e 25) ∧ EX e h ∧ (0 ≤ zd h e 25 ∧ zd h e 25 ≤ 800) ∧ ((0 ≤ zd h e 26 ∧ zd h e 26 ≤ 8000) ∧ zd h e 10 ≤ 3780 + zd h e 26) ∧ zd h e 37 = zct (zd h (e + 5)) 1 564 (zd h e 25).toNat ∧ w32 (zd h e 36) = zd h e 36 ∧ EW e h ∧ (zt h (e + 28) = 50 ∧ zl h (e + 28) = 300 ∧ zt h (e + 29) = 53 ∧ zl h (e + 29) = 8 ∧ zd h (e + 18) 0 = 0 ∧ EAs e h)
def SI (e : Int) (h : zH) : Prop := SI0 e h ∧ 1 ≤ zd h e 40 ∧ zd h e 40 ≤ zd h e 25 + 1
theorem SI0.cg {e : Int} {h h' : zH} (p : SI0 e h) (ca : ∀ k, k ∈ ([1, 2, 3, 4, 5, 6, 7, 8, 9, 10, 11, 12, 13, 15, 17, 18, 21] : List Int) → zd h' (e + k) = zd h (e + k)) (cf : ∀ k, k ∈ ([10, 11, 20, 21, 22, 25, 26, 28, 36, 37] : List Int) → zd h' e k = zd h e k) (ct : ∀ b, zt h' b = zt h b) (cl : ∀ b, zl h' b = zl h b) : SI0 e h' := by
  obtain ⟨p1, p2, p3, p4, p5, p6, p7, p8⟩ := p
  unfold SI0 EW EAs
  rw [cf 25 (by decide), cf 26 (by decide), cf 10 (by decide), cf 37 (by decide), cf 36 (by decide), cf 11 (by decide), cf 22 (by decide), cf 28 (by decide), ca 5 (by decide), ca 15 (by decide), ca 18 (by decide), ca 21 (by decide), ct, cl, ct, cl]
  exact ⟨p1.cg (fun k hk => ca k (by simp only [List.mem_cons, List.not_mem_nil, or_false] at hk ⊢; omega)) (fun k hk => cf k (by simp only [List.mem_cons, List.not_mem_nil, or_false] at hk ⊢; omega)) (ct _) (cl _), p2.cg (fun k hk => ca k (by simp only [List.mem_cons, List.not_mem_nil, or_false] at hk ⊢; omega)) (cf 21 (by decide)), p3, p4, p5, p6, p7, p8⟩
def FinS (e q s was : Int) (h h' : zH) : Prop := ∀ m, RMs e q h m → R7 e q h m → zd m 155 q = zd h e 25 → (∀ j, 0 ≤ j → j < zd h e 50 → zd m 167 j = zd h (e + 28) j) → (∀ w b, 0 ≤ w → w < 8 → b < 64 → hb (zd h (e + 29) w) b = hb (zd m 160 w) b) → ∀ Q' : Int → zH → Prop, (∀ m', RMs e q h' m' → R7 e q h' m' → zd m' 155 q = zd h' e 25 → MFw q m m' → (q = 0 → RQ e h' m') → Q' 7 m') → P_M_learn_J391 q (num s) was (zd h e 50) (zd h e 52) m Q'
theorem w32_i (x : Int) : w32 (w32 x) = w32 x := w32_of (w32_r x).1 (w32_r x).2
theorem for_SI {e : Int} {h h' : zH} (he : zE e) (p : SI0 e h) (I' : EInv e h' (564 + zd h e 25)) (X' : EX e h') (alt : h' = h ∨ ForP e h h') : SI0 e h' ∧ (∀ j, j ≠ 36 → j ≠ 37 → zd h' e j = zd h e j) ∧ yA [e, e + 5, e + 6, e + 20, e + 31] h h' := by
  have eR : 25 ≤ e ∧ e ≤ 58 := by rcases he with z | z <;> omega
  rcases alt with rfl | ⟨n, O, os, fA, fe, f1, f2, f3, f4⟩
  · exact ⟨p, fun _ _ _ => rfl, yA.rf _ _⟩
  · obtain ⟨p1, p2, p3, p4, p5, p6, p7, p8⟩ := p
    have ce : ∀ k, k ≠ 36 → k ≠ 37 → zd h' e k = zd h e k := fun k a b => by rw [fe k, if_neg b, if_neg a]
    refine ⟨?_, ce, fA⟩
    unfold SI0 EW EAs
    rw [ce 28 (by decide) (by decide), fA.f (b := e + 21) (by simp only [List.mem_cons, List.not_mem_nil, or_false]; omega), fA.f (b := e + 18) (by simp only [List.mem_cons, List.not_mem_nil, or_false]; omega), ce 25 (by decide) (by decide), ce 26 (by decide) (by decide), ce 10 (by decide) (by decide), ce 11 (by decide) (by decide), ce 22 (by decide) (by decide), fA.f (b := e + 15) (by simp only [List.mem_cons, List.not_mem_nil, or_false]; omega), fA.t, fA.l, fA.t, fA.l]
    refine ⟨I', X', p3, p4, ?_, ?_, p7, p8⟩
    · rw [fe 37, if_pos rfl, p5]
      refine (drop_cnt os (fun i i0 i1 => ⟨?_, f1 i i0 i1⟩) f2).symm
      obtain ⟨b1, b2⟩ := os.2.1 i i0 (by have := os.1; omega)
      have := p1.1.2.2.2.2.2.2 (564 + O i) (by omega) (by omega)
      unfold emay at b2
      omega
    · rw [fe 36, if_neg (by decide), if_pos rfl, w32_i]
theorem keep_SI {e : Int} {h h' : zH} (he : zE e) (p : SI0 e h) (r1 : zd h e 25 < 800) (c0 : 1 ≤ zd h e 50) (c1 : zd h e 50 ≤ 300) (n1 : zd h e 26 + zd h e 50 ≤ 8000) (hn : 1 ≤ zd h e 21 → est e h (zd h (e + 28) 0) = 0 ∧ ∃ j, 1 ≤ j ∧ j < zd h e 50 ∧ zd h e 21 ≤ zd h (e + 12) (zab (zd h (e + 28) j))) (pk : KeepP e 1 h h') (hs' : ES e h' (564 + zd h e 25 + 1)) (hc' : EC e h') : SI0 e h' := by
  have eR : 25 ≤ e ∧ e ≤ 58 := by rcases he with z | z <;> omega
  obtain ⟨p1, p2, p3, p4, p5, p6, p7, p8⟩ := p
  obtain ⟨hs, hc, hT, hL, hO, t16, l16⟩ := p1
  obtain ⟨kA, kf, k1, k2, k5, k7, k20, k19⟩ := pk
  have ce : ∀ k, k ≠ 25 → k ≠ 26 → k ≠ 10 → k ≠ 37 → zd h' e k = zd h e k := fun k a b c d => by rw [kf, if_neg a, if_neg b, if_neg c, if_neg (by exact fun x => d x.1)]
  have f25 : zd h' e 25 = zd h e 25 + 1 := by rw [kf, if_pos rfl]
  have f26 : zd h' e 26 = zd h e 26 + zd h e 50 := by rw [kf, if_neg (by decide), if_pos rfl]
  have f10 : zd h' e 10 = zd h e 10 + zd h e 50 := by rw [kf, if_neg (by decide), if_neg (by decide), if_pos rfl]
  have ca : ∀ k, k ∈ ([11, 12, 13, 15, 17, 18] : List Int) → zd h' (e + k) = zd h (e + k) := fun k hk => kA.f (by simp only [List.mem_cons, List.not_mem_nil, or_false] at hk ⊢; omega)
  have e20 : zd h' e 20 = zd h e 20 := ce 20 (by decide) (by decide) (by decide) (by decide)
  have e21 : zd h' e 21 = zd h e 21 := ce 21 (by decide) (by decide) (by decide) (by decide)
  have e11 : zd h' e 11 = zd h e 11 := ce 11 (by decide) (by decide) (by decide) (by decide)
  have es : ∀ x, est e h' x = est e h x := fun x => by unfold est; rw [ca 11 (by decide)]
  have lt : ∀ s, 0 ≤ s → s < 1364 → zd h (e + 5) s = 1 → s ≠ 564 + zd h e 25 ∧ zd h' (e + 1) s = zd h (e + 1) s ∧ zd h' (e + 2) s = zd h (e + 2) s ∧ zd h' (e + 5) s = zd h (e + 5) s ∧ ∀ c, zd h (e + 1) s ≤ c → c < zd h (e + 1) s + zd h (e + 2) s → zd h' (e + 7) c = zd h (e + 7) c := by
    intro s s0 s1 s2
    obtain ⟨⟨_, a⟩, ⟨f0, z0, f1⟩, -⟩ := hs.2.2.2.2.2.1 s (Or.inl ⟨s0, s1, s2⟩)
    have ne : s ≠ 564 + zd h e 25 := by omega
    exact ⟨ne, by rw [k1, if_neg ne], by rw [k2, if_neg ne], by rw [k5, if_neg ne], fun c c0 c1 => by rw [k7, if_neg (by omega)]⟩
  unfold SI0 EW EAs
  rw [ce 28 (by decide) (by decide) (by decide) (by decide), kA.f (b := e + 21) (by simp only [List.mem_cons, List.not_mem_nil, or_false]; omega), ca 18 (by decide), f25, f26, f10, e11, ce 22 (by decide) (by decide) (by decide) (by decide), ce 36 (by decide) (by decide) (by decide) (by decide), ca 15 (by decide), kA.t, kA.l, kA.t, kA.l]
  refine ⟨⟨by rw [show 564 + (zd h e 25 + 1) = 564 + zd h e 25 + 1 by omega]; exact hs', hc', ?_, ?_, ?_, by rw [kA.t]; exact t16, by rw [kA.l]; exact l16⟩, ?_, by omega, by omega, ?_, p6, p7, p8⟩
  · unfold ET est at hT ⊢
    rw [e20, e11, ca 17 (by decide), ca 11 (by decide)]; exact hT
  · unfold ELv ELg tn at hL ⊢
    rw [e20, e11, e21, ca 17 (by decide), ca 11 (by decide), ca 12 (by decide), ca 18 (by decide)]; exact hL
  · intro i i0 i1
    rw [e20] at i1
    have o := hO i i0 i1
    have et : tn e h' i = tn e h i := by unfold tn; rw [ca 17 (by decide)]
    unfold EOi at o ⊢
    rw [et, ca 13 (by decide), ca 12 (by decide), ca 18 (by decide), ca 17 (by decide)]
    rcases o with o | ⟨⟨a1, a2, a3⟩, a4, ⟨c, b0, b1, b2⟩, a6⟩
    · exact Or.inl o
    · obtain ⟨w1, w2, w3, w4, w5⟩ := lt _ a1 a2 a3
      rw [w2, w3, w4]
      refine Or.inr ⟨⟨a1, a2, a3⟩, a4, ⟨c, b0, b1, by rw [w5 c b0 b1]; exact b2⟩, fun c' d0 d1 d2 => ?_⟩
      rw [w5 c' d0 d1] at d2 ⊢
      exact a6 c' d0 d1 d2
  · intro L L0 L1 s s0 s1 s2
    rw [e21] at L1
    rw [ca 12 (by decide)]
    by_cases z : s = 564 + zd h e 25
    · have v1 : zd h' (e + 1) s = zd h e 10 := by rw [k1, if_pos z]
      have v2 : zd h' (e + 2) s = zd h e 50 := by rw [k2, if_pos z]
      obtain ⟨n2, j, j0, j1, j2⟩ := hn (by omega)
      rw [v1, v2]
      refine Or.inr ⟨zd h e 10, zd h e 10 + j, by omega, by omega, by omega, Or.inl ?_, Or.inr ?_⟩
      · rw [k7, if_pos (by omega), show zd h e 10 - zd h e 10 = 0 by omega, es]; exact n2
      · rw [k7, if_pos (by omega), show zd h e 10 + j - zd h e 10 = j by omega]; omega
    · have s3 : zd h (e + 5) s = 1 := by rw [k5, if_neg z] at s2; exact s2
      obtain ⟨w1, w2, w3, w4, w5⟩ := lt s s0 s1 s3
      rw [w2, w3]
      rcases p2 L L0 L1 s s0 s1 s3 with ⟨c, b0, b1, b2, b3⟩ | ⟨c, c', b0, b1, b2, b3, b4⟩
      · exact Or.inl ⟨c, b0, b1, by rw [w5 c b0 b1, es]; exact b2, by rw [w5 c b0 b1]; exact b3⟩
      · refine Or.inr ⟨c, c', b0, b1, b2, ?_, ?_⟩
        · rw [w5 c b0 (by omega), es]; exact b3
        · rw [w5 c' (by omega) b2, es]; exact b4
  · have z := zct_le (zd h (e + 5)) 1 564 (zd h e 25).toNat
    rw [kf 37, if_neg (by decide), if_neg (by decide), if_neg (by decide), if_pos ⟨rfl, by decide⟩, p5, w32_of (by omega) (by omega), show (zd h e 25 + 1).toNat = (zd h e 25).toNat + 1 by omega]
    show _ = zct (zd h' (e + 5)) 1 564 (zd h e 25).toNat + (if zd h' (e + 5) (564 + ((zd h e 25).toNat : Int)) = 1 then 1 else 0)
    rw [show ((zd h e 25).toNat : Int) = zd h e 25 by omega, k5 (564 + zd h e 25), if_pos rfl, if_pos (show (if (1 : Int) = 0 then (0 : Int) else 1) = 1 by decide)]
    congr 1
    exact zct_congr (fun i i0 i1 => by rw [k5 i, if_neg (by omega)])
theorem num_of {s : Int} (s0 : 0 ≤ s) (s1 : s < 1364) : (if 500 ≤ s then if 564 ≤ s then w32 ((w32 (2000 + s)) - 564) else w32 ((w32 (1000 + s)) - 500) else s) = num s := by
  unfold num
  rw [w32_of (x := 2000 + s) (by omega) (by omega), w32_of (x := 1000 + s) (by omega) (by omega), w32_of (x := 2000 + s - 564) (by omega) (by omega), w32_of (x := 1000 + s - 500) (by omega) (by omega)]
  by_cases a : 500 ≤ s
  · rw [if_pos a, if_neg (show ¬ s < 500 by omega)]
    by_cases b : 564 ≤ s
    · rw [if_pos b, if_neg (show ¬ s < 564 by omega)]; omega
    · rw [if_neg b, if_pos (show s < 564 by omega)]; omega
  · rw [if_neg a, if_pos (show s < 500 by omega)]
def TellP (e n was now met made : Int) (h h' : zH) : Prop := yA [e, e + 22] h h' ∧ (∀ j, zd h' e j = if j = 42 then 1 else zd h e j) ∧ zd h' (e + 22) 0 = n ∧ zd h' (e + 22) 1 = was ∧ zd h' (e + 22) 2 = now ∧ zd h' (e + 22) 3 = met ∧ zd h' (e + 22) 4 = made
theorem E_tell {e s was now : Int} {h : zH} {Q : Int → zH → Prop} (s0 : 0 ≤ s) (s1 : s < 1364) (k : ∀ h', TellP e (num s) was now (zd h e 52) (zd h e 50) h h' → Q 0 h') : P_E_tell e s was now h Q := by
  unfold P_E_tell P_E_numberOf
  intro h1 e1
  intro h4 e4 h5 e5 h6 e6 h7 e7 h8 e8
  rw [num_of s0 s1] at e4
  have n1 : ∀ {g : zH} {i v j : Int}, zd (zw g (e + 22) i v) e j = zd g e j := fun {g i v j} => zd_a (by omega)
  have g1 : ∀ j, zd h1 e j = if j = 42 then 1 else zd h e j := by
    intro j
    by_cases c : j = 42
    · rw [if_pos c, c, e1, zd_s]
    · rw [if_neg c, e1, zd_i c]
  have g6 : ∀ j, zd h6 e j = zd h1 e j := fun j => by rw [e6, n1, e5, n1, e4, n1]
  have g7 : ∀ j, zd h7 e j = zd h1 e j := fun j => by rw [e7, n1, g6]
  rw [g6, g1, if_neg (by decide)] at e7
  rw [g7, g1, if_neg (by decide)] at e8
  refine k h8 ⟨?_, fun j => by rw [e8, n1, g7, g1], ?_, ?_, ?_, ?_, ?_⟩
  · rw [e8, e7, e6, e5, e4, e1]
    exact ((((((yA.rf _ h).w (by simp)).w (by simp)).w (by simp)).w (by simp)).w (by simp)).w (by simp)
  · rw [e8, zd_i (by decide), e7, zd_i (by decide), e6, zd_i (by decide), e5, zd_i (by decide), e4, zd_s]
  · rw [e8, zd_i (by decide), e7, zd_i (by decide), e6, zd_i (by decide), e5, zd_s]
  · rw [e8, zd_i (by decide), e7, zd_i (by decide), e6, zd_s]
  · rw [e8, zd_i (by decide), e7, zd_s]
  · rw [e8, zd_s]
def MtellP (n was now met made : Int) (m m' : zH) : Prop := yA [101, 164] m m' ∧ (∀ j, zd m' 101 j = if j = 91 then 1 else zd m 101 j) ∧ zd m' 164 0 = n ∧ zd m' 164 1 = was ∧ zd m' 164 2 = now ∧ zd m' 164 3 = met ∧ zd m' 164 4 = made
theorem M_tell {n was now met made : Int} {m : zH} {Q : Int → zH → Prop} (k : ∀ m', MtellP n was now met made m m' → Q 0 m') : P_M_tellQuarrel n was now met made m Q := by
  unfold P_M_tellQuarrel
  intro h1 e1 h4 e4 h5 e5 h6 e6 h7 e7 h8 e8
  have n1 : ∀ {g : zH} {i v j : Int}, zd (zw g 164 i v) 101 j = zd g 101 j := fun {g i v j} => zd_a (by decide)
  refine k h8 ⟨?_, fun j => ?_, ?_, ?_, ?_, ?_, ?_⟩
  · rw [e8, e7, e6, e5, e4, e1]
    exact ((((((yA.rf _ m).w (by simp)).w (by simp)).w (by simp)).w (by simp)).w (by simp)).w (by simp)
  · rw [e8, n1, e7, n1, e6, n1, e5, n1, e4, n1]
    by_cases c : j = 91
    · rw [if_pos c, c, e1, zd_s]
    · rw [if_neg c, e1, zd_i c]
  · rw [e8, zd_i (by decide), e7, zd_i (by decide), e6, zd_i (by decide), e5, zd_i (by decide), e4, zd_s]
  · rw [e8, zd_i (by decide), e7, zd_i (by decide), e6, zd_i (by decide), e5, zd_s]
  · rw [e8, zd_i (by decide), e7, zd_i (by decide), e6, zd_s]
  · rw [e8, zd_i (by decide), e7, zd_s]
  · rw [e8, zd_s]
theorem tell_RQ {e n was now met made : Int} {h h' m m' : zH} (a : TellP e n was now met made h h') (b : MtellP n was now met made m m') : RQ e h' m' := by
  obtain ⟨-, a0, a1, a2, a3, a4, a5⟩ := a
  obtain ⟨-, b0, b1, b2, b3, b4, b5⟩ := b
  refine ⟨by rw [a0, b0]; rfl, fun k k0 k1 => ?_⟩
  have : k = 0 ∨ k = 1 ∨ k = 2 ∨ k = 3 ∨ k = 4 := by omega
  rcases this with rfl | rfl | rfl | rfl | rfl
  · rw [a1, b1]
  · rw [a2, b2]
  · rw [a3, b3]
  · rw [a4, b4]
  · rw [a5, b5]
theorem Mtell.fr {n was now met made : Int} {m m' : zH} (p : MtellP n was now met made m m') : MFw 0 m m' := by
  obtain ⟨mA, p2, -⟩ := p
  refine ⟨⟨mA.1, mA.2.1, mA.2.2.1, fun b j hb => mA.d (by simp only [List.mem_cons, List.not_mem_nil, or_false]; omega) j⟩, fun b hb => mA.f (by simp only [List.mem_cons, List.not_mem_nil, or_false] at hb ⊢; omega), fun j hj => by rw [p2, if_neg (by simp only [List.mem_cons, List.not_mem_nil, or_false] at hj; omega)], fun hq => absurd hq (by decide), fun b n hbn j hj => mA.d (by simp only [List.mem_cons, List.not_mem_nil, or_false, Prod.mk.injEq] at hbn ⊢; omega) j⟩
theorem S_fin {e q s was : Int} {h : zH} {Q : Int → zH → Prop} (he : zE e) (q0 : 0 ≤ q) (q1 : q ≤ 1) (p : SI0 e h) (s0 : 0 ≤ s) (s1 : s < 1364) (r1 : zd h e 25 < 800) (c0 : 1 ≤ zd h e 50) (c1 : zd h e 50 ≤ 300) (n1 : zd h e 26 + zd h e 50 ≤ 8000) (hit : ∀ j, 0 ≤ j → j < zd h e 50 → eit (zd h e 11) (zd h (e + 28) j)) (hn : 1 ≤ zd h e 21 → est e h (zd h (e + 28) 0) = 0 ∧ ∃ j, 1 ≤ j ∧ j < zd h e 50 ∧ zd h e 21 ≤ zd h (e + 12) (zab (zd h (e + 28) j)))
    (k : ∀ h', SI0 e h' → zd h' e 25 = zd h e 25 + 1 → (∀ j, j ∈ ([11, 20, 21, 31, 40] : List Int) → zd h' e j = zd h e j) → FinS e q s was h h' → Q 1 h') : P_E_learns_J186 e s was h Q := by
  have eR : 25 ≤ e ∧ e ≤ 58 := by rcases he with z | z <;> omega
  obtain ⟨I, X, p3, p4, p5, p6, p7, p8⟩ := id p
  have zc := zct_le (zd h (e + 5)) 1 564 (zd h e 25).toNat
  unfold P_E_learns_J186
  refine S_forgets (q := q) he q0 q1 I X p3.1 p3.2 (by omega) (by omega) p6 (fun h21 I21 X21 alt fs => ?_)
  obtain ⟨S21, ce, fA⟩ := for_SI he p I21 X21 alt
  have c25 : zd h21 e 25 = zd h e 25 := ce 25 (by decide) (by decide)
  have c26 : zd h21 e 26 = zd h e 26 := ce 26 (by decide) (by decide)
  have c50 : zd h21 e 50 = zd h e 50 := ce 50 (by decide) (by decide)
  have c11 : zd h21 e 11 = zd h e 11 := ce 11 (by decide) (by decide)
  have c10 : zd h21 e 10 = zd h e 10 := ce 10 (by decide) (by decide)
  have c21 : zd h21 e 21 = zd h e 21 := ce 21 (by decide) (by decide)
  have c28 : zd h21 (e + 28) = zd h (e + 28) := fA.f (by simp only [List.mem_cons, List.not_mem_nil, or_false]; omega)
  have c29 : zd h21 (e + 29) = zd h (e + 29) := fA.f (by simp only [List.mem_cons, List.not_mem_nil, or_false]; omega)
  have hit21 : ∀ j, 0 ≤ j → j < zd h21 e 50 → eit (zd h21 e 11) (zd h21 (e + 28) j) := by rw [c50, c11, c28]; exact hit
  refine E_keep I21.1 I21.2.1 (by omega) (by omega) (by omega) (by omega) (by omega) (by omega) (by omega) (by omega) hit21 (by rw [fA.t]; exact p8.1) (by rw [fA.l]; exact p8.2.1) (fun h23 pk hs23 hc23 => ?_)
  have S23 : SI0 e h23 := by
    refine keep_SI he S21 (by omega) (by omega) (by omega) (by omega) (fun z => ?_) pk hs23 hc23
    rw [c21] at z
    rw [c28, c50, c21, fA.f (b := e + 12) (by simp only [List.mem_cons, List.not_mem_nil, or_false]; omega)]
    obtain ⟨a, b⟩ := hn z
    refine ⟨?_, b⟩
    unfold est at a ⊢
    rw [fA.f (b := e + 11) (by simp only [List.mem_cons, List.not_mem_nil, or_false]; omega)]; exact a
  have pk' := pk
  obtain ⟨kA, kf, -⟩ := pk'
  have ck : ∀ k, k ≠ 25 → k ≠ 26 → k ≠ 10 → k ≠ 37 → zd h23 e k = zd h21 e k := fun k a b c d => by rw [kf, if_neg a, if_neg b, if_neg c, if_neg (by exact fun x => d x.1)]
  have k50 : zd h23 e 50 = zd h e 50 := by rw [ck 50 (by decide) (by decide) (by decide) (by decide), c50]
  have k52 : zd h23 e 52 = zd h e 52 := by rw [ck 52 (by decide) (by decide) (by decide) (by decide), ce 52 (by decide) (by decide)]
  refine E_tell s0 s1 (fun h25 tp => ?_)
  rw [k50, k52] at tp
  obtain ⟨tA, tf, -⟩ := id tp
  have ct : ∀ j, j ≠ 42 → zd h25 e j = zd h23 e j := fun j n => by rw [tf, if_neg n]
  have S25 : SI0 e h25 := S23.cg (fun k hk => tA.f (by simp only [List.mem_cons, List.not_mem_nil, or_false] at hk ⊢; omega)) (fun k hk => ct k (by simp only [List.mem_cons, List.not_mem_nil, or_false] at hk; omega)) (fun b => tA.t b) (fun b => tA.l b)
  refine k h25 S25 (by rw [ct 25 (by decide), kf, if_pos rfl, c25]) (fun j hj => ?_) ?_
  · simp only [List.mem_cons, List.not_mem_nil, or_false] at hj
    rw [ct j (by omega), ck j (by omega) (by omega) (by omega) (by omega), ce j (by omega) (by omega)]
  intro m R C rl hfr hsr Q' kq
  unfold P_M_learn_J391
  refine fs m R C rl _ (fun m1 R1 C1 F1 A1 => ?_)
  have b154 : zd m1 154 q = zd h e 25 := by rw [← R1.2.2.2.2.1.1.1, c25]
  have m155 : zd m1 155 = zd m 155 := A1.f (by decide)
  have w0 := (rec_le R1.2.2.2.2.1 (k := zd h21 e 25) (l := zd h21 e 25) (by omega) (Int.le_refl _) (Int.le_refl _)).1
  have b152 : zd m1 152 (801 * q + zd h e 25) = zd h e 26 := by rw [← c25, ← c26]; exact R1.2.2.2.2.1.2.1.symm
  simp only [w32_al, w32_ar, w32_sl, w32_sr, w32_ml, w32_mr]
  rw [b154, w32_of (x := 800 * q + zd h e 25) (by omega) (by omega)]
  refine ⟨⟨by omega, by omega⟩, ⟨by omega, by omega⟩, ?_⟩
  intro m2 e2
  have b2 : zd m2 154 q = zd h e 25 := by rw [e2, zd_a (by decide), b154]
  rw [b2, w32_of (x := 800 * q + zd h e 25) (by omega) (by omega)]
  refine ⟨⟨by omega, by omega⟩, ⟨by omega, by omega⟩, ?_⟩
  intro m3 e3
  have b3 : zd m3 154 q = zd h e 25 := by rw [e3, zd_a (by decide), b2]
  have k3 : ∀ b, b ≠ 156 → b ≠ 157 → zd m3 b = zd m1 b := fun b n1 n2 => by rw [e3, zw_f n2, e2, zw_f n1]
  have b152' : zd m3 152 (801 * q + zd m3 154 q) = zd h e 26 := by rw [b3, k3 152 (by decide) (by decide)]; exact b152
  refine M_record q0 q1 (by omega) c1 (by omega) (by omega) (by omega) (by omega) (fun m4 rp => ?_)
  obtain ⟨rA, r153, r152, r154, r158⟩ := rp
  rw [b3, k3 152 (by decide) (by decide), k3 153 (by decide) (by decide), k3 167 (by decide) (by decide)] at r153
  rw [b3, k3 152 (by decide) (by decide)] at r152
  rw [b3, k3 154 (by decide) (by decide)] at r154
  rw [b3, k3 158 (by decide) (by decide), k3 160 (by decide) (by decide)] at r158
  refine ⟨⟨by omega, by omega⟩, ⟨by omega, by omega⟩, ?_⟩
  intro m5 e5
  have l4 : zd m4 155 q = zd h e 25 := by rw [rA.f (b := 155) (by decide), k3 155 (by decide) (by decide), m155, rl]
  rw [l4, w32_of (x := zd h e 25 + 1) (by omega) (by omega)] at e5
  have k5 : ∀ b, b ∉ ([152, 153, 154, 155, 156, 157, 158] : List Int) → zd m5 b = zd m1 b := fun b hb => by
    simp only [List.mem_cons, List.not_mem_nil, or_false] at hb
    rw [e5, zw_f (by omega), rA.f (b := b) (by simp only [List.mem_cons, List.not_mem_nil, or_false]; omega), k3 b (by omega) (by omega)]
  have z1 : zbit 1 = 1 := zbit_1
  have R5' : RMs e q h23 m5 := by
    refine S_keep (m := m1) (by omega) q0 q1 I21.1 (by omega) R1 (by rw [m155, rl, b154]) (by omega) (by omega) (by omega) hit21 (fun j j0 j1 => ?_) (fun w b w0 w1 bb => ?_) pk (fun k hk => k5 k (by simp only [List.mem_cons, List.not_mem_nil, or_false] at hk ⊢; omega)) (fun k hk => by rw [k5 101 (by decide)]) (fun j => ?_) (fun j => ?_) ?_ (fun j => ?_) ?_ (fun j => ?_) (fun j => ?_)
    · rw [c50] at j1
      rw [A1.f (b := 167) (by decide), c28]; exact hfr j j0 j1
    · rw [A1.f (b := 160) (by decide), c29]; exact hsr w b w0 w1 bb
    · rw [b154, c50, e5, zd_a (by decide), r153]
    · rw [b154, c50, e5, zd_a (by decide), r152]
    · rw [b154, e5, zd_a (by decide), r154, if_pos rfl]
    · rw [b154, e5, zd_a (by decide), r158]
    · rw [e5, zd_s, if_neg (by decide), m155, rl]
    · rw [b154, e5, zd_a (by decide), rA.d (b := 156) (by decide), e3, zd_a (by decide), e2, z1, zd_zw]
      by_cases c : j = 800 * q + zd h e 25
      · rw [if_pos ⟨rfl, c⟩, if_pos ⟨by decide, c⟩]
      · rw [if_neg (by exact fun x => c x.2), if_neg (by exact fun x => c x.2)]
    · rw [b154, e5, zd_a (by decide), rA.d (b := 157) (by decide), e3, zd_zw, e2, zd_a (by decide)]
      by_cases c : j = 800 * q + zd h e 25
      · rw [if_pos ⟨rfl, c⟩, if_pos ⟨by decide, c⟩]
      · rw [if_neg (by exact fun x => c x.2), if_neg (by exact fun x => c x.2)]
  have C5 : R7 e q h23 m5 := C1.cg (fun k hk => ck k (by simp only [List.mem_cons, List.not_mem_nil, or_false] at hk; omega) (by simp only [List.mem_cons, List.not_mem_nil, or_false] at hk; omega) (by simp only [List.mem_cons, List.not_mem_nil, or_false] at hk; omega) (by simp only [List.mem_cons, List.not_mem_nil, or_false] at hk; omega)) (fun k hk => k5 k (by simp only [List.mem_cons, List.not_mem_nil, or_false] at hk ⊢; omega)) (fun k hk => by rw [k5 101 (by decide)])
  have F5 : MFw q m1 m5 := by
    have y : yA [152, 153, 154, 155, 156, 157, 158] m1 m5 := by
      rw [e5]
      refine yA.w (yA.tr ?_ (rA.mono (by simp))) (by simp)
      rw [e3, e2]
      exact ((yA.rf _ m1).w (by simp)).w (by simp)
    refine MFw.of y (fun b hb => by simp only [List.mem_cons, List.not_mem_nil, or_false] at hb ⊢; omega) (fun b n hb hn j hj => ?_)
    simp only [List.mem_cons, List.not_mem_nil, or_false] at hb
    simp only [List.mem_cons, List.not_mem_nil, or_false, Prod.mk.injEq] at hn
    rcases hb with rfl | rfl | rfl | rfl | rfl | rfl | rfl
    · have : n = 801 := by omega
      subst this
      rw [e5, zd_a (by decide), r152, if_neg (by omega)]
    · have : n = 8050 := by omega
      subst this
      rw [e5, zd_a (by decide), r153, b152, if_neg (by omega)]
    · have : n = 1 := by omega
      subst this
      rw [e5, zd_a (by decide), r154, if_neg (by omega)]
    · have : n = 1 := by omega
      subst this
      rw [e5, zd_i (by omega), rA.d (b := 155) (by decide), k3 155 (by decide) (by decide)]
    · have : n = 800 := by omega
      subst this
      rw [e5, zd_a (by decide), rA.d (b := 156) (by decide), e3, zd_a (by decide), e2, zd_i (by omega)]
    · have : n = 800 := by omega
      subst this
      rw [e5, zd_a (by decide), rA.d (b := 157) (by decide), e3, zd_i (by omega), e2, zd_a (by decide)]
    · have : n = 6400 := by omega
      subst this
      rw [e5, zd_a (by decide), r158, if_neg (by omega)]
  have R5'' : RMs e q h25 m5 := R5'.cg (fun k hk => tA.f (by simp only [List.mem_cons, List.not_mem_nil, or_false] at hk ⊢; omega)) (fun k hk => ct k (by simp only [List.mem_cons, List.not_mem_nil, or_false] at hk; omega)) (fun k _ => tA.d (by simp only [List.mem_cons, List.not_mem_nil, or_false]; omega) k) (fun _ _ => rfl) (fun _ _ => rfl)
  have C5' : R7 e q h25 m5 := C5.cg (fun k hk => ct k (by simp only [List.mem_cons, List.not_mem_nil, or_false] at hk; omega)) (fun _ _ => rfl) (fun _ _ => rfl)
  have l5 : zd m5 155 q = zd h25 e 25 := by rw [e5, zd_s, ct 25 (by decide), kf, if_pos rfl, c25]
  refine zif_i (fun c => ⟨⟨by omega, by omega⟩, ?_⟩) (fun c => ?_)
  · have n5 : zd m5 151 q = zd h23 e 21 := R5'.2.1.2.2.2.2.1.symm
    rw [n5]
    refine M_tell (fun m6 mp => ?_)
    obtain ⟨mA, mf, -⟩ := id mp
    refine kq m6 ?_ ?_ ?_ ?_ (fun _ => tell_RQ tp mp)
    · exact R5''.cg (fun _ _ => rfl) (fun _ _ => rfl) (fun _ _ => rfl) (fun k hk => mA.f (by simp only [List.mem_cons, List.not_mem_nil, or_false] at hk ⊢; omega)) (fun k hk => by rw [mf, if_neg (by simp only [List.mem_cons, List.not_mem_nil, or_false] at hk; omega)])
    · exact C5'.cg (fun _ _ => rfl) (fun k hk => mA.f (by simp only [List.mem_cons, List.not_mem_nil, or_false] at hk ⊢; omega)) (fun k hk => by rw [mf, if_neg (by simp only [List.mem_cons, List.not_mem_nil, or_false] at hk; omega)])
    · rw [mA.f (b := 155) (by decide)]; exact l5
    · have w : MFw 0 m5 m6 := Mtell.fr mp
      rw [← c] at w
      exact (F1.wk.tr F5).tr w
  · exact kq m5 R5'' C5' l5 (F1.wk.tr F5) (fun z => absurd z c)
