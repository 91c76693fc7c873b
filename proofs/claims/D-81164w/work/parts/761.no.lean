/-! no, and why: the empty set -/
/-- what remains of a solving that has ended -/
def RE (e q : Int) (h m : zH) : Prop := (zd h e 11 = zd m 137 q ∧ ∀ n, 1 ≤ n → n ≤ zd h e 11 → zd h (e + 15) n = zd m 147 (301 * q + n)) ∧ R5 e q h m ∧ (∀ k, 0 ≤ k → k < zd h e 25 → ∀ w b, 0 ≤ w → w < 8 → b < 64 → hb (zd h (e + 19) (k * 8 + w)) b = hb (zd m 158 (8 * (800 * q + k) + w)) b) ∧ R7 e q h m
theorem RE.of {e q : Int} {h m : zH} (R : RMs e q h m) (C : R7 e q h m) : RE e q h m := by
  obtain ⟨r1, r2, r3, r4, r5, r6, r8, r9⟩ := R
  exact ⟨⟨r2.2.2.2.2.2, fun n n0 n1 => (r4.1 n n0 n1).2.1⟩, r5, r6.2, C⟩
theorem RE.cg {e q : Int} {h m h' m' : zH} (p : RE e q h m) (ca : ∀ k, k ∈ ([1, 2, 5, 7, 15, 19, 20] : List Int) → zd h' (e + k) = zd h (e + k)) (cf : ∀ k, k ∈ ([10, 11, 25, 26, 30, 31, 32, 33, 34, 35, 36, 37, 38, 39, 40] : List Int) → zd h' e k = zd h e k) (cb : ∀ k, k ∈ ([137, 147, 152, 153, 154, 155, 157, 158, 161, 162, 163] : List Int) → zd m' k = zd m k) (cc : zd m' 101 89 = zd m 101 89) : RE e q h' m' := by
  obtain ⟨p1, p2, p3, p4⟩ := p
  refine ⟨?_, p2.cg (fun k hk => ca k (by simp only [List.mem_cons, List.not_mem_nil, or_false] at hk ⊢; omega)) (fun k hk => cf k (by simp only [List.mem_cons, List.not_mem_nil, or_false] at hk ⊢; omega)) (fun k hk => cb k (by simp only [List.mem_cons, List.not_mem_nil, or_false] at hk ⊢; omega)), ?_, p4.cg (fun k hk => cf k (by simp only [List.mem_cons, List.not_mem_nil, or_false] at hk ⊢; omega)) (fun k hk => cb k (by simp only [List.mem_cons, List.not_mem_nil, or_false] at hk ⊢; omega)) (fun k hk => by simp only [List.mem_cons, List.not_mem_nil, or_false] at hk; rw [hk]; exact cc)⟩
  · rw [cf 11 (by decide), ca 15 (by decide), cb 137 (by decide), cb 147 (by decide)]; exact p1
  · rw [cf 25 (by decide), ca 19 (by decide), cb 158 (by decide)]; exact p3
/-- the core: rows by bits and by list; items -/
def RC (e : Int) (h m : zH) : Prop := EnL (cbit (zd h (e + 23))) (zd m 165) 500 (zd m 101 94) ∧ zd h e 45 = zd m 101 96 ∧ (0 ≤ zd h e 45 ∧ zd h e 45 ≤ 20) ∧ ∀ k, 0 ≤ k → k < zd h e 45 → zd h (e + 24) k = zd m 166 k ∧ eit (zd h e 11) (zd h (e + 24) k)
theorem RC.cg {e : Int} {h m h' m' : zH} (p : RC e h m) (ca : ∀ k, k ∈ ([23, 24] : List Int) → zd h' (e + k) = zd h (e + k)) (cf : ∀ k, k ∈ ([11, 45] : List Int) → zd h' e k = zd h e k) (cb : ∀ k, k ∈ ([165, 166] : List Int) → zd m' k = zd m k) (cc : ∀ k, k ∈ ([94, 96] : List Int) → zd m' 101 k = zd m 101 k) : RC e h' m' := by
  unfold RC at *
  rw [ca 23 (by decide), ca 24 (by decide), cf 11 (by decide), cf 45 (by decide), cb 165 (by decide), cb 166 (by decide), cc 94 (by decide), cc 96 (by decide)]; exact p
theorem RQ.cg {e : Int} {h m h' m' : zH} (p : RQ e h m) (ca : zd h' (e + 22) = zd h (e + 22)) (cf : zd h' e 42 = zd h e 42) (cb : zd m' 164 = zd m 164) (cc : zd m' 101 91 = zd m 101 91) : RQ e h' m' := by
  unfold RQ at *
  rw [ca, cf, cb, cc]; exact p
/-- what is undone at the end -/
theorem E_end {e top : Int} {h : zH} {K : zH → Prop} (hs : ES e h top) (hc : EC e h) (hT : ET e h) (n0 : 0 ≤ zd h e 21) (n1 : zd h e 21 ≤ 321) (z18 : zd h (e + 18) 0 = 0) (k : ∀ h', yA [e, e + 3, e + 4, e + 6, e + 11, e + 14] h h' → (∀ j, j ≠ 20 → j ≠ 21 → zd h' e j = zd h e j) → EP e h' → K h') : P_E_back e (-1) h (fun _ h31 => ∀ h32 : zH, h32 = zw h31 e 21 0 → K h32) := by
  have T1 := hT.1
  refine L_back (E := 0) hs hc hT (by decide) (by decide) n1 ?_ (by decide) (by omega) (fun h' p a b c => ?_)
  · rw [if_neg (by omega)]; exact z18.symm
  · intro h32 e32
    refine k h32 (by rw [e32]; exact p.1.w (by simp)) (fun j a1 a2 => ?_) ?_
    · rw [e32, zd_i a2, p.2.1, if_neg a1, if_neg a2]
    · unfold EP
      rw [e32, zw_f (by omega), zw_f (by omega)]; exact ⟨b.2.1.2.1, b.2.1.2.2⟩
theorem E_no {e top : Int} {h : zH} {Q : Int → zH → Prop} (hs : ES e h top) (hc : EC e h) (ht : top ≤ 564 + zd h e 25) (r0 : 0 ≤ zd h e 25) (n0 : 0 ≤ zd h e 50) (n1 : zd h e 50 ≤ 300) (i0 : 0 ≤ zd h e 26) (i1 : zd h e 26 ≤ 8000) (hcap : zd h e 10 ≤ 3780 + zd h e 26) (hit : ∀ j, 0 ≤ j → j < zd h e 50 → eit (zd h e 11) (zd h (e + 28) j)) (t28 : zt h (e + 28) = 50) (l28 : zl h (e + 28) = 300)
    (k0 : (800 ≤ zd h e 25 ∨ 8000 < zd h e 26 + zd h e 50) → Q (-1003) h) (k1 : ¬ (800 ≤ zd h e 25 ∨ 8000 < zd h e 26 + zd h e 50) → ∀ hk h', KeepP e 0 h hk → ES e hk (564 + zd h e 25 + 1) → EC e hk → yA [e + 23] hk h' → (∀ w, 0 ≤ w → w < 8 → zd h' (e + 23) w = zd h (e + 29) w) → Q 0 h') : P_E_no e h Q := by
  unfold P_E_no P_E_hasRoom
  obtain ⟨j1, j2⟩ := room_iff (a := zd h e 25) (b := zd h e 26) (c := zd h e 50) (by omega) (by omega)
  refine zif_i (fun c => k0 (j1.mp c)) (fun c => ?_)
  have c' := fun z => c (j1.mpr z)
  refine E_keep hs hc ht r0 (by omega) n0 n1 i0 i1 (by omega) hit t28 l28 (fun hk pk hs' hc' => ?_)
  have k29 : zd hk (e + 29) = zd h (e + 29) := pk.1.f (by simp only [List.mem_cons, List.not_mem_nil, or_false]; omega)
  have key : ∀ (d f : Nat) (y : Int) (g : zH), y = 8 - d → 0 ≤ y → d < f → yA [e + 23] hk g → (∀ w, 0 ≤ w → w < y → zd g (e + 23) w = zd h (e + 29) w) → P_E_no_L22 e Q f y g := by
    intro d
    induction d with
    | zero =>
      intro f y g hy y0 hf gA gf
      obtain ⟨f, rfl⟩ : ∃ m, f = m + 1 := ⟨f - 1, by omega⟩
      unfold P_E_no_L22
      rw [if_pos (by omega)]
      exact k1 c' hk g pk hs' hc' gA (fun w w0 w1 => gf w w0 (by omega))
    | succ d ih =>
      intro f y g hy y0 hf gA gf
      obtain ⟨f, rfl⟩ : ∃ m, f = m + 1 := ⟨f - 1, by omega⟩
      unfold P_E_no_L22
      rw [if_neg (by omega), gA.f (b := e + 29) (by simp only [List.mem_cons, List.not_mem_nil, or_false]; omega), k29]
      refine ⟨⟨by omega, by omega⟩, ⟨by omega, by omega⟩, ?_⟩
      intro h5 e5 x1 ex
      rw [w32_of (by omega) (by omega)] at ex
      rw [ex]
      refine ih f (y + 1) h5 (by omega) (by omega) (by omega) (by rw [e5]; exact gA.w (by simp)) (fun w w0 w1 => ?_)
      by_cases z : w = y
      · rw [e5, z, zd_s]
      · rw [e5, zd_i z]; exact gf w w0 (by omega)
  exact ⟨9, key 8 9 0 hk (by decide) (by decide) (by decide) (yA.rf _ _) (fun w w0 w1 => by omega)⟩
/-- what an ending leaves here -/
def E3 (e : Int) (h : zH) : Prop := (∃ top, ES e h top) ∧ EC e h ∧ ET e h
theorem E3.cg {e : Int} {h h' : zH} (p : E3 e h) (ca : ∀ k, k ∈ ([1, 2, 3, 4, 5, 6, 7, 8, 9, 10, 11, 17] : List Int) → zd h' (e + k) = zd h (e + k)) (cf : ∀ k, k ∈ ([10, 11, 20] : List Int) → zd h' e k = zd h e k) : E3 e h' := by
  obtain ⟨⟨top, p1⟩, p2, p3⟩ := p
  refine ⟨⟨top, p1.cg (cf 10 (by decide)) (cf 11 (by decide)) (ca 1 (by decide)) (ca 2 (by decide)) (ca 5 (by decide)) (ca 7 (by decide)) (ca 8 (by decide)) (ca 9 (by decide)) (ca 10 (by decide))⟩, ⟨fun s ls => ?_, p2.2.1.cg (ca 2 (by decide)) (ca 3 (by decide)) (ca 4 (by decide)) (ca 5 (by decide)) (ca 6 (by decide)), ?_⟩, ?_⟩
  · have := p2.1 s ((elaid.cg (cf 10 (by decide)) (ca 5 (by decide)) (ca 8 (by decide))).mp ls)
    unfold ecnt est at this ⊢
    rw [ca 4 (by decide), ca 3 (by decide), ca 11 (by decide), ca 7 (by decide), ca 1 (by decide), ca 2 (by decide)]
    exact this
  · rw [cf 11 (by decide), ca 11 (by decide)]; exact p2.2.2
  · unfold ET est at p3 ⊢
    rw [cf 20 (by decide), cf 11 (by decide), ca 17 (by decide), ca 11 (by decide)]; exact p3
def NaS (e q s : Int) (h : zH) (r : Int) (h' : zH) : Prop := ∀ m, RMs e q h m → R7 e q h m → zd m 155 q = zd h e 25 → zd m 101 98 = num s → (q = 0 → RQ e h m) → ∀ Q' : Int → zH → Prop, (∀ m', RE e q h' m' → MFw q m m' → (q = 0 → RQ e h' m') → (r = 0 → q = 0 → RC e h' m') → Q' r m') → P_M_endLow q m Q'
theorem MFw.w101 {i v : Int} {m g : zH} (p : MFw 0 m g) (h : i = 91 ∨ i = 94 ∨ i = 96) : MFw 0 m (zw g 101 i v) := by
  obtain ⟨p1, p2, p3, p4, p5⟩ := p
  have k : ∀ b, b ≠ 101 → zd (zw g 101 i v) b = zd g b := fun b hb => zw_f hb
  exact ⟨p1.w rfl (by decide) (by decide), fun b hb => by rw [k b (by simp only [List.mem_cons, List.not_mem_nil, or_false] at hb; omega)]; exact p2 b hb, fun j hj => by rw [zd_i (by simp only [List.mem_cons, List.not_mem_nil, or_false] at hj; omega)]; exact p3 j hj, fun hq => absurd hq (by decide), fun b n hb j hj => by rw [k b (by simp only [List.mem_cons, List.not_mem_nil, or_false, Prod.mk.injEq] at hb; omega)]; exact p5 b n hb j hj⟩
theorem MFw.core {m g g' : zH} (p : MFw 0 m g) (gA : yA [101, 165] g g') (gf : ∀ j, j ≠ 94 → zd g' 101 j = zd g 101 j) : MFw 0 m g' :=
  p.tr ⟨⟨gA.1, gA.2.1, gA.2.2.1, fun b j hb => gA.d (by simp only [List.mem_cons, List.not_mem_nil, or_false]; omega) j⟩, fun b hb => gA.f (by simp only [List.mem_cons, List.not_mem_nil, or_false] at hb ⊢; omega), fun j hj => gf j (by simp only [List.mem_cons, List.not_mem_nil, or_false] at hj; omega), fun hq => absurd hq (by decide), fun b n hbn j hj => gA.d (by simp only [List.mem_cons, List.not_mem_nil, or_false, Prod.mk.injEq] at hbn ⊢; omega) j⟩
theorem Mrec.fr {q n : Int} {m m' : zH} (q0 : 0 ≤ q) (q1 : q ≤ 1) (n0 : 0 ≤ n) (r0 : 0 ≤ zd m 154 q) (r1 : zd m 154 q < 800) (a0 : 0 ≤ zd m 152 (801 * q + zd m 154 q)) (a1 : zd m 152 (801 * q + zd m 154 q) + n ≤ 8000) (p : MrecP q n m m') : MFr q m m' := by
  obtain ⟨rA, r153, r152, r154, r158⟩ := p
  refine MFr.of rA (fun b hb => by simp only [List.mem_cons, List.not_mem_nil, or_false] at hb ⊢; omega) (fun b n' hb hn j hj => ?_)
  simp only [List.mem_cons, List.not_mem_nil, or_false] at hb
  simp only [List.mem_cons, List.not_mem_nil, or_false, Prod.mk.injEq] at hn
  rcases hb with rfl | rfl | rfl | rfl
  · have : n' = 801 := by omega
    subst this
    rw [r152, if_neg (by omega)]
  · have : n' = 8050 := by omega
    subst this
    rw [r153, if_neg (by omega)]
  · have : n' = 1 := by omega
    subst this
    rw [r154, if_neg (by omega)]
  · have : n' = 6400 := by omega
    subst this
    rw [r158, if_neg (by omega)]
/-- a row that is kept but forces nothing, here and there -/
theorem S_keep0 {e q top n : Int} {h hk m m' : zH} (he : zE e) (q0 : 0 ≤ q) (q1 : q ≤ 1) (hs : ES e h top) (ht : top ≤ 564 + zd h e 25) (R : RMs e q h m) (C : R7 e q h m) (rl : zd m 155 q = zd h e 25) (r1 : zd h e 25 < 800) (hn : zd h e 50 = n) (n0 : 0 ≤ n) (n1 : zd h e 26 + n ≤ 8000) (hit : ∀ j, 0 ≤ j → j < n → eit (zd h e 11) (zd h (e + 28) j)) (hfr : ∀ j, 0 ≤ j → j < n → zd m 167 j = zd h (e + 28) j) (hsr : ∀ w b, 0 ≤ w → w < 8 → b < 64 → hb (zd h (e + 29) w) b = hb (zd m 160 w) b) (pk : KeepP e 0 h hk) (rp : MrecP q n m m') : RMs e q hk m' ∧ R7 e q hk m' ∧ MFr q m m' := by
  have eR : 25 ≤ e ∧ e ≤ 58 := by rcases he with z | z <;> omega
  have a154 : zd m 154 q = zd h e 25 := R.2.2.2.2.1.1.1.symm
  have b152 : zd m 152 (801 * q + zd m 154 q) = zd h e 26 := by rw [a154]; exact R.2.2.2.2.1.2.1.symm
  have b0 := R.2.2.2.2.1.1.2.1
  have w0 := (rec_le R.2.2.2.2.1 (k := zd h e 25) (l := zd h e 25) b0 (Int.le_refl _) (Int.le_refl _)).1
  rw [← a154] at w0
  have fr := Mrec.fr q0 q1 n0 (by omega) (by omega) (by omega) (by omega) rp
  obtain ⟨rA, r153, r152, r154, r158⟩ := rp
  subst hn
  refine ⟨S_keep (m := m) (by omega) q0 q1 hs ht R (by rw [rl, a154]) r1 n0 n1 hit hfr hsr pk (fun k hk => rA.f (by simp only [List.mem_cons, List.not_mem_nil, or_false] at hk ⊢; omega)) (fun k hk => rA.d (by decide) k) r153 r152 (by rw [r154, if_pos rfl]) r158 (by rw [rA.f (b := 155) (by decide), if_pos rfl]) (fun j => ?_) (fun j => ?_), ?_, fr⟩
  · rw [rA.f (b := 156) (by decide), if_neg (by exact fun x => x.1 rfl)]
  · rw [rA.f (b := 157) (by decide), if_neg (by exact fun x => x.1 rfl)]
  · refine C.cg (fun k hk' => ?_) (fun k hk => rA.f (by simp only [List.mem_cons, List.not_mem_nil, or_false] at hk ⊢; omega)) (fun k hk => rA.d (by decide) k)
    simp only [List.mem_cons, List.not_mem_nil, or_false] at hk'
    rw [pk.2.1, if_neg (by omega), if_neg (by omega), if_neg (by omega), if_neg (by exact fun x => x.2 rfl)]
theorem keep_ET {e a : Int} {h hk : zH} (pk : KeepP e a h hk) (hT : ET e h) : ET e hk := by
  have ck : ∀ k, k ≠ 25 → k ≠ 26 → k ≠ 10 → k ≠ 37 → zd hk e k = zd h e k := fun k a b c d => by rw [pk.2.1, if_neg a, if_neg b, if_neg c, if_neg (by exact fun x => d x.1)]
  unfold ET est at hT ⊢
  rw [ck 20 (by decide) (by decide) (by decide) (by decide), ck 11 (by decide) (by decide) (by decide) (by decide), pk.1.f (b := e + 17) (by simp only [List.mem_cons, List.not_mem_nil, or_false]; omega), pk.1.f (b := e + 11) (by simp only [List.mem_cons, List.not_mem_nil, or_false]; omega)]; exact hT
theorem ET.cg {e : Int} {h h' : zH} (p : ET e h) (ca : ∀ k, k ∈ ([11, 17] : List Int) → zd h' (e + k) = zd h (e + k)) (cf : ∀ k, k ∈ ([11, 20] : List Int) → zd h' e k = zd h e k) : ET e h' := by
  unfold ET est at *
  rw [cf 20 (by decide), cf 11 (by decide), ca 17 (by decide), ca 11 (by decide)]; exact p
