/-! before each level every row was true, or had two items that were open -/
def EX (e : Int) (h : zH) : Prop := ∀ L, 1 ≤ L → L ≤ zd h e 21 → ∀ s, 0 ≤ s → s < 1364 → zd h (e + 5) s = 1 → (∃ c, zd h (e + 1) s ≤ c ∧ c < zd h (e + 1) s + zd h (e + 2) s ∧ est e h (zd h (e + 7) c) = 1 ∧ zd h (e + 12) (zab (zd h (e + 7) c)) < L) ∨ (∃ c c', zd h (e + 1) s ≤ c ∧ c < c' ∧ c' < zd h (e + 1) s + zd h (e + 2) s ∧ (est e h (zd h (e + 7) c) = 0 ∨ L ≤ zd h (e + 12) (zab (zd h (e + 7) c))) ∧ (est e h (zd h (e + 7) c') = 0 ∨ L ≤ zd h (e + 12) (zab (zd h (e + 7) c'))))
theorem set_EX {e x why top : Int} {h h' : zH} (p : EsetP e x why h h') (hs : ES e h top) (hx : eit (zd h e 11) x) (ho : est e h x = 0) (hX : EX e h) : EX e h' := by
  obtain ⟨pA, p11, p12, -, -, p0, -, -⟩ := p
  have vx : zd h (e + 11) (zab x) = 0 := by rw [est_ab e h hx] at ho; split at ho <;> omega
  intro L L0 L1 s s0 s1 ht
  rw [p0, if_neg (by decide)] at L1
  rw [pA.f (b := e + 5) (by simp only [List.mem_cons, List.not_mem_nil, or_false]; omega)] at ht
  rw [pA.f (b := e + 1) (by simp only [List.mem_cons, List.not_mem_nil, or_false]; omega), pA.f (b := e + 2) (by simp only [List.mem_cons, List.not_mem_nil, or_false]; omega), pA.f (b := e + 7) (by simp only [List.mem_cons, List.not_mem_nil, or_false]; omega)]
  obtain ⟨-, ⟨f0, z0, f1⟩, -⟩ := hs.2.2.2.2.2.1 s (Or.inl ⟨s0, s1, ht⟩)
  have old : ∀ c, zd h (e + 1) s ≤ c → c < zd h (e + 1) s + zd h (e + 2) s → (zab (zd h (e + 7) c) = zab x ∧ zd h' (e + 12) (zab (zd h (e + 7) c)) = zd h e 21) ∨ (zab (zd h (e + 7) c) ≠ zab x ∧ est e h' (zd h (e + 7) c) = est e h (zd h (e + 7) c) ∧ zd h' (e + 12) (zab (zd h (e + 7) c)) = zd h (e + 12) (zab (zd h (e + 7) c))) := by
    intro c k0 k1
    have it := (hs.2.2.2.2.1 c (by omega) (by omega)).1
    by_cases d : zab (zd h (e + 7) c) = zab x
    · exact Or.inl ⟨d, by rw [p12, if_pos d]⟩
    · exact Or.inr ⟨d, by rw [est_ab e h' it, est_ab e h it, p11, if_neg d], by rw [p12, if_neg d]⟩
  rcases hX L L0 L1 s s0 s1 ht with ⟨c, k0, k1, k2, k3⟩ | ⟨c, c', k0, k1, k2, k3, k4⟩
  · have it := (hs.2.2.2.2.1 c (by omega) (by omega)).1
    rcases old c k0 k1 with ⟨o1, _⟩ | ⟨o1, o2, o3⟩
    · rw [est_ab e h it, o1, vx] at k2
      split at k2 <;> omega
    · exact Or.inl ⟨c, k0, k1, by rw [o2]; exact k2, by rw [o3]; exact k3⟩
  · refine Or.inr ⟨c, c', k0, k1, k2, ?_, ?_⟩
    · rcases old c k0 (by omega) with ⟨_, o2⟩ | ⟨o1, o2, o3⟩
      · rw [o2]; exact Or.inr L1
      · rw [o2, o3]; exact k3
    · rcases old c' (by omega) k2 with ⟨_, o2⟩ | ⟨o1, o2, o3⟩
      · rw [o2]; exact Or.inr L1
      · rw [o2, o3]; exact k4
/-- a quarrel above level 0 has a name of the level -/
theorem quar_lv {e top s : Int} {h : zH} (p : EInv e h top) (hX : EX e h) (s0 : 0 ≤ s) (s1 : s < 1364) (hq : Equar e h s) (hn : 1 ≤ zd h e 21) : ∃ c, zd h (e + 1) s ≤ c ∧ c < zd h (e + 1) s + zd h (e + 2) s ∧ zd h (e + 12) (zab (zd h (e + 7) c)) = zd h e 21 := by
  obtain ⟨hs, hc, hT, hL, hO, -, -⟩ := p
  have ht : zd h (e + 5) s = 1 := (hs.2.2.2.2.2.2 s s0 s1).resolve_left hq.1
  have ls : elaid e h s := Or.inl ⟨s0, s1, ht⟩
  obtain ⟨-, ⟨f0, z0, f1⟩, -⟩ := hs.2.2.2.2.2.1 s ls
  obtain ⟨c1, c2⟩ := hc.1 s ls
  have fa : ∀ c, zd h (e + 1) s ≤ c → c < zd h (e + 1) s + zd h (e + 2) s → est e h (zd h (e + 7) c) = -1 := by
    intro c k0 k1
    have q3 := hq.2.2
    rw [c2] at q3
    unfold ecnt at q3
    exact zct_all.mp (q3.trans (show zd h (e + 2) s = ((zd h (e + 2) s).toNat : Int) by omega)) c k0 (by omega)
  rcases hX _ hn (Int.le_refl _) s s0 s1 ht with ⟨c, k0, k1, k2, _⟩ | ⟨c, c', k0, k1, k2, k3, _⟩
  · rw [fa c k0 k1] at k2; omega
  · refine ⟨c, k0, by omega, ?_⟩
    have f := fa c k0 (by omega)
    have it := (hs.2.2.2.2.1 c (by omega) (by omega)).1
    have zr := zab_r it
    have vn : zd h (e + 11) (zab (zd h (e + 7) c)) ≠ 0 := by rw [est_ab e h it] at f; split at f <;> omega
    obtain ⟨i, i0, i1, i2⟩ := hL.1.2.2.2 _ zr.1 zr.2 vn
    have := hL.1.2.1 i i0 i1
    rw [i2] at this
    rcases k3 with k3 | k3
    · omega
    · omega
def FFr (e : Int) (h h' : zH) : Prop := yA [e, e + 3, e + 4, e + 6, e + 11, e + 12, e + 13, e + 16, e + 17] h h' ∧ (∀ j, j ≠ 20 → j ≠ 30 → j ≠ 31 → j ≠ 32 → zd h' e j = zd h e j) ∧ (0 ≤ zd h' e 31 ∧ zd h' e 31 ≤ zd h e 31) ∧ zd h e 20 ≤ zd h' e 20
def FRes (e : Int) (h' : zH) (r : Int) : Prop := (r = -1005 ∧ ∀ s, 0 ≤ s → s < 1364 → ¬ Ehot e h' s) ∨ ((0 ≤ r ∧ r < 1364) ∧ Equar e h' r) ∨ (r = -1004 ∧ zd h' e 31 = 0)
def FSim (e q : Int) (h : zH) (r : Int) (h' : zH) : Prop := ∀ m g, RMs e q h m → R7 e q h m → findR m q g → ∀ (n : Nat) (Q' : Int → zH → Prop) (K' : zH → Prop), 300 - zd h e 20 < n → (r = -1004 → ∀ g', RMs e q h' g' → R7 e q h' g' → MFr q m g' → Q' (-1004) g') → (r ≠ -1004 → ∀ g', RMs e q h' g' → R7 e q h' g' → MFr q m g' → FMatch r g' → K' g') → P_M_oneTurn_L5 q Q' K' n g
theorem MFr.w {q : Int} {m g : zH} (p : MFr q m g) {i v : Int} (h : i = 89 ∨ i = 97 ∨ i = 98 ∨ i = 99 ∨ i = 100 ∨ i = 104 ∨ i = 106) : MFr q m (zw g 101 i v) := by
  obtain ⟨p1, p2, p3, p4, p5⟩ := p
  have k : ∀ b, b ≠ 101 → zd (zw g 101 i v) b = zd g b := fun b hb => zw_f hb
  refine ⟨p1.w rfl (by decide) (by decide), fun b hb => by rw [k b (by simp only [List.mem_cons, List.not_mem_nil, or_false] at hb; omega)]; exact p2 b hb, fun j hj => by rw [zd_i (by simp only [List.mem_cons, List.not_mem_nil, or_false] at hj; omega)]; exact p3 j hj, fun hq => by rw [zd_i (by omega), zd_i (by omega), zd_i (by omega), k 164 (by decide), k 165 (by decide), k 166 (by decide), k 155 (by decide)]; exact p4 hq, fun b n hb j hj => by rw [k b (by simp only [List.mem_cons, List.not_mem_nil, or_false, Prod.mk.injEq] at hb; omega)]; exact p5 b n hb j hj⟩
theorem MFr.w163 {q : Int} {m g : zH} (q0 : 0 ≤ q) (q1 : q ≤ 1) (p : MFr q m g) {i v : Int} (h0 : 10 * q ≤ i) (h1 : i < 10 * q + 10) : MFr q m (zw g 163 i v) := by
  obtain ⟨p1, p2, p3, p4, p5⟩ := p
  have k : ∀ b, b ≠ 163 → zd (zw g 163 i v) b = zd g b := fun b hb => zw_f hb
  refine ⟨p1.w rfl (by decide) (by decide), fun b hb => by rw [k b (by simp only [List.mem_cons, List.not_mem_nil, or_false] at hb; omega)]; exact p2 b hb, fun j hj => by rw [k 101 (by decide)]; exact p3 j hj, fun hq => by rw [k 101 (by decide), k 164 (by decide), k 165 (by decide), k 166 (by decide), k 155 (by decide)]; exact p4 hq, fun b n hb j hj => ?_⟩
  by_cases c : b = 163
  · have e : n = 10 := by simp only [List.mem_cons, List.not_mem_nil, or_false, Prod.mk.injEq] at hb; omega
    rw [c, zd_i (by rw [e] at hj; omega), ← c]; exact p5 b n hb j hj
  · rw [k b c]; exact p5 b n hb j hj
/-- a step is taken, here and there -/
theorem E_step {e : Int} {h : zH} {Q : Int → zH → Prop} (k : ∀ h', h' = zw (zw h e 31 (w32 (zd h e 31 - 1))) e 30 (w32 (zd h e 30 + 1)) → Q 0 h') : P_E_step e h Q := by
  unfold P_E_step
  intro h1 e1 h2 e2
  refine k h2 ?_
  rw [e2, e1, zd_i (by decide)]
theorem M_takes {q : Int} {m : zH} {Q : Int → zH → Prop} (q0 : 0 ≤ q) (q1 : q ≤ 1) (k0 : zd m 101 89 = 0 → Q 0 m) (k1 : zd m 101 89 ≠ 0 → ∀ m', m' = zw (zw m 101 89 (w32 (zd m 101 89 - 1))) 163 (10 * q + 1) (w32 (zd m 163 (10 * q + 1) + 1)) → Q 1 m') : P_M_takesStep q m Q := by
  unfold P_M_takesStep
  simp only [w32_al, w32_ar, w32_sl, w32_sr, w32_ml, w32_mr]
  rw [w32_of (x := 10 * q + 1) (by omega) (by omega)]
  refine zif_i k0 (fun c => ?_)
  intro h1 e1
  refine ⟨⟨by omega, by omega⟩, ⟨by omega, by omega⟩, ?_⟩
  intro h2 e2
  refine k1 c h2 ?_
  rw [e2, e1, zd_a (by decide)]
/-- both are counted: a field of the engine, a count of the model -/
theorem RMs.cnt {e q j i v u : Int} {h m : zH} (p : RMs e q h m) (he : 14 < e) (hj : j ∉ ([10, 11, 20, 21, 22, 25, 26, 28, 37] : List Int)) : RMs e q (zw h e j v) (zw m 163 i u) :=
  p.cg (fun k hk => zw_f (by simp only [List.mem_cons, List.not_mem_nil, or_false] at hk; omega)) (fun k hk => zd_i (fun x => hj (x ▸ hk))) (fun k _ => zd_a (by omega)) (fun k hk => zw_f (by simp only [List.mem_cons, List.not_mem_nil, or_false] at hk; omega)) (fun k _ => zd_a (by decide))
theorem RMs.left {e q v u : Int} {h m : zH} (p : RMs e q h m) (he : 14 < e) : RMs e q (zw h e 31 v) (zw m 101 89 u) :=
  p.cg (fun k hk => zw_f (by simp only [List.mem_cons, List.not_mem_nil, or_false] at hk; omega)) (fun k hk => zd_i (by simp only [List.mem_cons, List.not_mem_nil, or_false] at hk; omega)) (fun k _ => zd_a (by omega)) (fun k hk => zw_f (by simp only [List.mem_cons, List.not_mem_nil, or_false] at hk; omega)) (fun k hk => zd_i (by simp only [List.mem_cons, List.not_mem_nil, or_false] at hk; omega))
theorem S_force {e q top : Int} (he : zE e) (q0 : 0 ≤ q) (q1 : q ≤ 1) : ∀ (d f : Nat) (h : zH) (Q : Int → zH → Prop), 300 - zd h e 20 ≤ d → d < f → EInv e h top → EX e h → 0 ≤ zd h e 31 → zd h e 31 ≤ 2000000000 → (∀ r h', EInv e h' top → EX e h' → FFr e h h' → FRes e h' r → FSim e q h r h' → Q r h') → P_E_force_L0 e Q f h := by
  have eR : 25 ≤ e ∧ e ≤ 58 := by rcases he with z | z <;> omega
  intro d
  induction d using Nat.strongRecOn with
  | ind d ih =>
    intro f h Q hd hf hI hX l0 l1 k
    obtain ⟨f, rfl⟩ : ∃ m, f = m + 1 := ⟨f - 1, by omega⟩
    obtain ⟨hs, hc, hT, -, -, -, -⟩ := id hI
    have A3 := hs.1
    have T1 := hT.1
    unfold P_E_force_L0
    refine L_fq hc.2.1 (fun r hr => ?_)
    rcases hr with ⟨r1, nq⟩ | ⟨⟨r0, r1⟩, rq, rmin⟩
    · rw [r1, if_pos rfl]
      refine L_ff hc.2.1 (fun s hs' => ?_)
      rcases hs' with ⟨s1, nh⟩ | ⟨⟨s0, s1⟩, sh, smin⟩
      · rw [s1, if_pos rfl]
        refine k (-1005) h hI hX ⟨yA.rf _ _, fun _ _ _ _ _ => rfl, ⟨l0, Int.le_refl _⟩, Int.le_refl _⟩ (Or.inl ⟨rfl, nh⟩) ?_
        intro m g hm h7 hf n Q' K' hn kq kk
        obtain ⟨n, rfl⟩ : ∃ m, n = m + 1 := ⟨n - 1, by omega⟩
        obtain ⟨gF, g98, g99⟩ := ff_n hs hc hm nh (fq_n hs hc hm nq hf)
        unfold P_M_oneTurn_L5
        rw [g98, if_neg (by decide), g99, if_pos (by decide)]
        exact kk (by decide) g (hm.MF gF) (h7.MF gF) (gF.fr q) (Or.inl ⟨rfl, g98, g99⟩)
      · rw [if_neg (show ¬ s = -1005 by omega)]
        have nr := num_r s0 s1
        refine zif_i (fun c => ?_) (fun c => ?_)
        · refine k (-1004) h hI hX ⟨yA.rf _ _, fun _ _ _ _ _ => rfl, ⟨l0, Int.le_refl _⟩, Int.le_refl _⟩ (Or.inr (Or.inr ⟨rfl, c⟩)) ?_
          intro m g hm h7 hf n Q' K' hn kq kk
          obtain ⟨n, rfl⟩ : ∃ m, n = m + 1 := ⟨n - 1, by omega⟩
          obtain ⟨gF, g98, g99, gu⟩ := ff_s hs hc hm nq s0 s1 sh smin (fq_n hs hc hm nq hf)
          have G7 := h7.MF gF
          unfold P_M_oneTurn_L5
          rw [g98, if_neg (by decide), g99, if_neg (by omega)]
          refine M_takes q0 q1 (fun _ => ?_) (fun c2 => absurd (G7.1.symm.trans c) c2)
          rw [if_pos rfl]
          exact kq rfl g (hm.MF gF) G7 (gF.fr q)
        · refine E_step (fun h6 e6 => ?_)
          intro h7 e7
          have nqs := nq s s0 s1
          have k7 : ∀ b, b ≠ e → zd h7 b = zd h b := fun b hb => by rw [e7, zw_f hb, e6, zw_f hb, zw_f hb]
          have f7 : ∀ j, j ≠ 30 → j ≠ 31 → j ≠ 32 → zd h7 e j = zd h e j := fun j n0 n1 n2 => by rw [e7, zd_i n2, e6, zd_i n0, zd_i n1]
          have f31 : zd h7 e 31 = zd h e 31 - 1 := by rw [e7, zd_i (by decide), e6, zd_i (by decide), zd_s, w32_of (by omega) (by omega)]
          have A7 : yA [e] h h7 := by rw [e7, e6]; exact (((yA.rf _ h).w (by simp)).w (by simp)).w (by simp)
          have I7 : EInv e h7 top := by
            rw [e7, e6]
            exact ((hI.w (by decide) (by decide) (by decide) (by decide)).w (by decide) (by decide) (by decide) (by decide)).w (by decide) (by decide) (by decide) (by decide)
          have es7 : ∀ z, est e h7 z = est e h z := fun z => by unfold est; rw [k7 _ (by omega)]
          have sh7 : Ehot e h7 s := by unfold Ehot at sh ⊢; rw [k7 (e + 5) (by omega), k7 (e + 4) (by omega), k7 (e + 2) (by omega), k7 (e + 3) (by omega)]; exact sh
          have nq7 : ¬ Equar e h7 s := by unfold Equar at nqs ⊢; rw [k7 (e + 5) (by omega), k7 (e + 4) (by omega), k7 (e + 2) (by omega), k7 (e + 3) (by omega)]; exact nqs
          have X7 : EX e h7 := by
            unfold EX est at hX ⊢
            rw [f7 21 (by decide) (by decide) (by decide), k7 (e + 5) (by omega), k7 (e + 1) (by omega), k7 (e + 2) (by omega), k7 (e + 7) (by omega), k7 (e + 12) (by omega), k7 (e + 11) (by omega)]; exact hX
          refine E_forced I7 s0 s1 sh7 nq7 (fun c' h11 c0 c1 c2 pe I11 => ?_)
          obtain ⟨ls7, ht7, -, -⟩ := hot_row I7 s0 s1 sh7 nq7
          obtain ⟨-, ⟨ff0, zz0, ff1⟩, -⟩ := I7.1.2.2.2.2.2.1 s ls7
          have it7 := (I7.1.2.2.2.2.1 c' (by omega) (by omega)).1
          have room := tr_room I7.1 I7.2.2.1 it7 c2
          have a7 : zd h7 e 11 = zd h e 11 := f7 11 (by decide) (by decide) (by decide)
          have t7 : zd h7 e 20 = zd h e 20 := f7 20 (by decide) (by decide) (by decide)
          have t11 : zd h11 e 20 = zd h e 20 + 1 := by rw [pe.2.2.2.2.2.1, if_pos rfl, t7]
          have l11 : zd h11 e 31 = zd h e 31 - 1 := by rw [pe.2.2.2.2.2.1, if_neg (by decide), f31]
          have X11 : EX e h11 := set_EX pe I7.1 it7 c2 X7
          refine ih (d - 1) (by omega) f h11 Q (by omega) (by omega) I11 X11 (by omega) (by omega) (fun r h' I' X' F' R' S' => k r h' I' X' ⟨((A7.mono (by simp)).tr pe.1).tr F'.1, fun j n0 n1 n2 n3 => by rw [F'.2.1 j n0 n1 n2 n3, pe.2.2.2.2.2.1, if_neg n0, f7 j n1 n2 n3], by have := F'.2.2.1; omega, by have := F'.2.2.2; omega⟩ R' ?_)
          intro m g hm hm7 hf n Q' K' hn kq kk
          obtain ⟨n, rfl⟩ : ∃ m, n = m + 1 := ⟨n - 1, by omega⟩
          obtain ⟨gF, g98, g99, gu⟩ := ff_s hs hc hm nq s0 s1 sh smin (fq_n hs hc hm nq hf)
          have G0 := hm.MF gF
          have G7 := hm7.MF gF
          have uu : zd h7 (e + 7) c' = zd g 101 100 := by
            rw [k7 (e + 7) (by omega)]
            refine bz_u hs hm.2.1 hm.2.2.1 s0 s1 (by rw [← k7 (e + 5) (by omega)]; exact ht7) gu (by rw [← k7 (e + 1) (by omega)]; exact c0) (by rw [← k7 (e + 1) (by omega), ← k7 (e + 2) (by omega)]; exact c1) (by rw [← es7, ← k7 (e + 7) (by omega)]; exact c2)
          unfold P_M_oneTurn_L5
          simp only [w32_al, w32_ar, w32_sl, w32_sr, w32_ml, w32_mr]
          rw [g98, if_neg (by decide), g99, if_neg (by omega), w32_of (x := 10 * q + 2) (by omega) (by omega)]
          refine M_takes q0 q1 (fun z => absurd (G7.1.trans z) c) (fun z m4 e4 => ?_)
          rw [if_neg (by decide)]
          refine ⟨⟨by omega, by omega⟩, ⟨by omega, by omega⟩, ?_⟩
          intro m5 e5
          have u99 : zd m5 101 99 = num s := by rw [e5, zd_a (by decide), e4, zd_a (by decide), zd_i (by decide)]; exact g99
          have u100 : zd m5 101 100 = zd h7 (e + 7) c' := by rw [e5, zd_a (by decide), e4, zd_a (by decide), zd_i (by decide)]; exact uu.symm
          rw [u99, u100]
          have M5 : RMs e q h7 m5 := by
            rw [e5, e4, e7, e6]
            exact ((G0.left (by omega)).cnt (by omega) (by decide)).cnt (by omega) (by decide)
          have C5 : R7 e q h7 m5 := by
            obtain ⟨b1, b2, b3, b4, b5, b6, b7, b8, b9, b10⟩ := G7
            have v6 : ∀ j, zd h6 e j = if j = 30 then w32 (zd h e 30 + 1) else if j = 31 then w32 (zd h e 31 - 1) else zd h e j := by
              intro j
              by_cases x1 : j = 30
              · rw [if_pos x1, x1, e6, zd_s]
              · by_cases x2 : j = 31
                · rw [if_neg x1, if_pos x2, x2, e6, zd_i (by decide), zd_s]
                · rw [if_neg x1, if_neg x2, e6, zd_i x1, zd_i x2]
            have v7 : ∀ j, zd h7 e j = if j = 32 then w32 (zd h e 32 + 1) else zd h6 e j := by
              intro j
              by_cases x1 : j = 32
              · rw [if_pos x1, x1, e7, zd_s, v6]; rfl
              · rw [if_neg x1, e7, zd_i x1]
            have w4 : ∀ j, zd m4 163 j = if j = 10 * q + 1 then w32 (zd g 163 (10 * q + 1) + 1) else zd g 163 j := by
              intro j
              by_cases x1 : j = 10 * q + 1
              · rw [if_pos x1, x1, e4, zd_s]
              · rw [if_neg x1, e4, zd_i x1, zd_a (by decide)]
            have w5 : ∀ j, zd m5 163 j = if j = 10 * q + 2 then w32 (zd g 163 (10 * q + 2) + 1) else zd m4 163 j := by
              intro j
              by_cases x1 : j = 10 * q + 2
              · rw [if_pos x1, x1, e5, zd_s, w4, if_neg (by omega)]
              · rw [if_neg x1, e5, zd_i x1]
            have wl : zd m5 101 89 = w32 (zd g 101 89 - 1) := by rw [e5, zd_a (by decide), e4, zd_a (by decide), zd_s]
            refine ⟨?_, ?_, ?_, ?_, ?_, ?_, ?_, ?_, ?_, ?_⟩
            · rw [v7, v6, wl, b1]; rfl
            · rw [show zd h7 e 30 = w32 (zd h e 30 + 1) from by rw [v7, v6]; rfl, show zd m5 163 (10 * q + 1) = w32 (zd g 163 (10 * q + 1) + 1) from by rw [w5, if_neg (by omega), w4, if_pos rfl], b2]
            · rw [show zd h7 e 32 = w32 (zd h e 32 + 1) from by rw [v7, if_pos rfl], show zd m5 163 (10 * q + 2) = w32 (zd g 163 (10 * q + 2) + 1) from by rw [w5, if_pos rfl], b3]
            · rw [f7 33 (by decide) (by decide) (by decide), show zd m5 163 (10 * q + 3) = zd g 163 (10 * q + 3) from by rw [w5, if_neg (by omega), w4, if_neg (by omega)]]; exact b4
            · rw [f7 34 (by decide) (by decide) (by decide), show zd m5 163 (10 * q + 4) = zd g 163 (10 * q + 4) from by rw [w5, if_neg (by omega), w4, if_neg (by omega)]]; exact b5
            · rw [f7 35 (by decide) (by decide) (by decide), show zd m5 163 (10 * q + 5) = zd g 163 (10 * q + 5) from by rw [w5, if_neg (by omega), w4, if_neg (by omega)]]; exact b6
            · rw [f7 36 (by decide) (by decide) (by decide), show zd m5 163 (10 * q + 6) = zd g 163 (10 * q + 6) from by rw [w5, if_neg (by omega), w4, if_neg (by omega)]]; exact b7
            · rw [f7 38 (by decide) (by decide) (by decide), show zd m5 163 (10 * q + 9) = zd g 163 (10 * q + 9) from by rw [w5, if_neg (by omega), w4, if_neg (by omega)]]; exact b8
            · rw [f7 39 (by decide) (by decide) (by decide), e5, zd_a (by decide), e4, zd_a (by decide), zd_a (by decide)]; exact b9
            · rw [f7 40 (by decide) (by decide) (by decide), e5, zd_a (by decide), e4, zd_a (by decide), zd_a (by decide)]; exact b10
          have tm5 : zd m5 150 q = zd h e 20 := by rw [← M5.2.1.2.2.1, t7]
          refine M_become q0 q1 A3.2 (by rw [← a7]; exact it7) (by omega) (by omega) (fun _ _ => ?_) (fun m11 pm => ?_)
          · have := M5.1.2.2.2.2 (num s) (M5.2.2.1.1 s s0 s1 ht7).1
            rw [a7] at this; exact this
          have R11 : RMs e q h11 m11 := S_forced q0 q1 I7 s0 s1 sh7 nq7 c0 c1 c2 pe (by omega) (by omega) M5 pm
          have C11 : R7 e q h11 m11 := C5.cg (fun k hk => by rw [pe.2.2.2.2.2.1, if_neg (by simp only [List.mem_cons, List.not_mem_nil, or_false] at hk; omega)]) (fun k hk => pm.1.f (by simp only [List.mem_cons, List.not_mem_nil, or_false] at hk ⊢; omega)) (fun k hk => pm.1.d (by decide) k)
          have Fr11 : MFr q m m11 := by
            have z1 : MFr q m m5 := by
              rw [e5, e4]
              exact (((gF.fr q).w (Or.inl rfl)).w163 q0 q1 (by omega) (by omega)).w163 q0 q1 (by omega) (by omega)
            exact z1.tr (Mbec.fr q0 q1 A3.2 (by rw [← a7]; exact it7) (by omega) (by omega) pm)
          refine M_find q0 q1 R11.1 (fun g11 f11 => ?_)
          exact S' m11 g11 R11 C11 f11 n Q' K' (by omega) (fun z g' a b c'' => kq z g' a b (Fr11.tr c'')) (fun z g' a b c'' d' => kk z g' a b (Fr11.tr c'') d')
    · rw [if_neg (show ¬ r = -1005 by omega)]
      refine k r h hI hX ⟨yA.rf _ _, fun _ _ _ _ _ => rfl, ⟨l0, Int.le_refl _⟩, Int.le_refl _⟩ (Or.inr (Or.inl ⟨⟨r0, r1⟩, rq⟩)) ?_
      intro m g hm h7 hf n Q' K' hn kq kk
      obtain ⟨n, rfl⟩ : ∃ m, n = m + 1 := ⟨n - 1, by omega⟩
      obtain ⟨gF, g98⟩ := fq_q hs hc hm r0 r1 rq rmin hf
      have nr := num_r r0 r1
      unfold P_M_oneTurn_L5
      rw [g98, if_pos (by omega)]
      exact kk (by omega) g (hm.MF gF) (h7.MF gF) (gF.fr q) (Or.inr ⟨r0, r1, g98⟩)
