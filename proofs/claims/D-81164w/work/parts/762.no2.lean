/-! noAtAll against endLow -/
theorem S_noAtAll {e q s : Int} {h : zH} {Q : Int → zH → Prop} (he : zE e) (q0 : 0 ≤ q) (q1 : q ≤ 1) (p : SI e h) (n0 : zd h e 21 = 0) (s0 : 0 ≤ s) (s1 : s < 1364) (hq : Equar e h s) (k : ∀ r h', (r = 0 ∨ r = -1003) → E3 e h' → zd h' e 21 = zd h e 21 → zd h' (e + 18) = zd h (e + 18) → NaS e q s h r h' → Q r h') : P_E_noAtAll e s h Q := by
  have eR : 25 ≤ e ∧ e ≤ 58 := by rcases he with z | z <;> omega
  obtain ⟨S0, -, -⟩ := id p
  obtain ⟨I, X, p3, p4, p5, p6, p7, p8⟩ := id S0
  obtain ⟨hs, hc, hT, hL, hO, t16, l16⟩ := id I
  have A3 := hs.1
  have ht : zd h (e + 5) s = 1 := (hs.2.2.2.2.2.2 s s0 s1).resolve_left hq.1
  have ls : elaid e h s := Or.inl ⟨s0, s1, ht⟩
  obtain ⟨-, ⟨f0, z0, f1⟩, -⟩ := hs.2.2.2.2.2.1 s ls
  have allf : ∀ c, zd h (e + 1) s ≤ c → c < zd h (e + 1) s + zd h (e + 2) s → zd h (e + 11) (zab (zd h (e + 7) c)) ≠ 0 := by
    intro c k0 k1
    have it := (hs.2.2.2.2.1 c (by omega) (by omega)).1
    have q3 := hq.2.2
    rw [(hc.1 s ls).2] at q3
    unfold ecnt at q3
    have f : est e h (zd h (e + 7) c) = -1 := zct_all.mp (q3.trans (show zd h (e + 2) s = ((zd h (e + 2) s).toNat : Int) by omega)) c k0 (by omega)
    rw [est_ab e h it] at f; split at f <;> omega
  have low0 : ∀ c, zd h (e + 1) s ≤ c → c < zd h (e + 1) s + zd h (e + 2) s → zd h (e + 12) (zab (zd h (e + 7) c)) = 0 := by
    intro c k0 k1
    have zr := zab_r (hs.2.2.2.2.1 c (by omega) (by omega)).1
    obtain ⟨i, i0, i1, i2⟩ := hL.1.2.2.2 _ zr.1 zr.2 (allf c k0 k1)
    have := hL.1.2.1 i i0 i1
    rw [i2] at this; omega
  unfold P_E_noAtAll
  refine E_beginSet A3.1 A3.2 (fun h2 p2 => ?_)
  obtain ⟨B1, B2, B3, B4⟩ := p2
  have k2 : ∀ b, b ≠ e → b ≠ e + 25 → b ≠ e + 26 → b ≠ e + 29 → zd h2 b = zd h b := fun b n1 n2 n3 n4 => B1.f (by simp only [List.mem_cons, List.not_mem_nil, or_false]; omega)
  have g2 : ∀ j, j ≠ 50 → j ≠ 52 → j ≠ 54 → zd h2 e j = zd h e j := fun j n1 n2 n3 => by rw [B2, if_neg (by omega)]
  have a2 : zd h2 e 11 = zd h e 11 := g2 11 (by decide) (by decide) (by decide)
  have hE2 : EInv e h2 (564 + zd h e 25) := I.cg (fun k hk => k2 _ (by simp only [List.mem_cons, List.not_mem_nil, or_false] at hk; omega) (by simp only [List.mem_cons, List.not_mem_nil, or_false] at hk; omega) (by simp only [List.mem_cons, List.not_mem_nil, or_false] at hk; omega) (by simp only [List.mem_cons, List.not_mem_nil, or_false] at hk; omega)) (fun k hk => g2 k (by simp only [List.mem_cons, List.not_mem_nil, or_false] at hk; omega) (by simp only [List.mem_cons, List.not_mem_nil, or_false] at hk; omega) (by simp only [List.mem_cons, List.not_mem_nil, or_false] at hk; omega)) (B1.t _) (B1.l _)
  have G2 : EG e h2 := fun n n0 n1 => by
    rw [a2] at n1
    have := B3 n n0 n1; omega
  have b1 : zd h2 (e + 1) = zd h (e + 1) := k2 _ (by omega) (by omega) (by omega) (by omega)
  have b2 : zd h2 (e + 2) = zd h (e + 2) := k2 _ (by omega) (by omega) (by omega) (by omega)
  have b7 : zd h2 (e + 7) = zd h (e + 7) := k2 _ (by omega) (by omega) (by omega) (by omega)
  have b12 : zd h2 (e + 12) = zd h (e + 12) := k2 _ (by omega) (by omega) (by omega) (by omega)
  have b16 : zd h2 (e + 16) = zd h (e + 16) := k2 _ (by omega) (by omega) (by omega) (by omega)
  have b19 : zd h2 (e + 19) = zd h (e + 19) := k2 _ (by omega) (by omega) (by omega) (by omega)
  have ht2 : zd h2 (e + 5) s = 1 := by rw [k2 (e + 5) (by omega) (by omega) (by omega) (by omega)]; exact ht
  have c52 : zd h2 e 52 = 0 := by rw [B2, if_pos (by decide)]
  refine E_gather hE2.1 G2 (by rw [B1.t]; exact p8.2.2.1) (by rw [B1.l]; exact p8.2.2.2.1) (Or.inl ⟨s0, s1, ht2⟩) (by rw [B2, if_pos (by decide)]; decide) (by rw [B2, if_pos (by decide)]; decide) (fun r h4 pg => ?_)
  obtain ⟨E1, E2, E3', E4, E5, E6, E7, E8, E9⟩ := pg
  intro h5 e5
  have k5 : ∀ b, b ≠ e → b ≠ e + 25 → b ≠ e + 26 → b ≠ e + 29 → b ≠ e + 30 → zd h5 b = zd h b := fun b n1 n2 n3 n4 n5 => by rw [e5, zw_f n1, E1.f (b := b) (by simp only [List.mem_cons, List.not_mem_nil, or_false]; omega), k2 b n1 n2 n3 n4]
  have g5 : ∀ j, j ≠ 45 → j ≠ 50 → j ≠ 52 → j ≠ 54 → zd h5 e j = zd h e j := fun j n0 n1 n2 n3 => by rw [e5, zd_i n0, E2 j n2 n3, g2 j n1 n2 n3]
  have ca5 : ∀ k, k ∈ ([1, 2, 3, 4, 5, 6, 7, 8, 9, 10, 11, 12, 13, 14, 15, 16, 17, 18, 19, 20, 21, 22] : List Int) → zd h5 (e + k) = zd h (e + k) := fun k hk => k5 _ (by simp only [List.mem_cons, List.not_mem_nil, or_false] at hk; omega) (by simp only [List.mem_cons, List.not_mem_nil, or_false] at hk; omega) (by simp only [List.mem_cons, List.not_mem_nil, or_false] at hk; omega) (by simp only [List.mem_cons, List.not_mem_nil, or_false] at hk; omega) (by simp only [List.mem_cons, List.not_mem_nil, or_false] at hk; omega)
  have A5 : yA [e, e + 25, e + 26, e + 29, e + 30] h h5 := by rw [e5]; exact ((B1.mono (by simp)).tr E1).w (by simp)
  have f50 : zd h5 e 50 = 0 := by rw [e5, zd_i (by decide), E2 50 (by decide) (by decide), B2, if_pos (by decide)]
  have f45 : zd h5 e 45 = 0 := by rw [e5, zd_s]
  have cw0 : ∀ g : zH, zd g e 11 = zd h e 11 → (∀ n, 1 ≤ n → n ≤ zd h e 11 → ¬ zd g (e + 26) n = 1) → cwas e g = 0 := by
    intro g ga gn
    unfold cwas
    exact zct_0.mpr (fun i i0 i1 => gn i i0 (by rw [ga] at i1; omega))
  have nh : ∀ n, ¬ rowHas e h2 s 0 n (zd h2 (e + 1) s) := by
    rintro n ⟨c, c0, c1, c2, c3, c4⟩
    rw [b1] at c0 c1; rw [b2] at c1; rw [b7] at c2; rw [b12, ← c2] at c4
    exact c4 (low0 c c0 c1)
  have f52 : zd h5 e 52 = 0 := by
    rw [e5, zd_i (by decide)]
    have z2 := cw0 h2 a2 (fun n n0 n1 z => by have := (B3 n n0 n1).2; omega)
    have z4 := cw0 h4 (by rw [E2 11 (by decide) (by decide)]; exact a2) (fun n n0 n1 z => by
      rcases (E4 n n0 (by rw [a2]; exact n1)).2.mp z with y | y
      · have := (B3 n n0 n1).2; omega
      · exact nh n y)
    omega
  have src : ∀ w b, 0 ≤ w → w < 8 → b < 64 → (hb (zd h5 (e + 29) w) b = true ↔ srcE e h s w b = true ∨ lowE e h s 0 w b (zd h (e + 1) s)) := by
    intro w b w0 w1 bb
    rw [e5, zd_a (by omega), E7 w b w0 w1 bb, B4 w w0 w1, hb_0]
    unfold srcE lowE
    rw [b1, b2, b7, b12, b16, b19]
    exact ⟨fun x => x.resolve_left (by decide), fun x => Or.inr x⟩
  have S5 : SI0 e h5 := S0.cg (fun k hk => ca5 k (by simp only [List.mem_cons, List.not_mem_nil, or_false] at hk ⊢; omega)) (fun k hk => g5 k (by simp only [List.mem_cons, List.not_mem_nil, or_false] at hk; omega) (by simp only [List.mem_cons, List.not_mem_nil, or_false] at hk; omega) (by simp only [List.mem_cons, List.not_mem_nil, or_false] at hk; omega) (by simp only [List.mem_cons, List.not_mem_nil, or_false] at hk; omega)) (fun b => A5.t b) (fun b => A5.l b)
  have c25 : zd h5 e 25 = zd h e 25 := g5 25 (by decide) (by decide) (by decide) (by decide)
  have c26 : zd h5 e 26 = zd h e 26 := g5 26 (by decide) (by decide) (by decide) (by decide)
  have c21 : zd h5 e 21 = zd h e 21 := g5 21 (by decide) (by decide) (by decide) (by decide)
  have c42 : zd h5 e 42 = zd h e 42 := g5 42 (by decide) (by decide) (by decide) (by decide)
  have cR5 : ∀ k, k ∈ ([10, 11, 20, 21, 22, 25, 26, 28, 30, 31, 32, 33, 34, 35, 36, 37, 38, 39, 40] : List Int) → zd h5 e k = zd h e k := fun k hk => g5 k (by simp only [List.mem_cons, List.not_mem_nil, or_false] at hk; omega) (by simp only [List.mem_cons, List.not_mem_nil, or_false] at hk; omega) (by simp only [List.mem_cons, List.not_mem_nil, or_false] at hk; omega) (by simp only [List.mem_cons, List.not_mem_nil, or_false] at hk; omega)
  obtain ⟨I5, X5, q3, q4, q5, q6, q7, q8⟩ := id S5
  refine E_no (h := h5) I5.1 I5.2.1 (Int.le_refl _) q3.1 (by omega) (by omega) q4.1.1 q4.1.2 q4.2 (fun j j0 j1 => by omega) q8.1 q8.2.1 (fun full => ?_) (fun full hk h' pk hsk hck kA kw => ?_)
  · rw [if_neg (by decide)]
    refine k (-1003) h5 (Or.inr rfl) ⟨⟨_, I5.1⟩, I5.2.1, I5.2.2.1⟩ c21 (ca5 18 (by decide)) ?_
    intro m R C rl m98 rq Q' kq
    unfold P_M_endLow
    refine M_room q0 q1 R (by decide) (by decide) (fun _ => ?_) (fun z => absurd full (by rw [c25, c26, f50]; exact z))
    rw [if_pos rfl]
    exact kq m ((RE.of R C).cg (fun k hk => ca5 k (by simp only [List.mem_cons, List.not_mem_nil, or_false] at hk ⊢; omega)) (fun k hk => cR5 k (by simp only [List.mem_cons, List.not_mem_nil, or_false] at hk ⊢; omega)) (fun _ _ => rfl) rfl) (MFr.rf q m).wk (fun z => (rq z).cg (ca5 22 (by decide)) c42 rfl rfl) (fun z => absurd z (by decide))
  · rw [if_pos rfl]
    have ck : ∀ k, k ≠ 25 → k ≠ 26 → k ≠ 10 → zd hk e k = zd h5 e k := fun k a b c => by rw [pk.2.1, if_neg a, if_neg b, if_neg c, if_neg (by exact fun x => x.2 rfl)]
    have c' : zd h' e = zd hk e := kA.f (by simp only [List.mem_cons, List.not_mem_nil, or_false]; omega)
    have h50 : zd h' e 50 = 0 := by rw [c', ck 50 (by decide) (by decide) (by decide), f50]
    have h52 : zd h' e 52 = 0 := by rw [c', ck 52 (by decide) (by decide) (by decide), f52]
    have h45 : zd h' e 45 = 0 := by rw [c', ck 45 (by decide) (by decide) (by decide), f45]
    refine E_tell s0 s1 (fun h9 tp => ?_)
    rw [h50, h52] at tp
    obtain ⟨tA, tf, -⟩ := id tp
    have ct : ∀ j, j ≠ 42 → zd h9 e j = zd hk e j := fun j n => by rw [tf, if_neg n, c']
    have cta : ∀ k, k ∈ ([1, 2, 3, 4, 5, 6, 7, 8, 9, 10, 11, 15, 17, 18, 19, 20, 24] : List Int) → zd h9 (e + k) = zd hk (e + k) := fun k hk => by rw [tA.f (b := e + k) (by simp only [List.mem_cons, List.not_mem_nil, or_false] at hk ⊢; omega), kA.f (b := e + k) (by simp only [List.mem_cons, List.not_mem_nil, or_false] at hk ⊢; omega)]
    have e3k : E3 e hk := ⟨⟨_, hsk⟩, hck, keep_ET pk I5.2.2.1⟩
    refine k 0 h9 (Or.inl rfl) (e3k.cg (fun k hk => cta k (by simp only [List.mem_cons, List.not_mem_nil, or_false] at hk ⊢; omega)) (fun k hk => ct k (by simp only [List.mem_cons, List.not_mem_nil, or_false] at hk; omega))) (by rw [ct 21 (by decide), ck 21 (by decide) (by decide) (by decide), c21]) (by rw [cta 18 (by decide), pk.1.f (b := e + 18) (by simp only [List.mem_cons, List.not_mem_nil, or_false]; omega), ca5 18 (by decide)]) ?_
    intro m R C rl m98 rq Q' kq
    unfold P_M_endLow
    refine M_room q0 q1 R (by decide) (by decide) (fun z => absurd z (by rw [c25, c26, f50] at full; exact full)) (fun _ => ?_)
    rw [if_neg (by decide)]
    refine M_clearSources (fun m1 a1 b1' => ?_)
    rw [show zd m1 101 98 = num s from by rw [a1.d (b := 101) (by decide)]; exact m98]
    have hMR : MR m q (zd h e 11) (num s) := R.1.2.2.2.2 _ (R.2.2.1.1 s s0 s1 ht).1
    refine M_addSources q0 q1 (by rcases hMR.1 with r | r | r <;> omega) (fun m2 a2' b2' => ?_)
    have A12 : yA [160] m m2 := a1.tr a2'
    rw [show zd m2 101 98 = num s from by rw [A12.d (b := 101) (by decide)]; exact m98]
    refine M_addLowest q0 q1 A3.2 (MR_160 A12 hMR) (fun m3 a3 b3 => ?_)
    have A13 : yA [160] m m3 := A12.tr a3
    have R3' : RMs e q h5 m3 := R.cg (fun k hk => ca5 k (by simp only [List.mem_cons, List.not_mem_nil, or_false] at hk ⊢; omega)) (fun k hk => cR5 k (by simp only [List.mem_cons, List.not_mem_nil, or_false] at hk ⊢; omega)) (fun k _ => A5.d (by simp only [List.mem_cons, List.not_mem_nil, or_false]; omega) k) (fun k hk => A13.f (by simp only [List.mem_cons, List.not_mem_nil, or_false] at hk ⊢; omega)) (fun k _ => A13.d (by decide) k)
    have C3 : R7 e q h5 m3 := C.cg (fun k hk => cR5 k (by simp only [List.mem_cons, List.not_mem_nil, or_false] at hk ⊢; omega)) (fun k hk => A13.f (by simp only [List.mem_cons, List.not_mem_nil, or_false] at hk ⊢; omega)) (fun k _ => A13.d (by decide) k)
    have hsr : ∀ w b, 0 ≤ w → w < 8 → b < 64 → hb (zd h5 (e + 29) w) b = hb (zd m3 160 w) b := by
      intro w b w0 w1 bb
      apply Bool.eq_iff_iff.mpr
      rw [src w b w0 w1 bb, b3 w b w0 w1, b2' w b w0 w1 bb, b1' w w0 w1, hb_0, Bool.false_or, S_src R.1 R.2.2.1 R.2.2.2.2.1 R.2.2.2.2.2.1 s0 s1 ht w0 w1 bb, S_low I R s0 s1 ht allf w b w0 w1 bb]
      refine or_congr ?_ ?_
      · unfold srcM; rw [a1.f (b := 158) (by decide)]
      · exact (lowM_cg (fun k hk => A12.f (by simp only [List.mem_cons, List.not_mem_nil, or_false] at hk ⊢; omega)) (A12.d (by decide) _)).symm
    have r154 : zd m3 154 q = zd h5 e 25 := R3'.2.2.2.2.1.1.1.symm
    have r152 : zd m3 152 (801 * q + zd m3 154 q) = zd h5 e 26 := by rw [r154]; exact R3'.2.2.2.2.1.2.1.symm
    refine M_record (n := 0) q0 q1 (by decide) (by decide) (by omega) (by omega) (by omega) (by omega) (fun m4 rp => ?_)
    obtain ⟨R4', C4, F4⟩ := S_keep0 (n := 0) he q0 q1 I5.1 (Int.le_refl _) R3' C3 (by rw [A13.f (b := 155) (by decide), rl, c25]) (by omega) f50 (by decide) (by omega) (fun j j0 j1 => by omega) (fun j j0 j1 => by omega) hsr pk rp
    have F3 : MFr q m m3 := MFr.of A13 (fun b hb => by simp only [List.mem_cons, List.not_mem_nil, or_false] at hb ⊢; omega) (fun b n hb hn j hj => by
      simp only [List.mem_cons, List.not_mem_nil, or_false, Prod.mk.injEq] at hb hn; omega)
    have RE4 : RE e q h9 m4 := (RE.of R4' C4).cg (fun k hk => cta k (by simp only [List.mem_cons, List.not_mem_nil, or_false] at hk ⊢; omega)) (fun k hk => ct k (by simp only [List.mem_cons, List.not_mem_nil, or_false] at hk; omega)) (fun _ _ => rfl) rfl
    refine M_keepCore q0 q1 (fun qq => ?_) (fun qq m5 a5 b5 c5 => ?_)
    · rw [if_neg (by omega)]
      exact kq m4 RE4 (F3.tr F4).wk (fun z => by omega) (fun _ z => by omega)
    · rw [if_pos qq]
      intro m6 e6
      have v98 : zd m6 101 98 = num s := by rw [e6, zd_i (by decide), b5 98 (by decide), rp.1.d (b := 101) (by decide), A13.d (b := 101) (by decide)]; exact m98
      rw [v98]
      refine M_tell (fun m7 mp => ?_)
      obtain ⟨mA, mf, -⟩ := id mp
      have A47 : yA [101, 164, 165] m4 m7 := by
        refine yA.tr ?_ (mA.mono (by simp))
        rw [e6]; exact (a5.mono (by simp)).w (by simp)
      refine kq m7 (RE4.cg (fun _ _ => rfl) (fun _ _ => rfl) (fun k hk => A47.f (by simp only [List.mem_cons, List.not_mem_nil, or_false] at hk ⊢; omega)) ?_) ?_ (fun _ => tell_RQ (by rw [c21, n0] at *; exact tp) mp) (fun _ _ => ⟨?_, ?_, ?_, ?_⟩)
      · rw [mf, if_neg (by decide), e6, zd_i (by decide), b5 89 (by decide)]
      · subst qq
        refine MFw.tr ?_ (Mtell.fr mp)
        rw [e6]
        exact ((F3.tr F4).wk.core a5 b5).w101 (Or.inr (Or.inr rfl))
      · rw [mf, if_neg (by decide), e6, zd_i (by decide), mA.f (b := 165) (by decide), e6, zw_f (by decide)]
        refine c5.cg (fun r r0 r1 => ?_) (fun _ _ _ => rfl)
        unfold cbit
        rw [tA.f (b := e + 23) (by simp only [List.mem_cons, List.not_mem_nil, or_false]; omega), kw (r / 64) (by omega) (by omega), hsr (r / 64) (r % 64).toNat (by omega) (by omega) (by omega), rp.1.f (b := 160) (by decide)]
      · rw [mf, if_neg (by decide), e6, zd_s, tf, if_neg (by decide), h45]
      · rw [tf, if_neg (by decide), h45]; decide
      · intro k0 k1 k2
        rw [tf, if_neg (by decide), h45] at k2; omega
