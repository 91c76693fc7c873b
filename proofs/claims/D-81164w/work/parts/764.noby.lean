/-! what an asked item that is false comes from: the walk back over the trail -/
def NbR (e : Int) (h g m1 : zH) : Prop := (∀ n, 1 ≤ n → n ≤ zd h e 11 → (zd g (e + 25) n = 0 ∨ zd g (e + 25) n = 1) ∧ zd g (e + 25) n = zd m1 168 n ∧ zd g (e + 27) n = zd m1 169 n) ∧ ∀ w b, 0 ≤ w → w < 8 → b < 64 → hb (zd g (e + 29) w) b = hb (zd m1 160 w) b
def NbS (e q a : Int) (h : zH) (y : Int) (g g' : zH) : Prop := ∀ m m1, RMs e q h m → yA [160, 168, 169] m m1 → NbR e h g m1 → ∀ (n : Nat) (Q' : Int → zH → Prop) (K' : zH → Prop), y + 1 < n → (∀ m2, yA [160, 168, 169] m m2 → NbR e h g' m2 → K' m2) → P_M_endAsked_L27 q a Q' K' n y m1
theorem MR_sc {m m1 : zH} {q A r : Int} (p : yA [160, 168, 169] m m1) (hr : MR m q A r) : MR m1 q A r ∧ msz m1 q r = msz m q r ∧ ∀ i, mit m1 q r i = mit m q r i := by
  have g66 : zd m1 101 66 = zd m 101 66 := p.d (by decide) _
  have sz : msz m1 q r = msz m q r := msz_cg (p.f (by decide)) g66 (p.f (by decide)) (p.f (by decide))
  have mi : ∀ i, mit m1 q r i = mit m q r i := fun i => mit_cg (p.f (by decide)) g66 (p.f (by decide)) (p.f (by decide)) (p.f (by decide)) (p.f (by decide))
  refine ⟨?_, sz, mi⟩
  unfold MR
  rw [p.f (b := 119) (by decide), p.f (b := 123) (by decide), p.f (b := 152) (by decide), g66, sz]
  exact ⟨hr.1, fun i i0 i1 => by rw [mi]; exact hr.2 i i0 i1⟩
theorem S_nb {e q a top : Int} {h : zH} {Q : Int → zH → Prop} {K : zH → Prop} (he : zE e) (q0 : 0 ≤ q) (q1 : q ≤ 1) (I : EInv e h top) (t29 : zt h (e + 29) = 53) (l29 : zl h (e + 29) = 8) : ∀ (d f : Nat) (y : Int) (g : zH), y + 1 = d → d < f → y < zd h e 20 → yA [e + 25, e + 27, e + 29] h g → (∀ n, 1 ≤ n → n ≤ zd h e 11 → zd g (e + 25) n = 0 ∨ zd g (e + 25) n = 1) → (∀ g', yA [e + 25, e + 27, e + 29] h g' → NbS e q a h y g g' → K g') → P_E_noBy_L46 e a Q K f y g := by
  have eR : 25 ≤ e ∧ e ≤ 58 := by rcases he with z | z <;> omega
  obtain ⟨hs, hc, hT, hL, hO, t16, l16⟩ := id I
  have A3 := hs.1
  have T1 := hT.1
  intro d
  induction d with
  | zero =>
    intro f y g hy hf y1 gA gg k
    obtain ⟨f, rfl⟩ : ∃ m, f = m + 1 := ⟨f - 1, by omega⟩
    unfold P_E_noBy_L46
    rw [if_pos (by omega)]
    refine k g gA ?_
    intro m m1 R A1 nb n Q' K' hn kk
    obtain ⟨n, rfl⟩ : ∃ k, n = k + 1 := ⟨n - 1, by omega⟩
    unfold P_M_endAsked_L27
    rw [if_pos (by omega)]
    exact kk m1 A1 nb
  | succ d ih =>
    intro f y g hy hf y1 gA gg k
    obtain ⟨f, rfl⟩ : ∃ m, f = m + 1 := ⟨f - 1, by omega⟩
    obtain ⟨it, tr⟩ := hT.2.1 y (by omega) y1
    have ir := zab_r it
    have vn : zd h (e + 11) (zab (zd h (e + 17) y)) ≠ 0 := by rw [est_ab e h it] at tr; split at tr <;> omega
    have g12 : zd g (e + 12) = zd h (e + 12) := gA.f (by simp only [List.mem_cons, List.not_mem_nil, or_false]; omega)
    have g13 : zd g (e + 13) = zd h (e + 13) := gA.f (by simp only [List.mem_cons, List.not_mem_nil, or_false]; omega)
    have wy : w32 (y + -1) = y - 1 := by rw [w32_of (by omega) (by omega)]; omega
    have rr : zd h (e + 13) (zab (zd h (e + 17) y)) ≠ -1005 → 0 ≤ zd h (e + 13) (zab (zd h (e + 17) y)) ∧ zd h (e + 13) (zab (zd h (e + 17) y)) < 1364 ∧ zd h (e + 5) (zd h (e + 13) (zab (zd h (e + 17) y))) = 1 := by
      intro c
      rcases hO y (by omega) y1 with z | ⟨z, -⟩
      · exact absurd z.1 c
      · exact z
    have lw : ∀ m, RMs e q h m → zd h (e + 12) (zab (zd h (e + 17) y)) = zd m 144 (301 * q + zab (zd h (e + 17) y)) ∧ (zd h (e + 13) (zab (zd h (e + 17) y)) = -1005 → zd m 145 (301 * q + zab (zd h (e + 17) y)) = -7) ∧ (zd h (e + 13) (zab (zd h (e + 17) y)) ≠ -1005 → zd m 145 (301 * q + zab (zd h (e + 17) y)) = num (zd h (e + 13) (zab (zd h (e + 17) y)))) := by
      intro m R
      obtain ⟨l1, l2⟩ := R.2.1.2.1 _ ir.1 ir.2 vn
      refine ⟨l1, fun c => ?_, fun c => ?_⟩
      · unfold rrel at l2; omega
      · rcases l2 with z | z
        · exact absurd z.1 c
        · exact z.2.2
    -- there, up to the test of the mark
    have there : ∀ m m1, RMs e q h m → yA [160, 168, 169] m m1 → NbR e h g m1 → ∀ (n : Nat) (Q' : Int → zH → Prop) (K' : zH → Prop), (if zd g (e + 25) (zab (zd h (e + 17) y)) = 0 then P_M_endAsked_J152 q a y m1 Q' (P_M_endAsked_L27 q a Q' K' n) else (if zd h (e + 12) (zab (zd h (e + 17) y)) = 0 then (P_M_addNameSources q (zab (zd h (e + 17) y)) m1 (fun _ h18 => P_M_endAsked_J152 q a y h18 Q' (P_M_endAsked_L27 q a Q' K' n))) else (if zd h (e + 13) (zab (zd h (e + 17) y)) = -1005 then (∀ h16 : zH, h16 = zw m1 169 (zab (zd h (e + 17) y)) 1 → P_M_endAsked_J152 q a y h16 Q' (P_M_endAsked_L27 q a Q' K' n)) else (P_M_addSources q (num (zd h (e + 13) (zab (zd h (e + 17) y)))) m1 (fun _ h12 => (0 ≤ 301 * q + zab (zd h (e + 17) y) ∧ 301 * q + zab (zd h (e + 17) y) < 602) ∧ P_M_markRow q (zd h12 145 (301 * q + zab (zd h (e + 17) y))) h12 (fun _ h14 => P_M_endAsked_J152 q a y h14 Q' (P_M_endAsked_L27 q a Q' K' n))))))) → P_M_endAsked_L27 q a Q' K' (n + 1) y m1 := by
      intro m m1 R A1 nb n Q' K' H
      obtain ⟨v1, v2, v3, v4, v5, v6⟩ := R.2.1
      obtain ⟨l1, l2, l3⟩ := lw m R
      unfold P_M_endAsked_L27
      simp only [w32_al, w32_ar, w32_sl, w32_sr, w32_ml, w32_mr]
      rw [if_neg (by omega), w32_of (x := 300 * q + y) (by omega) (by omega), A1.d (b := 149) (by decide), ← v4 y (by omega) y1]
      refine ⟨⟨by omega, by omega⟩, M_nameOf it A3.2 ⟨⟨by omega, by omega⟩, ?_⟩⟩
      rw [w32_of (x := 301 * q + zab (zd h (e + 17) y)) (by omega) (by omega), zbit_1, ← (nb.1 _ ir.1 ir.2).2.1, A1.d (b := 144) (by decide), A1.d (b := 145) (by decide), ← l1]
      by_cases c : zd g (e + 25) (zab (zd h (e + 17) y)) = 0
      · rw [if_pos c] at H ⊢; exact H
      · rw [if_neg c] at H ⊢
        refine ⟨⟨by omega, by omega⟩, ?_⟩
        by_cases c2 : zd h (e + 12) (zab (zd h (e + 17) y)) = 0
        · rw [if_pos c2] at H ⊢; exact H
        · rw [if_neg c2] at H ⊢
          refine ⟨⟨by omega, by omega⟩, ?_⟩
          by_cases c3 : zd h (e + 13) (zab (zd h (e + 17) y)) = -1005
          · rw [if_pos c3] at H
            rw [if_pos (l2 c3)]
            exact ⟨⟨by omega, by omega⟩, H⟩
          · rw [if_neg c3] at H
            have nr := num_r (rr c3).1 (rr c3).2.1
            rw [l3 c3, if_neg (show ¬ num (zd h (e + 13) (zab (zd h (e + 17) y))) = -7 by omega)]
            exact ⟨⟨by omega, by omega⟩, H⟩
    unfold P_E_noBy_L46 P_E_noBy_J135
    rw [if_neg (by omega), gA.f (b := e + 17) (by simp only [List.mem_cons, List.not_mem_nil, or_false]; omega), zabs_of it A3.2, wy, g12, g13]
    refine ⟨⟨by omega, by omega⟩, ?_⟩
    intro x4 e4
    rw [e4]
    refine ⟨⟨by omega, by omega⟩, zif_i (fun c => ?_) (fun c => ⟨⟨by omega, by omega⟩, zif_i (fun c2 => ?_) (fun c2 => ⟨⟨by omega, by omega⟩, zif_i (fun c3 => ⟨⟨by omega, by omega⟩, ?_⟩) (fun c3 => ⟨⟨by omega, by omega⟩, ?_⟩)⟩)⟩)⟩
    · intro x3 ex
      rw [ex]
      refine ih f (y - 1) g (by omega) (by omega) (by omega) gA gg (fun g' gA' sim => k g' gA' ?_)
      intro m m1 R A1 nb n Q' K' hn kk
      obtain ⟨n, rfl⟩ : ∃ k, n = k + 1 := ⟨n - 1, by omega⟩
      refine there m m1 R A1 nb n Q' K' ?_
      rw [if_pos c]
      intro x3 ex
      rw [ex, wy]
      exact sim m m1 R A1 nb n Q' K' (by omega) kk
    · refine L_addRoot (by rw [gA.t]; exact t29) (by decide) (by rw [gA.l, l29]; decide) (by rw [gA.l, l29]; decide) (by omega) (by omega) (fun z => by omega) (fun g2 a2 _ b2 => ?_)
      intro x3 ex
      rw [ex]
      refine ih f (y - 1) g2 (by omega) (by omega) (by omega) (gA.tr (a2.mono (by simp))) (by rw [a2.f (b := e + 25) (by simp only [List.mem_cons, List.not_mem_nil, or_false]; omega)]; exact gg) (fun g' gA' sim => k g' gA' ?_)
      intro m m1 R A1 nb n Q' K' hn kk
      obtain ⟨n, rfl⟩ : ∃ k, n = k + 1 := ⟨n - 1, by omega⟩
      refine there m m1 R A1 nb n Q' K' ?_
      rw [if_neg c, if_pos c2]
      refine M_addNameSources q0 q1 (by omega) (by omega) (fun m2 d2 f2 => ?_)
      intro x3 ex
      rw [ex, wy]
      refine sim m m2 R (A1.tr (d2.mono (by simp))) ⟨?_, fun w b w0 w1 bb => ?_⟩ n Q' K' (by omega) kk
      · rw [a2.f (b := e + 25) (by simp only [List.mem_cons, List.not_mem_nil, or_false]; omega), a2.f (b := e + 27) (by simp only [List.mem_cons, List.not_mem_nil, or_false]; omega), d2.f (b := 168) (by decide), d2.f (b := 169) (by decide)]; exact nb.1
      · have z := b2 w b w0 w1
        rw [Int.zero_add] at z
        rw [z, f2 w b w0 w1, nb.2 w b w0 w1 bb, gA.f (b := e + 16) (by simp only [List.mem_cons, List.not_mem_nil, or_false]; omega), A1.f (b := 159) (by decide), R.2.2.2.2.2.1.1 _ ir.1 ir.2 vn c2 w b w0 w1 bb]
    · intro h13 e13
      rw [zbit_1] at e13
      have B13 : yA [e + 27] g h13 := by rw [e13]; exact (yA.rf _ g).w (by simp)
      intro x3 ex
      rw [ex]
      refine ih f (y - 1) h13 (by omega) (by omega) (by omega) (gA.tr (B13.mono (by simp))) (by rw [B13.f (b := e + 25) (by simp only [List.mem_cons, List.not_mem_nil, or_false]; omega)]; exact gg) (fun g' gA' sim => k g' gA' ?_)
      intro m m1 R A1 nb n Q' K' hn kk
      obtain ⟨n, rfl⟩ : ∃ k, n = k + 1 := ⟨n - 1, by omega⟩
      refine there m m1 R A1 nb n Q' K' ?_
      rw [if_neg c, if_neg c2, if_pos c3]
      intro m2 em2
      have D2 : yA [169] m1 m2 := by rw [em2]; exact (yA.rf _ m1).w (by simp)
      intro x3 ex
      rw [ex, wy]
      refine sim m m2 R (A1.tr (D2.mono (by simp))) ⟨fun n' n0 n1 => ?_, fun w b w0 w1 bb => ?_⟩ n Q' K' (by omega) kk
      · obtain ⟨z1, z2, z3⟩ := nb.1 n' n0 n1
        rw [B13.f (b := e + 25) (by simp only [List.mem_cons, List.not_mem_nil, or_false]; omega), D2.f (b := 168) (by decide)]
        refine ⟨z1, z2, ?_⟩
        rw [e13, em2, zd_zw, zd_zw]
        by_cases w : n' = zab (zd h (e + 17) y)
        · rw [if_pos ⟨rfl, w⟩, if_pos ⟨rfl, w⟩]
        · rw [if_neg (by exact fun x => w x.2), if_neg (by exact fun x => w x.2)]; exact z3
      · rw [B13.f (b := e + 29) (by simp only [List.mem_cons, List.not_mem_nil, or_false]; omega), D2.f (b := 160) (by decide)]; exact nb.2 w b w0 w1 bb
    · obtain ⟨r0, r1, r2⟩ := rr c3
      have hsg : ES e g top := hs.cg (gA.d (by simp only [List.mem_cons, List.not_mem_nil, or_false]; omega) _) (gA.d (by simp only [List.mem_cons, List.not_mem_nil, or_false]; omega) _) (gA.f (by simp only [List.mem_cons, List.not_mem_nil, or_false]; omega)) (gA.f (by simp only [List.mem_cons, List.not_mem_nil, or_false]; omega)) (gA.f (by simp only [List.mem_cons, List.not_mem_nil, or_false]; omega)) (gA.f (by simp only [List.mem_cons, List.not_mem_nil, or_false]; omega)) (gA.f (by simp only [List.mem_cons, List.not_mem_nil, or_false]; omega)) (gA.f (by simp only [List.mem_cons, List.not_mem_nil, or_false]; omega)) (gA.f (by simp only [List.mem_cons, List.not_mem_nil, or_false]; omega))
      have g11 : zd g e 11 = zd h e 11 := gA.d (by simp only [List.mem_cons, List.not_mem_nil, or_false]; omega) _
      have lg : elaid e g (zd h (e + 13) (zab (zd h (e + 17) y))) := Or.inl ⟨r0, r1, by rw [gA.f (b := e + 5) (by simp only [List.mem_cons, List.not_mem_nil, or_false]; omega)]; exact r2⟩
      refine E_marks hsg lg r0 r1 (by rw [gA.t]; exact t29) (by rw [gA.l]; exact l29) (by rw [g11]; exact gg) (fun g2 a2 m2e b2 => ?_)
      rw [g11, gA.f (b := e + 1) (by simp only [List.mem_cons, List.not_mem_nil, or_false]; omega), gA.f (b := e + 2) (by simp only [List.mem_cons, List.not_mem_nil, or_false]; omega), gA.f (b := e + 7) (by simp only [List.mem_cons, List.not_mem_nil, or_false]; omega)] at m2e
      intro x3 ex
      rw [ex]
      refine ih f (y - 1) g2 (by omega) (by omega) (by omega) (gA.tr (a2.mono (by simp))) (fun n n0 n1 => (m2e n n0 n1).1) (fun g' gA' sim => k g' gA' ?_)
      intro m m1 R A1 nb n Q' K' hn kk
      obtain ⟨n, rfl⟩ : ∃ k, n = k + 1 := ⟨n - 1, by omega⟩
      refine there m m1 R A1 nb n Q' K' ?_
      rw [if_neg c, if_neg c2, if_neg c3]
      have hMR : MR m q (zd h e 11) (num (zd h (e + 13) (zab (zd h (e + 17) y)))) := R.1.2.2.2.2 _ (R.2.2.1.1 _ r0 r1 r2).1
      refine M_addSources q0 q1 (by rcases hMR.1 with r | r | r <;> omega) (fun m2 d2 f2 => ⟨⟨by omega, by omega⟩, ?_⟩)
      have A2 : yA [160, 168, 169] m m2 := A1.tr (d2.mono (by simp))
      rw [A2.d (b := 145) (by decide), (lw m R).2.2 c3]
      obtain ⟨s1, s2, s3⟩ := MR_sc A2 hMR
      refine M_markRow q0 q1 A3.2 s1 (fun n' n0 n1 => ?_) (fun m3 d3 f3 => ?_)
      · rw [d2.f (b := 168) (by decide), ← (nb.1 n' n0 n1).2.1]; exact gg n' n0 n1
      intro x3 ex
      rw [ex, wy]
      refine sim m m3 R (A2.tr (d3.mono (by simp))) ⟨fun n' n0 n1 => ?_, fun w b w0 w1 bb => ?_⟩ n Q' K' (by omega) kk
      · obtain ⟨u1, u2⟩ := m2e n' n0 n1
        obtain ⟨w1, w2⟩ := f3 n' n0 n1
        obtain ⟨z1, z2, z3⟩ := nb.1 n' n0 n1
        refine ⟨u1, ?_, ?_⟩
        · have own : zd g (e + 25) (zab (zd h (e + 17) y)) = 1 := by clear u2 w2; have := gg _ ir.1 ir.2; omega
          obtain ⟨-, ⟨f0, z0, f1⟩, -⟩ := hs.2.2.2.2.2.1 _ (Or.inl ⟨r0, r1, r2⟩ : elaid e h (zd h (e + 13) (zab (zd h (e + 17) y))))
          obtain ⟨-, g1, g2'⟩ := R.2.2.1.1 _ r0 r1 r2
          have iff : zd g2 (e + 25) n' = 1 ↔ zd m3 168 n' = 1 := by
            rw [u2, w2, d2.f (b := 168) (by decide), ← z2, s2]
            constructor
            · rintro (x | ⟨c', c0, c1, c2', c3'⟩)
              · exact Or.inl x
              · refine Or.inr ⟨c' - zd h (e + 1) (zd h (e + 13) (zab (zd h (e + 17) y))), by omega, by rw [← g1]; omega, ?_⟩
                rw [s3, ← g2' _ (by omega) (by omega), show zd h (e + 1) (zd h (e + 13) (zab (zd h (e + 17) y))) + (c' - zd h (e + 1) (zd h (e + 13) (zab (zd h (e + 17) y)))) = c' by omega]; exact c2'
            · rintro (x | ⟨i, i0, i1, i2⟩)
              · exact Or.inl x
              · by_cases o : n' = zab (zd h (e + 17) y)
                · rw [o]; exact Or.inl own
                · rw [← g1] at i1
                  rw [s3, ← g2' i i0 i1] at i2
                  exact Or.inr ⟨_, by omega, by omega, i2, o⟩
          clear u2 w2
          omega
        · rw [a2.f (b := e + 27) (by simp only [List.mem_cons, List.not_mem_nil, or_false]; omega), d3.f (b := 169) (by decide), d2.f (b := 169) (by decide)]; exact z3
      · rw [b2 w b w0 w1 bb, d3.f (b := 160) (by decide), f2 w b w0 w1 bb, nb.2 w b w0 w1 bb]
        have e1 : srcE e g (zd h (e + 13) (zab (zd h (e + 17) y))) w b = srcE e h (zd h (e + 13) (zab (zd h (e + 17) y))) w b := by unfold srcE; rw [gA.f (b := e + 19) (by simp only [List.mem_cons, List.not_mem_nil, or_false]; omega)]
        have e2 : srcM m1 q (num (zd h (e + 13) (zab (zd h (e + 17) y)))) w b = srcM m q (num (zd h (e + 13) (zab (zd h (e + 17) y)))) w b := by unfold srcM; rw [A1.f (b := 158) (by decide)]
        rw [e1, e2, S_src R.1 R.2.2.1 R.2.2.2.2.1 R.2.2.2.2.2.1 r0 r1 r2 w0 w1 bb]
