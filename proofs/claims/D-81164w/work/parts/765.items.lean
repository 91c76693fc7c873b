/-! the asked items of the core -/
def ItP (e : Int) (h g : zH) : Prop := yA [e, e + 24, e + 28] h g ∧ (∀ j, j ≠ 45 → j ≠ 50 → zd g e j = zd h e j) ∧ zd g e 45 = zd g e 50 ∧ 0 ≤ zd g e 50 ∧ ∀ j, 0 ≤ j → j < zd g e 50 → eit (zd h e 11) (zd g (e + 24) j) ∧ zd g (e + 28) j = -(zd g (e + 24) j)
def ItS (e q a : Int) (h : zH) (y : Int) (g g' : zH) : Prop := ∀ m m1, RMs e q h m → yA [160, 167, 168, 169] m m1 → (∀ n, 1 ≤ n → n ≤ zd h e 11 → zd h (e + 27) n = zd m1 169 n) → (∀ j, 0 ≤ j → j < zd g e 50 → zd m1 167 j = zd g (e + 28) j) → ∀ (n : Nat) (Q' : Int → zH → Prop) (K' : Int → zH → Prop), zd h e 28 - y < n → (∀ m2, yA [167] m1 m2 → (∀ j, 0 ≤ j → j < zd g' e 50 → zd m2 167 j = zd g' (e + 28) j) → K' (zd g' e 50) m2) → P_M_endAsked_L163 q a Q' K' n (zd g e 50) y m1
theorem S_items {e q a top : Int} {h : zH} {Q : Int → zH → Prop} (he : zE e) (q0 : 0 ≤ q) (q1 : q ≤ 1) (hs : ES e h top) (ha : EAs e h) : ∀ (d f : Nat) (y : Int) (g : zH), y = zd h e 28 - d → 0 ≤ y → d < f → ItP e h g → zd g e 50 ≤ y → (1 ≤ zd g e 50 ∨ ∃ k, y ≤ k ∧ k < zd h e 28 ∧ zd h (e + 21) k = a) → (∀ g', ItP e h g' → (1 ≤ zd g' e 50 ∧ zd g' e 50 ≤ 20) → ItS e q a h y g g' → P_E_no e g' (fun r18 h19 => Q r18 h19)) → P_E_noBy_L148 e a Q f y g := by
  have eR : 25 ≤ e ∧ e ≤ 58 := by rcases he with z | z <;> omega
  have A3 := hs.1
  have a20 := ha.1
  intro d
  induction d with
  | zero =>
    intro f y g hy y0 hf ip cy hx k
    obtain ⟨f, rfl⟩ : ∃ m, f = m + 1 := ⟨f - 1, by omega⟩
    obtain ⟨iA, if', i45, i50, il⟩ := id ip
    unfold P_E_noBy_L148
    rw [if' 28 (by decide) (by decide), if_pos (by omega)]
    refine k g ip ⟨?_, by omega⟩ ?_
    · rcases hx with x | ⟨k, k0, k1, _⟩ <;> omega
    · intro m m1 R A1 mk fr n Q' K' hn kk
      obtain ⟨n, rfl⟩ : ∃ k, n = k + 1 := ⟨n - 1, by omega⟩
      unfold P_M_endAsked_L163
      rw [A1.f (b := 141) (by decide), ← R.2.2.2.2.2.2.1.1.1, if_pos (by omega)]
      exact ⟨⟨by omega, by omega⟩, kk m1 (yA.rf _ _) fr⟩
  | succ d ih =>
    intro f y g hy y0 hf ip cy hx k
    obtain ⟨f, rfl⟩ : ∃ m, f = m + 1 := ⟨f - 1, by omega⟩
    obtain ⟨iA, if', i45, i50, il⟩ := id ip
    have it := ha.2 y y0 (by omega)
    have ir := zab_r it
    have st : w32 (y + 1) = y + 1 := w32_of (by omega) (by omega)
    have es : est e g (zd h (e + 21) y) = est e h (zd h (e + 21) y) := by unfold est; rw [iA.f (b := e + 11) (by simp only [List.mem_cons, List.not_mem_nil, or_false]; omega)]
    -- the item comes into the list
    have add : (∀ g', ItP e h g' → (1 ≤ zd g' e 50 ∧ zd g' e 50 ≤ 20) → (∃ g1, zd g1 e 50 = zd g e 50 + 1 ∧ (∀ j, 0 ≤ j → j < zd g e 50 → zd g1 (e + 28) j = zd g (e + 28) j) ∧ zd g1 (e + 28) (zd g e 50) = -(zd h (e + 21) y) ∧ ItS e q a h (y + 1) g1 g') → P_E_no e g' (fun r18 h19 => Q r18 h19)) → P_E_noBy_J192 e a y (zd h (e + 21) y) g Q (P_E_noBy_L148 e a Q f) := by
      intro kk
      unfold P_E_noBy_J192 P_E_noBy_J229
      rw [i45, w32_of (x := zd g e 50 + 1) (by omega) (by omega), st]
      intro h21 e21
      refine ⟨⟨by omega, by omega⟩, ?_⟩
      intro h22 e22
      have v22 : zd h22 e 50 = zd g e 50 := by rw [e22, zd_a (by omega), e21, zd_i (by decide)]
      rw [v22, w32_of (x := zd g e 50 + 1) (by omega) (by omega), show w32 (-(zd h (e + 21) y)) = -(zd h (e + 21) y) from by unfold eit at it; exact w32_of (by omega) (by omega)]
      intro h23 e23
      refine ⟨⟨by omega, by omega⟩, ?_⟩
      intro h24 e24 x3 ex
      rw [ex]
      have w50 : zd h24 e 50 = zd g e 50 + 1 := by rw [e24, zd_a (by omega), e23, zd_s]
      have w45 : zd h24 e 45 = zd g e 50 + 1 := by rw [e24, zd_a (by omega), e23, zd_i (by decide), e22, zd_a (by omega), e21, zd_s]
      have w28 : ∀ j, zd h24 (e + 28) j = if j = zd g e 50 then -(zd h (e + 21) y) else zd g (e + 28) j := by
        intro j
        rw [e24, zd_zw]
        by_cases c : j = zd g e 50
        · rw [if_pos ⟨rfl, c⟩, if_pos c]
        · rw [if_neg (by exact fun x => c x.2), if_neg c, e23, zd_a (by omega), e22, zd_a (by omega), e21, zd_a (by omega)]
      have w24 : ∀ j, zd h24 (e + 24) j = if j = zd g e 50 then zd h (e + 21) y else zd g (e + 24) j := by
        intro j
        rw [e24, zd_a (by omega), e23, zd_a (by omega), e22, zd_zw]
        by_cases c : j = zd g e 50
        · rw [if_pos ⟨rfl, c⟩, if_pos c]
        · rw [if_neg (by exact fun x => c x.2), if_neg c, e21, zd_a (by omega)]
      have ip24 : ItP e h h24 := by
        refine ⟨by rw [e24, e23, e22, e21]; exact (((iA.w (by simp)).w (by simp)).w (by simp)).w (by simp), fun j n1 n2 => ?_, by omega, by omega, fun j j0 j1 => ?_⟩
        · rw [e24, zd_a (by omega), e23, zd_i n2, e22, zd_a (by omega), e21, zd_i n1]; exact if' j n1 n2
        · rw [w24, w28]
          by_cases c : j = zd g e 50
          · rw [if_pos c, if_pos c]; exact ⟨it, rfl⟩
          · rw [if_neg c, if_neg c]; exact il j j0 (by omega)
      refine ih f (y + 1) h24 (by omega) (by omega) (by omega) ip24 (by omega) (Or.inl (by omega)) (fun g' p1 p2 p3 => kk g' p1 p2 ⟨h24, w50, fun j j0 j1 => by rw [w28, if_neg (by omega)], by rw [w28, if_pos rfl], p3⟩)
    -- it does not
    have skip : (zd h (e + 21) y ≠ a) → (∀ g', ItP e h g' → (1 ≤ zd g' e 50 ∧ zd g' e 50 ≤ 20) → ItS e q a h (y + 1) g g' → P_E_no e g' (fun r18 h19 => Q r18 h19)) → P_E_noBy_J229 e a y g Q (P_E_noBy_L148 e a Q f) := by
      intro ne kk
      unfold P_E_noBy_J229
      rw [st]
      intro x3 ex
      rw [ex]
      refine ih f (y + 1) g (by omega) (by omega) (by omega) ip (by omega) ?_ kk
      rcases hx with x | ⟨k', k0, k1, k2⟩
      · exact Or.inl x
      · refine Or.inr ⟨k', ?_, k1, k2⟩
        by_cases c : k' = y
        · rw [c] at k2; exact absurd k2 ne
        · omega
    -- there
    have there : ∀ m m1, RMs e q h m → yA [160, 167, 168, 169] m m1 → (∀ n, 1 ≤ n → n ≤ zd h e 11 → zd h (e + 27) n = zd m1 169 n) → ∀ (n : Nat) (c : Int) (Q' : Int → zH → Prop) (K' : Int → zH → Prop), (if zd h (e + 21) y = a ∨ (zd h (e + 27) (zab (zd h (e + 21) y)) ≠ 0 ∧ est e h (zd h (e + 21) y) = 1) then P_M_endAsked_J218 q a c y (zd h (e + 21) y) m1 Q' (P_M_endAsked_L163 q a Q' K' n) else P_M_endAsked_J230 q a c y m1 Q' (P_M_endAsked_L163 q a Q' K' n)) → P_M_endAsked_L163 q a Q' K' (n + 1) c y m1 := by
      intro m m1 R A1 mk n c Q' K' H
      obtain ⟨⟨b1, b2, b3⟩, b4⟩ := R.2.2.2.2.2.2.1
      unfold P_M_endAsked_L163
      simp only [w32_al, w32_ar, w32_sl, w32_sr, w32_ml, w32_mr]
      rw [A1.f (b := 141) (by decide), ← b1, if_neg (by omega), w32_of (x := 20 * q + y) (by omega) (by omega), A1.f (b := 140) (by decide), ← (b4 y y0 (by omega)).1]
      refine ⟨⟨by omega, by omega⟩, ⟨by omega, by omega⟩, ?_⟩
      intro x5 ex
      rw [ex]
      refine zif_i (fun d1 => by rw [if_pos (Or.inl d1)] at H; exact H) (fun d1 => M_nameOf it A3.2 ⟨⟨by omega, by omega⟩, ?_⟩)
      rw [← mk _ ir.1 ir.2]
      refine zif_i (fun d2 => by rw [if_neg (by exact fun x => x.elim d1 (fun z => z.1 d2))] at H; exact H) (fun d2 => ?_)
      have mv : MV m1 q (zd h e 11) := by
        have := R.1.1
        unfold MV at this ⊢
        rw [A1.f (b := 143) (by decide)]; exact this
      refine M_stateOf q0 q1 mv it ?_
      have ms : mst m1 q (zd h (e + 21) y) = mst m q (zd h (e + 21) y) := by unfold mst; rw [A1.f (b := 143) (by decide)]
      rw [ms]
      have iff := (R.2.1.st it).2.1
      refine zif_i (fun d3 => by rw [if_pos (Or.inr ⟨d2, iff.mpr d3⟩)] at H; exact H) (fun d3 => by rw [if_neg (by exact fun x => x.elim d1 (fun z => d3 (iff.mp z.2)))] at H; exact H)
    have mAdd : ∀ g', (∃ g1, zd g1 e 50 = zd g e 50 + 1 ∧ (∀ j, 0 ≤ j → j < zd g e 50 → zd g1 (e + 28) j = zd g (e + 28) j) ∧ zd g1 (e + 28) (zd g e 50) = -(zd h (e + 21) y) ∧ ItS e q a h (y + 1) g1 g') → (zd h (e + 21) y = a ∨ (zd h (e + 27) (zab (zd h (e + 21) y)) ≠ 0 ∧ est e h (zd h (e + 21) y) = 1)) → ItS e q a h y g g' := by
      rintro g' ⟨g1, u1, u2, u3, u4⟩ yes m m1 R A1 mk fr n Q' K' hn kk
      obtain ⟨n, rfl⟩ : ∃ k, n = k + 1 := ⟨n - 1, by omega⟩
      refine there m m1 R A1 mk n _ Q' K' ?_
      rw [if_pos yes]
      unfold P_M_endAsked_J218 P_M_endAsked_J230
      rw [w32_of (x := zd g e 50 + 1) (by omega) (by omega), st, show w32 (-(zd h (e + 21) y)) = -(zd h (e + 21) y) from by unfold eit at it; exact w32_of (by omega) (by omega)]
      refine ⟨⟨by omega, by omega⟩, ?_⟩
      intro m2 e2 x3 e3 x4 e4
      rw [e3, e4, ← u1]
      have B2 : yA [167] m1 m2 := by rw [e2]; exact (yA.rf _ m1).w (by simp)
      refine u4 m m2 R (A1.tr (B2.mono (by simp))) (by rw [B2.f (b := 169) (by decide)]; exact mk) (fun j j0 j1 => ?_) n Q' K' (by omega) (fun m3 b3 f3 => kk m3 (B2.tr b3) f3)
      rw [e2, zd_zw]
      by_cases c : j = zd g e 50
      · rw [if_pos ⟨rfl, c⟩, c, u3]
      · rw [if_neg (by exact fun x => c x.2), u2 j j0 (by omega)]; exact fr j j0 (by omega)
    have mSkip : ∀ g', ItS e q a h (y + 1) g g' → ¬ (zd h (e + 21) y = a ∨ (zd h (e + 27) (zab (zd h (e + 21) y)) ≠ 0 ∧ est e h (zd h (e + 21) y) = 1)) → ItS e q a h y g g' := by
      intro g' u4 no m m1 R A1 mk fr n Q' K' hn kk
      obtain ⟨n, rfl⟩ : ∃ k, n = k + 1 := ⟨n - 1, by omega⟩
      refine there m m1 R A1 mk n _ Q' K' ?_
      rw [if_neg no]
      unfold P_M_endAsked_J230
      rw [st]
      intro x4 e4
      rw [e4]
      exact u4 m m1 R A1 mk fr n Q' K' (by omega) kk
    unfold P_E_noBy_L148
    rw [if' 28 (by decide) (by decide), if_neg (by omega), iA.f (b := e + 21) (by simp only [List.mem_cons, List.not_mem_nil, or_false]; omega)]
    refine ⟨⟨by omega, by omega⟩, ?_⟩
    intro x4 ex
    rw [ex, zabs_of it A3.2, iA.f (b := e + 27) (by simp only [List.mem_cons, List.not_mem_nil, or_false]; omega)]
    refine zif_i (fun d1 => add (fun g' p1 p2 p3 => k g' p1 p2 (mAdd g' p3 (Or.inl d1)))) (fun d1 => ⟨⟨by omega, by omega⟩, zif_i (fun d2 => skip d1 (fun g' p1 p2 p3 => k g' p1 p2 (mSkip g' p3 (fun x => x.elim d1 (fun z => z.1 d2))))) (fun d2 => L_isTrue it A3.2 ?_)⟩)
    rw [es]
    by_cases d3 : est e h (zd h (e + 21) y) = 1
    · rw [if_pos d3, if_neg (by decide)]
      exact add (fun g' p1 p2 p3 => k g' p1 p2 (mAdd g' p3 (Or.inr ⟨d2, d3⟩)))
    · rw [if_neg d3, if_pos rfl]
      exact skip d1 (fun g' p1 p2 p3 => k g' p1 p2 (mSkip g' p3 (fun x => x.elim d1 (fun z => d3 z.2))))
