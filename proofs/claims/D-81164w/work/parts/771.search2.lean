/-! the loop of search -/
def G1 (r : Int) : (Int → zH → Prop) → zH → Prop := fun Q' m' => Q' r m'
def GL (q : Int) : (Int → zH → Prop) → zH → Prop := fun Q' m' => ∀ Q'' : Int → zH → Prop, (∀ r m'', r ≠ 7 → Q' r m'' → Q'' r m'') → P_M_endLow q m' Q''
def GA (q a : Int) : (Int → zH → Prop) → zH → Prop := fun Q' m' => ∀ Q'' : Int → zH → Prop, (∀ r m'', r ≠ 7 → Q' r m'' → Q'' r m'') → P_M_endAsked q a m' Q''
theorem S_srch {e q : Int} {Q : Int → zH → Prop} {k42 k151 k277 k323 : zH → Prop} {k93 k212 : Int → zH → Prop} (he : zE e) (q0 : 0 ≤ q) (q1 : q ≤ 1) : ∀ (d f : Nat) (h : zH), zd h e 31 = d → d < f → d ≤ 2000000000 → SI e h →
    (∀ h', SI e h' → Conn e q h h' (fun _ => True) (G1 (-1004)) → k42 h') →
    (∀ s h', SI e h' → zd h' e 21 = 0 → 0 ≤ s → s < 1364 → Equar e h' s → Conn e q h h' (fun m' => zd m' 101 98 = num s) (GL q) → k93 s h') →
    (∀ h', SI e h' → Conn e q h h' (fun _ => True) (G1 (-1003)) → k151 h') →
    (∀ a h', SI e h' → (∃ k, 0 ≤ k ∧ k < zd h' e 28 ∧ zd h' (e + 21) k = a) → Conn e q h h' (fun _ => True) (GA q a) → k212 a h') →
    (∀ h', SI e h' → (∀ n, 1 ≤ n → n ≤ zd h' e 11 → zd h' (e + 11) n ≠ 0) → Conn e q h h' (fun _ => True) (G1 1) → k277 h') →
    (∀ h', SI e h' → Conn e q h h' (fun _ => True) (G1 (-1004)) → k323 h') →
    P_E_search_L9 e (-1004) Q k42 k93 k151 k212 k277 k323 f h := by
  have eR : 25 ≤ e ∧ e ≤ 58 := by rcases he with z | z <;> omega
  intro d
  induction d using Nat.strongRecOn with
  | ind d ih =>
    intro f h hd hf hl S H42 H93 H151 H212 H277 H323
    obtain ⟨f, rfl⟩ : ∃ m, f = m + 1 := ⟨f - 1, by omega⟩
    obtain ⟨⟨I, X, p3, p4, p5, p6, p7, p8⟩, t0, t1⟩ := id S
    have T1 := I.2.2.1.1
    unfold P_E_search_L9 P_E_force
    refine ⟨302, S_force (q := q) he q0 q1 301 302 h _ (by omega) (by decide) I X (by omega) (by omega) (fun r h3 I3 X3 F3 R3' fs => ?_)⟩
    have S3 : SI e h3 := F3.si he S I3 X3
    obtain ⟨fA, ff, ⟨fl0, fl1⟩, -⟩ := id F3
    obtain ⟨hs3, hc3, hT3, hL3, hO3, -, -⟩ := id I3
    have A3 := hs3.1
    have nr := now_r I3
    have EA3 : EAs e h3 := S3.1.2.2.2.2.2.2.2.2.2.2.2.2
    have l3 : 0 ≤ zd h e 31 := by omega
    -- on with a heap behind this turn
    have on : ∀ h1, SI e h1 → Turn e q h h1 → zd h1 e 31 = zd h3 e 31 - 1 → 0 ≤ zd h1 e 31 → P_E_search_L9 e (-1004) Q k42 k93 k151 k212 k277 k323 f h1 := by
      intro h1 S1 T1 lf l0
      have lt : zd h1 e 31 < zd h e 31 := by omega
      exact ih (zd h1 e 31).toNat (by omega) f h1 (by omega) (by omega) (by omega) S1 (fun h' a c => H42 h' a (conn_comp T1 lt l0 c)) (fun s h' a b c d e c' => H93 s h' a b c d e (conn_comp T1 lt l0 c')) (fun h' a c => H151 h' a (conn_comp T1 lt l0 c)) (fun s h' a b c => H212 s h' a b (conn_comp T1 lt l0 c)) (fun h' a b c => H277 h' a b (conn_comp T1 lt l0 c)) (fun h' a c => H323 h' a (conn_comp T1 lt l0 c))
    -- an item is decided, or none is left
    have dec : (∀ s, 0 ≤ s → s < 1364 → ¬ Ehot e h3 s) → ∀ x, (x = 0 → ∀ n, 1 ≤ n → n ≤ zd h3 e 11 → zd h3 (e + 11) n ≠ 0) → (x ≠ 0 → eit (zd h3 e 11) x ∧ est e h3 x = 0) → (∀ m, Rel e q h m → ∀ K : Int → zH → Prop, (∀ g', Rel e q h3 g' → MFr q m g' → P_M_oneTurn_J168 q x g' K) → P_M_oneTurn q m K) → P_E_search_J270 e (-1004) x h3 Q k277 k323 (P_E_search_L9 e (-1004) Q k42 k93 k151 k212 k277 k323 f) := by
      intro nh x hx0 hx1 route
      unfold P_E_search_J270
      refine zif_i (fun c => ?_) (fun c => zif_i (fun c2 => ?_) (fun c2 => ?_))
      · refine H277 h3 S3 (hx0 c) (conn_end l3 ?_)
        intro m R n Q' kk kn
        refine route m R _ (fun g' R' F' => ?_)
        unfold P_M_oneTurn_J168
        rw [if_pos c]
        exact kn 1 g' (by decide) (kk g' R' F'.wk trivial)
      · refine H323 h3 S3 (conn_end l3 ?_)
        intro m R n Q' kk kn
        refine route m R _ (fun g' R' F' => ?_)
        unfold P_M_oneTurn_J168
        rw [if_neg c]
        refine M_takes q0 q1 (fun _ => ?_) (fun z => absurd (by rw [← R'.2.1.1]; exact c2) z)
        rw [if_pos rfl]
        exact kn (-1004) g' (by decide) (kk g' R' F'.wk trivial)
      · obtain ⟨itx, ox⟩ := hx1 c
        refine E_step (fun h9 e9 => ?_)
        intro h10 e10
        have e10' : h10 = zw (zw (zw h3 e 31 (w32 (zd h3 e 31 - 1))) e 30 (w32 (zd h3 e 30 + 1))) e 33 (w32 (zd h3 e 33 + 1)) := by
          rw [e10, show zd h9 e 33 = zd h3 e 33 from by rw [e9, zd_i (by decide), zd_i (by decide)], e9]
        have k10 : ∀ b, b ≠ e → zd h10 b = zd h3 b := fun b n => by rw [e10', zw_f n, zw_f n, zw_f n]
        have f10 : ∀ j, j ≠ 30 → j ≠ 31 → j ≠ 33 → zd h10 e j = zd h3 e j := fun j n0 n1 n2 => by rw [e10', zd_i n2, zd_i n0, zd_i n1]
        have f31 : zd h10 e 31 = zd h3 e 31 - 1 := by rw [e10', zd_i (by decide), zd_i (by decide), zd_s, w32_of (by omega) (by omega)]
        have I10 : EInv e h10 (564 + zd h e 25) := by rw [e10']; exact ((I3.w (by decide) (by decide) (by decide) (by decide)).w (by decide) (by decide) (by decide) (by decide)).w (by decide) (by decide) (by decide) (by decide)
        have X10 : EX e h10 := by rw [e10']; exact ((X3.w (by decide)).w (by decide)).w (by decide)
        have nh10 : ∀ s, 0 ≤ s → s < 1364 → ¬ Ehot e h10 s := fun s s0 s1 => by
          have := nh s s0 s1
          unfold Ehot at this ⊢
          rw [k10 (e + 5) (by omega), k10 (e + 4) (by omega), k10 (e + 2) (by omega), k10 (e + 3) (by omega)]; exact this
        have a10 : zd h10 e 11 = zd h3 e 11 := f10 11 (by decide) (by decide) (by decide)
        refine E_dec I10 X10 nh10 (by rw [a10]; exact itx) (by unfold est at ox ⊢; rw [k10 (e + 11) (by omega)]; exact ox) (fun h12 h' e12 pe I' X' => ?_)
        have n10 : zd h10 e 21 = zd h3 e 21 := f10 21 (by decide) (by decide) (by decide)
        have A12 : yA [e, e + 18] h10 h12 := by rw [e12]; exact (((yA.rf _ h10).w (by simp)).w (by simp)).w (by simp)
        have f12 : ∀ j, j ≠ 21 → j ≠ 38 → zd h12 e j = zd h10 e j := fun j n1 n2 => by rw [e12, zd_i n2, zd_a (by omega), zd_i n1]
        have A10 : yA [e] h3 h10 := by rw [e10']; exact (((yA.rf _ h3).w (by simp)).w (by simp)).w (by simp)
        have Ah' : yA [e, e + 3, e + 4, e + 6, e + 11, e + 12, e + 13, e + 16, e + 17, e + 18] h3 h' := ((A10.mono (by simp)).tr (A12.mono (by simp))).tr (pe.1.mono (by simp))
        have fh' : ∀ j, j ≠ 20 → j ≠ 21 → j ≠ 30 → j ≠ 31 → j ≠ 33 → j ≠ 38 → zd h' e j = zd h3 e j := fun j n0 n1 n2 n3 n4 n5 => by rw [pe.2.2.2.2.2.1, if_neg n0, f12 j n1 n5, f10 j n2 n3 n4]
        have l31 : zd h' e 31 = zd h3 e 31 - 1 := by rw [pe.2.2.2.2.2.1, if_neg (by decide), f12 31 (by decide) (by decide), f31]
        have z18 : zd h' (e + 18) 0 = 0 := by
          rw [pe.1.f (b := e + 18) (by simp only [List.mem_cons, List.not_mem_nil, or_false]; omega), e12, zd_a (by omega), zd_i (by omega), zd_a (by omega), k10 (e + 18) (by omega)]
          exact S3.1.2.2.2.2.2.2.2.2.2.2.2.1
        have S' : SI e h' := by
          obtain ⟨⟨_, _, q3, q4, q5, q6, q7, q8⟩, u0, u1⟩ := id S3
          have c' : ∀ k, k ∈ ([10, 11, 22, 25, 26, 28, 36, 37, 40] : List Int) → zd h' e k = zd h3 e k := fun k hk => fh' k (by simp only [List.mem_cons, List.not_mem_nil, or_false] at hk; omega) (by simp only [List.mem_cons, List.not_mem_nil, or_false] at hk; omega) (by simp only [List.mem_cons, List.not_mem_nil, or_false] at hk; omega) (by simp only [List.mem_cons, List.not_mem_nil, or_false] at hk; omega) (by simp only [List.mem_cons, List.not_mem_nil, or_false] at hk; omega) (by simp only [List.mem_cons, List.not_mem_nil, or_false] at hk; omega)
          have v25 : zd h3 e 25 = zd h e 25 := ff 25 (by decide) (by decide) (by decide) (by decide)
          unfold SI SI0 EW EAs
          rw [c' 25 (by decide), c' 26 (by decide), c' 10 (by decide), c' 11 (by decide), c' 37 (by decide), c' 36 (by decide), c' 22 (by decide), c' 28 (by decide), c' 40 (by decide), Ah'.f (b := e + 5) (by simp only [List.mem_cons, List.not_mem_nil, or_false]; omega), Ah'.f (b := e + 15) (by simp only [List.mem_cons, List.not_mem_nil, or_false]; omega), Ah'.f (b := e + 21) (by simp only [List.mem_cons, List.not_mem_nil, or_false]; omega), Ah'.t, Ah'.l, Ah'.t, Ah'.l]
          exact ⟨⟨by rw [v25]; exact I', X', q3, q4, q5, q6, q7, q8.1, q8.2.1, q8.2.2.1, q8.2.2.2.1, z18, q8.2.2.2.2.2⟩, u0, u1⟩
        refine on h' S' ?_ l31 (by omega)
        intro m R K kk
        refine route m R K (fun g' R' F' => ?_)
        have x0 : x ≠ 0 := c
        refine S_dec (v := 0) (w := 0) he q0 q1 I3 itx x0 ox R'.1 R'.2.1 c2 e10' e12 pe (fun m' a b c => kk m' (R'.fr a b c (fh' 25 (by decide) (by decide) (by decide) (by decide) (by decide) (by decide)) (Ah'.f (by simp only [List.mem_cons, List.not_mem_nil, or_false]; omega)) (fh' 42 (by decide) (by decide) (by decide) (by decide) (by decide) (by decide))) (F'.wk.tr c.wk))
    refine zif_i (fun c => ?_) (fun c => ?_)
    · -- spent while forcing
      refine H42 h3 S3 (conn_end l3 ?_)
      intro m R n Q' kk kn
      exact M_turn0 he q0 q1 T1.1 F3 fs R (fun _ g' R' F' => kn (-1004) g' (by decide) (kk g' R' F'.wk trivial)) (fun z => absurd c z)
    refine zif_i (fun cn => ?_) (fun cn => ?_)
    · -- nothing forces
      have nh : ∀ s, 0 ≤ s → s < 1364 → ¬ Ehot e h3 s := by
        rcases R3' with z | z | z
        · exact z.2
        · omega
        · omega
      unfold P_E_search_J79 P_E_search_J136
      rw [if_pos cn, if_pos cn]
      have toJ : ∀ m, Rel e q h m → ∀ K : Int → zH → Prop, (∀ g', Rel e q h3 g' → MFr q m g' → FMatch (-1005) g' → P_M_oneTurn_J67 q g' K) → P_M_oneTurn q m K := by
        intro m R K kk
        exact M_turn0 he q0 q1 T1.1 F3 fs R (fun z => absurd z c) (fun _ g' R' F' fm => kk g' R' F' (by rw [cn] at fm; exact fm))
      refine E_firstAssumed A3.2 EA3 (fun r4 h4 => ?_)
      refine zif_i (fun c4 => ?_) (fun c4 => ?_)
      · unfold P_E_search_J256
        rw [if_pos c4]
        refine E_heaviest A3.1 A3.2 (fun b hb => ?_)
        refine dec nh _ (fun z n n0 n1 => ?_) (fun z => ?_) ?_
        · rcases hb with ⟨_, b2⟩ | ⟨⟨b0, b1⟩, _⟩
          · exact b2 n n0 (by omega)
          · rw [if_neg (by omega)] at z
            exfalso
            split at z <;> omega
        · rcases hb with ⟨b1, _⟩ | ⟨⟨b0, b1⟩, b2, _⟩
          · rw [if_pos b1] at z; exact absurd rfl z
          · rw [if_neg (by omega)]
            have zb : ∀ v : Int, (v = b ∨ v = -b) → eit (zd h3 e 11) v ∧ est e h3 v = 0 := by
              intro v hv
              have iv : eit (zd h3 e 11) v := by unfold eit; omega
              refine ⟨iv, ?_⟩
              have zv : zab v = b := by unfold zab; split <;> omega
              rw [est_ab e h3 iv, zv, b2]; split <;> rfl
            split
            · exact zb _ (Or.inl rfl)
            · exact zb _ (Or.inr rfl)
        · intro m R K kk
          refine toJ m R K (fun g' R' F' fm => ?_)
          refine M_J67 q0 q1 R'.1 fm (fun a s hM => ?_)
          rcases pick hc3 EA3 R'.1 h4 hM with ⟨z1, z2⟩ | ⟨z1, z2⟩
          · unfold P_M_oneTurn_J146
            rw [if_neg (by omega), if_pos z2]
            refine M_heaviest (A := zd h3 e 11) q0 q1 A3.1 A3.2 R'.1.2.1.2.2.2.2.2.symm R'.1.2.2.2.1.2.1 (fun b' hb' => ?_)
            rw [← (S_heaviest R'.1.2.1 R'.1.2.2.2.1 hb hb').2]
            exact kk g' R' F'
          · exfalso
            have w : est e h3 r4 ≠ 1 := by omega
            rcases h4 with ⟨y1, y2⟩ | ⟨k, k0, k1, k2, _⟩
            · rcases hM with ⟨s1, _⟩ | ⟨k', l0, l1, l2, l3', l4, _⟩
              · omega
              · have b1 := R'.1.2.2.2.2.2.2.1.1.1
                have b4 := R'.1.2.2.2.2.2.2.1.2
                have e4 := (b4 k' l0 (by omega)).2
                rw [(b4 k' l0 (by omega)).1, ← l2, z1, y1] at e4
                unfold eit at e4; omega
            · have e4 := EA3.2 k k0 k1
              rw [← k2, c4] at e4
              unfold eit at e4; omega
      · have ex : ∃ k, 0 ≤ k ∧ k < zd h3 e 28 ∧ r4 = zd h3 (e + 21) k := by
          rcases h4 with ⟨y1, _⟩ | ⟨k, k0, k1, k2, _⟩
          · exact absurd y1 c4
          · exact ⟨k, k0, k1, k2⟩
        obtain ⟨k, kk0, kk1, kk2⟩ := ex
        have it4 : eit (zd h3 e 11) r4 := by rw [kk2]; exact EA3.2 k kk0 kk1
        have ir4 := zab_r it4
        unfold P_E_isOpen
        rw [zabs_of it4 A3.2]
        refine ⟨⟨by omega, by omega⟩, ?_⟩
        have stM : ∀ m, Rel e q h m → ∀ K : Int → zH → Prop, (∀ g', Rel e q h3 g' → MFr q m g' → (est e h3 r4 = 0 → P_M_oneTurn_J168 q r4 g' K) ∧ (est e h3 r4 = -1 → P_M_endAsked q r4 g' (fun r25 h26 => K r25 h26))) → P_M_oneTurn q m K := by
          intro m R K kk
          refine toJ m R K (fun g' R' F' fm => ?_)
          refine M_J67 q0 q1 R'.1 fm (fun a s hM => ?_)
          rcases pick hc3 EA3 R'.1 h4 hM with ⟨z1, z2⟩ | ⟨z1, ⟨z2, z3⟩ | ⟨z2, z3⟩⟩
          · exact absurd z1 c4
          · unfold P_M_oneTurn_J146
            rw [if_neg (by omega), if_neg (by omega), z1]
            exact (kk g' R' F').1 z2
          · unfold P_M_oneTurn_J146
            rw [if_pos z3, z1]
            exact (kk g' R' F').2 z2
        by_cases c5 : zd h3 (e + 11) (zab r4) = 0
        · rw [if_pos c5]
          show (if (1 : Int) = 0 then _ else _)
          rw [if_neg (by decide)]
          have o4 : est e h3 r4 = 0 := by rw [est_ab e h3 it4, c5]; split <;> rfl
          unfold P_E_search_J256
          rw [if_neg c4]
          refine dec nh r4 (fun z => absurd z c4) (fun _ => ⟨it4, o4⟩) (fun m R K kk => stM m R K (fun g' R' F' => ⟨fun _ => kk g' R' F', fun z => by omega⟩))
        · rw [if_neg c5]
          show (if (0 : Int) = 0 then _ else _)
          rw [if_pos rfl]
          refine H212 r4 h3 S3 ⟨k, kk0, kk1, kk2.symm⟩ (conn_end l3 ?_)
          intro m R n Q' kk kn
          refine stM m R _ (fun g' R' F' => ⟨fun z => ?_, fun _ => kk g' R' F'.wk trivial _ kn⟩)
          exfalso
          rw [est_ab e h3 it4] at z
          split at z <;> omega
    · -- a quarrel
      have rq : (0 ≤ r ∧ r < 1364) ∧ Equar e h3 r := by
        rcases R3' with z | z | z
        · exact absurd z.1 cn
        · exact z
        · exact absurd z.1 c
      have num0 := num_r rq.1.1 rq.1.2
      have fm98 : ∀ g', FMatch r g' → zd g' 101 98 = num r := by
        intro g' fm
        rcases fm with z | z
        · exact absurd z.1 cn
        · exact z.2.2
      refine zif_i (fun c5 => ?_) (fun c5 => ?_)
      · have n0 : zd h3 e 21 = 0 := by omega
        unfold P_E_search_J79
        rw [if_neg cn, if_pos n0]
        refine H93 r h3 S3 n0 rq.1.1 rq.1.2 rq.2 (conn_end l3 ?_)
        intro m R n Q' kk kn
        refine M_turn0 he q0 q1 T1.1 F3 fs R (fun z => absurd z c) (fun _ g' R' F' fm => ?_)
        have f98 := fm98 g' fm
        unfold P_M_oneTurn_J67
        rw [if_neg (by omega), ← R'.1.2.1.2.2.2.2.1, if_pos n0]
        exact ⟨⟨by omega, by omega⟩, kk g' R' F'.wk f98 _ kn⟩
      · have toL : ∀ m, Rel e q h m → ∀ K : Int → zH → Prop, (∀ g', Rel e q h3 g' → MFr q m g' → zd g' 101 98 = num r → P_M_learn q g' (fun r27 h28 => K r27 h28)) → P_M_oneTurn q m K := by
          intro m R K kk
          refine M_turn0 he q0 q1 T1.1 F3 fs R (fun z => absurd z c) (fun _ g' R' F' fm => ?_)
          have f98 := fm98 g' fm
          unfold P_M_oneTurn_J67
          rw [if_neg (by omega), ← R'.1.2.1.2.2.2.2.1, if_neg (by omega)]
          exact ⟨⟨by omega, by omega⟩, kk g' R' F' f98⟩
        refine zif_i (fun c6 => ?_) (fun c6 => ?_)
        · refine H42 h3 S3 (conn_end l3 ?_)
          intro m R n Q' kk kn
          refine toL m R _ (fun g' R' F' f98 => ?_)
          unfold P_M_learn
          rw [if_pos (show zd g' 101 89 = 0 by rw [← R'.2.1.1]; exact c6)]
          exact kn (-1004) g' (by decide) (kk g' R' F'.wk trivial)
        · unfold P_E_search_J79 P_E_search_J136
          rw [if_neg cn, if_neg (by omega), if_neg cn]
          refine S_learns (q := q) he q0 q1 S3 (by omega) rq.1.1 rq.1.2 rq.2 (by omega) (by omega) (fun h4 S4 lp ln => ?_) (fun h4 S4 l4 ln => ?_)
          · rw [if_pos rfl]
            refine H151 h4 S4 (conn_end l3 ?_)
            intro m R n Q' kk kn
            refine toL m R _ (fun g' R' F' f98 => ?_)
            refine ln g' R'.1 R'.2.1 R'.2.2.1 f98 _ (fun _ m' a b c => ?_) (fun z => absurd z (by decide))
            refine kn (-1003) m' (by decide) (kk m' (R'.fr a b c (lp.2.1 25 (by decide) (by decide) (by decide)) (lp.1.f (by simp only [List.mem_cons, List.not_mem_nil, or_false]; omega)) (lp.2.1 42 (by decide) (by decide) (by decide))) (F'.wk.tr c.wk) trivial)
          · rw [if_neg (by decide)]
            refine on h4 S4 ?_ l4 (by omega)
            intro m R K kk
            refine toL m R K (fun g' R' F' f98 => ?_)
            exact ln g' R'.1 R'.2.1 R'.2.2.1 f98 _ (fun z => absurd z (by decide)) (fun _ m' a b c d e => kk m' ⟨a, b, c, e⟩ (F'.wk.tr d))
