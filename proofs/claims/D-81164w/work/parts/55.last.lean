/-! learning: up to the name that is alone of its level -/
theorem zct_pos {f : Int → Int} {v a : Int} {n : Nat} (h : 1 ≤ zct f v a n) : ∃ i, a ≤ i ∧ i < a + n ∧ f i = v := by
  apply Classical.byContradiction
  intro q
  have := (zct_0 (f := f) (v := v) (a := a) (n := n)).mpr (fun i i0 i1 c => q ⟨i, i0, i1, c⟩)
  omega
theorem mk_ex {e l : Int} {h : zH} (p : 1 ≤ cmk e h l) : ∃ n, 1 ≤ n ∧ n ≤ zd h e 11 ∧ zd h (e + 25) n = 1 ∧ zd h (e + 12) n = l := by
  obtain ⟨i, i0, i1, i2⟩ := zct_pos p
  refine ⟨i, i0, by omega, ?_⟩
  have i2 : (if zd h (e + 25) i = 1 ∧ zd h (e + 12) i = l then (1 : Int) else 0) = 1 := i2
  by_cases c : zd h (e + 25) i = 1 ∧ zd h (e + 12) i = l
  · exact c
  · rw [if_neg c] at i2; omega
def LI (e top : Int) (h : zH) (here y : Int) : Prop := EInv e h top ∧ EX e h ∧ EG e h ∧ (∀ n, 1 ≤ n → n ≤ zd h e 11 → zd h (e + 25) n = 1 → zd h (e + 11) n ≠ 0) ∧ (here = cmk e h (zd h e 21) ∧ 1 ≤ here) ∧ (∀ i, y < i → i < zd h e 20 → ¬ (zd h (e + 25) (tn e h i) = 1 ∧ zd h (e + 12) (tn e h i) = zd h e 21)) ∧ (-1 ≤ y ∧ y < zd h e 20) ∧ 1 ≤ zd h e 21 ∧ (0 ≤ zd h e 54 ∧ zd h e 54 ≤ zd h e 20 - y) ∧ zd h e 52 = cwas e h ∧ zt h (e + 29) = 53 ∧ zl h (e + 29) = 8 ∧ (∀ n, 1 ≤ n → n ≤ zd h e 11 → zd h (e + 25) n = 1 → zd h (e + 12) n ≠ 0) ∧ ∀ i, 0 ≤ i → i < zd h e 54 → 0 ≤ zd h (e + 30) i ∧ zd h (e + 30) i < 800
theorem LI.at {e top here y : Int} {h : zH} (p : LI e top h here y) : 0 ≤ y := by
  obtain ⟨⟨_, _, _, hL, _⟩, _, _, ha, ⟨h1, h2⟩, hJ, hy, _⟩ := p
  rw [h1] at h2
  obtain ⟨n, n0, n1, n2, n3⟩ := mk_ex h2
  obtain ⟨i, i0, i1, i2⟩ := hL.1.2.2.2 n n0 n1 (ha n n0 n1 n2)
  rcases Int.lt_or_le y i with c | c
  · exact absurd ⟨by rw [i2]; exact n2, by rw [i2]; exact n3⟩ (hJ i c i1)
  · omega
def LIp (e : Int) (h h' : zH) : Prop := yA [e, e + 25, e + 26, e + 29, e + 30] h h' ∧ ∀ j, j ≠ 52 → j ≠ 54 → zd h' e j = zd h e j
def MuF (m m' : zH) : Prop := yA [101, 168, 169, 170] m m' ∧ ∀ j, j ≠ 104 → j ≠ 106 → zd m' 101 j = zd m 101 j
theorem R7.mu {e q : Int} {h h' m m' : zH} (r : R7 e q h m) (pe : LIp e h h') (pm : MuF m m') : R7 e q h' m' :=
  r.cg (fun k hk => pe.2 k (by simp only [List.mem_cons, List.not_mem_nil, or_false] at hk; omega) (by simp only [List.mem_cons, List.not_mem_nil, or_false] at hk; omega)) (fun k hk => pm.1.f (by simp only [List.mem_cons, List.not_mem_nil, or_false] at hk ⊢; omega)) (fun k hk => pm.2 k (by simp only [List.mem_cons, List.not_mem_nil, or_false] at hk; omega) (by simp only [List.mem_cons, List.not_mem_nil, or_false] at hk; omega))
def LSimL (e q : Int) (h : zH) (here y first : Int) (h' : zH) : Prop := ∀ m, RMs e q h m → R7 e q h m → GLr e q h m → MG (zd h e 11) m → zd m 101 104 = here → (0 ≤ zd m 101 106 ∧ zd m 101 106 ≤ zd h e 20 - y) → ∀ (n : Nat) (Q' : Int → zH → Prop), y + 2 < n → (∀ m', RMs e q h' m' → R7 e q h' m' → GLr e q h' m' → MG (zd h e 11) m' → (0 ≤ zd m' 101 106 ∧ zd m' 101 106 ≤ 301) → MuF m m' → Q' (zd h' (e + 17) first) m') → P_M_lastOne_L11 q Q' n 0 y m
theorem S_last {e q top : Int} (he : zE e) (q0 : 0 ≤ q) (q1 : q ≤ 1) : ∀ (d f : Nat) (h : zH) (here y : Int) (Q : Int → zH → Prop) (K : Int → zH → Prop), y + 1 = d → d + 1 < f → LI e top h here y → (∀ first h', LIp e h h' → LI e top h' 1 first → (zd h' (e + 25) (tn e h' first) = 1 ∧ zd h' (e + 12) (tn e h' first) = zd h' e 21) → LSimL e q h here y first h' → K first h') → P_E_learn_L27 e Q K f here y (-1005) h := by
  have eR : 25 ≤ e ∧ e ≤ 58 := by rcases he with z | z <;> omega
  intro d
  induction d with
  | zero => intro f h here y Q K hy _ hI _; have := hI.at; omega
  | succ d ih =>
    intro f h here y Q K hy hf hI k
    obtain ⟨f, rfl⟩ : ∃ m, f = m + 1 := ⟨f - 1, by omega⟩
    have y0 := hI.at
    obtain ⟨hE, hX, hG, ha, ⟨hh, h1⟩, hJ, ⟨-, y1⟩, hn, hu, hm, t29, l29, kz, ku⟩ := id hI
    obtain ⟨hs, hc, hT, hL, hO, t16, l16⟩ := id hE
    have A3 := hs.1
    have T1 := hT.1
    obtain ⟨it, tr⟩ := hT.2.1 y y0 y1
    have ir := zab_r it
    have cb : cmk e h (zd h e 21) ≤ 300 := by
      have := zct_le (fun n => if zd h (e + 25) n = 1 ∧ zd h (e + 12) n = zd h e 21 then 1 else 0) 1 1 (zd h e 11).toNat
      unfold cmk; omega
    have st : w32 (y + -1) = y - 1 := by rw [w32_of (by omega) (by omega)]; omega
    -- the place is passed over
    have pass : ¬ (zd h (e + 25) (tn e h y) = 1 ∧ zd h (e + 12) (tn e h y) = zd h e 21) → P_E_learn_J111 e here y (-1005) h Q (P_E_learn_L27 e Q K f) := by
      intro no
      unfold P_E_learn_J111
      intro x3 e3
      rw [e3, st]
      refine ih f h here (y - 1) Q K (by omega) (by omega) ⟨hE, hX, hG, ha, ⟨hh, h1⟩, fun i i0 i1 => ?_, by omega, hn, by omega, hm, t29, l29, kz, ku⟩ (fun first h' p1 p2 p3 p4 => k first h' p1 p2 p3 ?_)
      · by_cases c : i = y
        · rw [c]; exact no
        · exact hJ i (by omega) i1
      · intro m R C G mg u1 u2 n Q' hn' kq
        obtain ⟨n, rfl⟩ : ∃ m, n = m + 1 := ⟨n - 1, by omega⟩
        have tq : zd m 149 (300 * q + y) = zd h (e + 17) y := (R.2.1.2.2.2.1 y y0 y1).symm
        unfold P_M_lastOne_L11 P_M_lastOne_J120
        simp only [w32_al, w32_ar, w32_sl, w32_sr, w32_ml, w32_mr]
        rw [if_pos trivial, w32_of (x := 300 * q + y) (by omega) (by omega), tq, st]
        refine ⟨⟨by omega, by omega⟩, ?_⟩
        intro x4 e4
        rw [e4]
        refine M_nameOf it A3.2 ?_
        have a := G.1 _ ir.1 ir.2
        have go : P_M_lastOne_L11 q Q' n 0 (y - 1) m := p4 m R C G mg u1 (by omega) n Q' (by omega) kq
        rw [w32_of (x := 301 * q + zab (zd h (e + 17) y)) (by omega) (by omega)]
        refine ⟨⟨by omega, by omega⟩, zif_i (fun c => ?_) (fun c => ⟨⟨by omega, by omega⟩, ⟨by omega, by omega⟩, zif_i (fun c2 => ?_) (fun c2 => ?_)⟩)⟩
        · intro x5 e5; rw [e5]; exact go
        · exfalso
          have mr := (hG _ ir.1 ir.2).1
          have v1 : zd h (e + 25) (tn e h y) = 1 := by unfold tn; omega
          refine no ⟨v1, ?_⟩
          have l := (R.2.1.2.1 _ ir.1 ir.2 (ha _ ir.1 ir.2 v1)).1
          unfold tn
          rw [l, c2]; exact R.2.1.2.2.2.2.1.symm
        · intro x5 e5; rw [e5]; exact go
    unfold P_E_learn_L27
    rw [if_pos rfl]
    refine ⟨⟨by omega, by omega⟩, ?_⟩
    intro x5 e5
    rw [zabs_of it A3.2] at e5
    rw [e5, zbit_0]
    refine ⟨⟨by omega, by omega⟩, zif_i (fun c => pass (fun p => by have := p.1; unfold tn at this; omega)) (fun c => ⟨⟨by omega, by omega⟩, zif_i (fun c2 => zif_i (fun c3 => ?_) (fun c3 => ?_)) (fun c2 => pass (fun p => c2 p.2))⟩)⟩
    · -- it is alone
      have m1 : zd h (e + 25) (tn e h y) = 1 := by have := (hG _ ir.1 ir.2).1; unfold tn; omega
      unfold P_E_learn_J111
      intro x3 e3
      obtain ⟨f, rfl⟩ : ∃ m, f = m + 1 := ⟨f - 1, by omega⟩
      unfold P_E_learn_L27
      rw [if_neg (show ¬ y = -1005 by omega)]
      refine k y h ⟨yA.rf _ _, fun _ _ _ => rfl⟩ (by rw [c3] at hI; exact hI) ⟨m1, c2⟩ ?_
      intro m R C G mg u1 u2 n Q' hn' kq
      obtain ⟨n, rfl⟩ : ∃ m, n = m + 1 + 1 := ⟨n - 2, by omega⟩
      have tq : zd m 149 (300 * q + y) = zd h (e + 17) y := (R.2.1.2.2.2.1 y y0 y1).symm
      unfold P_M_lastOne_L11 P_M_lastOne_J120
      simp only [w32_al, w32_ar, w32_sl, w32_sr, w32_ml, w32_mr]
      rw [if_pos trivial, w32_of (x := 300 * q + y) (by omega) (by omega), tq, st]
      refine ⟨⟨by omega, by omega⟩, ?_⟩
      intro x4 e4
      rw [e4]
      refine M_nameOf it A3.2 ?_
      have a := G.1 _ ir.1 ir.2
      have l := (R.2.1.2.1 _ ir.1 ir.2 (ha _ ir.1 ir.2 m1)).1
      rw [w32_of (x := 301 * q + zab (zd h (e + 17) y)) (by omega) (by omega), if_neg (show ¬ zd m 168 (zab (zd h (e + 17) y)) = 0 by omega), if_pos (show zd m 144 (301 * q + zab (zd h (e + 17) y)) = zd m 151 q by rw [← l, c2]; exact R.2.1.2.2.2.2.1), u1, if_pos c3]
      refine ⟨⟨by omega, by omega⟩, ⟨by omega, by omega⟩, ⟨by omega, by omega⟩, ?_⟩
      intro x6 e6
      unfold P_M_lastOne_L11
      rw [if_neg (show ¬ zd h (e + 17) y = 0 by unfold eit at it; omega)]
      exact kq m R C G mg (by omega) ⟨yA.rf _ _, fun _ _ _ => rfl⟩
    · -- its reason comes into the set
      have m1 : zd h (e + 25) (zab (zd h (e + 17) y)) = 1 := by have := (hG _ ir.1 ir.2).1; omega
      refine ⟨⟨by omega, by omega⟩, ?_⟩
      intro h8 e8
      refine ⟨⟨by omega, by omega⟩, ?_⟩
      have k8 : ∀ b, b ≠ e + 25 → zd h8 b = zd h b := fun b hb => by rw [e8, zw_f hb]
      have A8 : yA [e + 25] h h8 := by rw [e8]; exact (yA.rf _ h).w (by simp)
      have v25 : ∀ j, zd h8 (e + 25) j = if j = zab (zd h (e + 17) y) then 0 else zd h (e + 25) j := by
        intro j
        rw [e8, zd_zw]
        by_cases z : j = zab (zd h (e + 17) y)
        · rw [if_pos ⟨rfl, z⟩, if_pos z]
        · rw [if_neg (by exact fun p => z p.2), if_neg z]
      have l8 : zd h8 (e + 12) = zd h (e + 12) := k8 _ (by omega)
      have z8 : zd h8 e = zd h e := k8 _ (by omega)
      have cm8 : cmk e h (zd h e 21) = cmk e h8 (zd h e 21) + 1 := by
        unfold cmk
        rw [z8, l8]
        refine zct_one (i := zab (zd h (e + 17) y)) (by omega) (by omega) ?_ ?_ (fun j hj => ?_)
        · rw [v25, if_pos rfl, if_neg (by exact fun p => absurd p.1 (by decide))]; decide
        · rw [if_pos ⟨m1, c2⟩]
        · rw [v25, if_neg hj]
      have hE8 : EInv e h8 top := hE.cg (fun k hk => k8 _ (by simp only [List.mem_cons, List.not_mem_nil, or_false] at hk; omega)) (fun k _ => by rw [z8]) (A8.t _) (A8.l _)
      have hX8 : EX e h8 := hX.cg (fun k hk => k8 _ (by simp only [List.mem_cons, List.not_mem_nil, or_false] at hk; omega)) (by rw [z8])
      have hG8 : EG e h8 := by
        intro n n0 n1
        rw [z8] at n1
        have := hG n n0 n1
        rw [v25, k8 (e + 26) (by omega)]
        split <;> omega
      have ha8 : ∀ n, 1 ≤ n → n ≤ zd h8 e 11 → zd h8 (e + 25) n = 1 → zd h8 (e + 11) n ≠ 0 := by
        intro n n0 n1 n2
        rw [z8] at n1
        rw [v25] at n2
        rw [k8 (e + 11) (by omega)]
        by_cases z : n = zab (zd h (e + 17) y)
        · rw [if_pos z] at n2; omega
        · rw [if_neg z] at n2; exact ha n n0 n1 n2
      -- another one is of the level, before it
      obtain ⟨n', a0, a1, a2, a3⟩ := mk_ex (e := e) (h := h8) (l := zd h e 21) (by omega)
      rw [z8] at a1
      rw [v25] at a2
      rw [l8] at a3
      have nn : n' ≠ zab (zd h (e + 17) y) := by intro q; rw [if_pos q] at a2; omega
      rw [if_neg nn] at a2
      obtain ⟨j, j0, j1, j2⟩ := hL.1.2.2.2 n' a0 a1 (ha n' a0 a1 a2)
      have jy : j < y := by
        rcases Int.lt_trichotomy j y with z | z | z
        · exact z
        · rw [z] at j2; exact absurd j2.symm nn
        · exact absurd ⟨by rw [j2]; exact a2, by rw [j2]; exact a3⟩ (hJ j z j1)
      have lat : zd h (e + 18) (zd h e 21) < y := by
        have := (hL.1.2.2.1 (zd h e 21) hn (Int.le_refl _)).2 j j0 j1
        rw [j2, a3] at this; omega
      have ty : tn e h y = zab (zd h (e + 17) y) := rfl
      have oy := hO y y0 y1
      unfold EOi at oy
      rw [ty, c2] at oy
      rcases oy with ⟨_, _, o3⟩ | ⟨⟨o1, o2, o3⟩, -, o5, o6⟩
      · omega
      have e13 : zd h8 (e + 13) = zd h (e + 13) := k8 _ (by omega)
      rw [e13, z8]
      generalize es : zd h (e + 13) (zab (zd h (e + 17) y)) = s at o1 o2 o3 o5 o6 ⊢
      have rowv : ∀ c, zd h (e + 1) s ≤ c → c < zd h (e + 1) s + zd h (e + 2) s → zd h (e + 11) (zab (zd h (e + 7) c)) ≠ 0 ∧ (zd h (e + 7) c ≠ zd h (e + 17) y → ∃ j, 0 ≤ j ∧ j < y ∧ tn e h j = zab (zd h (e + 7) c)) := by
        intro c b0 b1
        have val : ∀ i, 0 ≤ i → i < zd h e 20 → zd h (e + 11) (tn e h i) ≠ 0 := by
          intro i i0 i1
          obtain ⟨u1, u2⟩ := hT.2.1 i i0 i1
          rw [est_ab e h u1] at u2
          unfold tn
          split at u2 <;> omega
        by_cases z : zd h (e + 7) c = zd h (e + 17) y
        · exact ⟨by rw [z]; exact val y y0 y1, fun q => absurd z q⟩
        · obtain ⟨j, w0, w1, w2⟩ := o6 c b0 b1 z
          have tj : tn e h j = zab (zd h (e + 7) c) := by unfold tn; rw [w2, zab_neg]
          exact ⟨by rw [← tj]; exact val j w0 (by omega), fun _ => ⟨j, w0, w1, tj⟩⟩
      have mb : zd h8 e 52 = cwas e h8 := by rw [z8, hm]; unfold cwas; rw [z8, k8 (e + 26) (by omega)]
      have cwb := zct_le (zd h (e + 26)) 1 1 (zd h e 11).toNat
      refine E_gather hE8.1 hG8 (by rw [A8.t]; exact t29) (by rw [A8.l]; exact l29) (Or.inl ⟨o1, o2, by rw [k8 (e + 5) (by omega)]; exact o3⟩) (by rw [z8]; omega) (by rw [z8, hm]; unfold cwas; omega) (fun r h10 pg => ?_)
      obtain ⟨E1, E2, E3, E4, E5, E6, E7, E8, E9⟩ := id pg
      have f10 : ∀ j, j ≠ 52 → j ≠ 54 → zd h10 e j = zd h e j := fun j n1 n2 => by rw [E2 j n1 n2, z8]
      have k10 : ∀ b, b ≠ e → b ≠ e + 25 → b ≠ e + 26 → b ≠ e + 29 → b ≠ e + 30 → zd h10 b = zd h b := fun b n1 n2 n3 n4 n5 => by rw [E1.f (b := b) (by simp only [List.mem_cons, List.not_mem_nil, or_false]; omega), k8 b n2]
      have A10 : yA [e, e + 25, e + 26, e + 29, e + 30] h h10 := (A8.mono (by simp)).tr E1
      have tn10 : ∀ i, tn e h10 i = tn e h i := fun i => by unfold tn; rw [k10 (e + 17) (by omega) (by omega) (by omega) (by omega) (by omega)]
      have e21 : zd h10 e 21 = zd h e 21 := f10 21 (by decide) (by decide)
      have rb : -300 ≤ r ∧ r ≤ 300 := by
        rw [E5]
        have c1 := zct_le (fun n => if zd h10 (e + 25) n = 1 ∧ zd h10 (e + 12) n = zd h e 21 then 1 else 0) 1 1 (zd h10 e 11).toNat
        have c4 := zct_le (fun n => if zd h8 (e + 25) n = 1 ∧ zd h8 (e + 12) n = zd h e 21 then 1 else 0) 1 1 (zd h8 e 11).toNat
        rw [f10 11 (by decide) (by decide)] at c1
        rw [z8] at c4
        unfold cmk
        rw [f10 11 (by decide) (by decide), z8]
        omega
      have nr : here + (r - 1) = cmk e h10 (zd h e 21) := by rw [E5]; omega
      intro x2 e2
      rw [w32_ar, w32_of (by omega) (by omega)] at e2
      have has10 : ∀ n, 1 ≤ n → n ≤ zd h e 11 → zd h10 (e + 25) n = 1 → (n ≠ zab (zd h (e + 17) y) ∧ zd h (e + 25) n = 1) ∨ (∃ c, zd h (e + 1) s ≤ c ∧ c < zd h (e + 1) s + zd h (e + 2) s ∧ zab (zd h (e + 7) c) = n ∧ n ≠ zab (zd h (e + 17) y)) := by
        intro n n0 n1 n2
        rcases ((E4 n n0 (by rw [z8]; exact n1)).1.mp n2) with w | ⟨c', c0, c1, c2', c3', _⟩
        · rw [v25] at w
          by_cases z : n = zab (zd h (e + 17) y)
          · rw [if_pos z] at w; omega
          · rw [if_neg z] at w; exact Or.inl ⟨z, w⟩
        · rw [k8 (e + 1) (by omega)] at c0 c1
          rw [k8 (e + 2) (by omega)] at c1
          rw [k8 (e + 7) (by omega)] at c2'
          exact Or.inr ⟨c', c0, c1, c2', c3'⟩
      have notop : ∀ c, zd h (e + 1) s ≤ c → c < zd h (e + 1) s + zd h (e + 2) s → zab (zd h (e + 7) c) ≠ zab (zd h (e + 17) y) → ∃ j, 0 ≤ j ∧ j < y ∧ tn e h j = zab (zd h (e + 7) c) := fun c b0 b1 b2 => (rowv c b0 b1).2 (fun q => b2 (by rw [q]))
      have LI10 : LI e top h10 x2 (y - 1) := by
        refine ⟨hE.cg (fun k hk => k10 _ (by simp only [List.mem_cons, List.not_mem_nil, or_false] at hk; omega) (by simp only [List.mem_cons, List.not_mem_nil, or_false] at hk; omega) (by simp only [List.mem_cons, List.not_mem_nil, or_false] at hk; omega) (by simp only [List.mem_cons, List.not_mem_nil, or_false] at hk; omega) (by simp only [List.mem_cons, List.not_mem_nil, or_false] at hk; omega)) (fun k hk => f10 k (by simp only [List.mem_cons, List.not_mem_nil, or_false] at hk; omega) (by simp only [List.mem_cons, List.not_mem_nil, or_false] at hk; omega)) (A10.t _) (A10.l _), hX.cg (fun k hk => k10 _ (by simp only [List.mem_cons, List.not_mem_nil, or_false] at hk; omega) (by simp only [List.mem_cons, List.not_mem_nil, or_false] at hk; omega) (by simp only [List.mem_cons, List.not_mem_nil, or_false] at hk; omega) (by simp only [List.mem_cons, List.not_mem_nil, or_false] at hk; omega) (by simp only [List.mem_cons, List.not_mem_nil, or_false] at hk; omega)) e21, E3, fun n n0 n1 n2 => ?_, ⟨?_, ?_⟩, fun i i0 i1 => ?_, ?_, by rw [e21]; exact hn, ?_, ?_, by rw [A10.t]; exact t29, by rw [A10.l]; exact l29, ?_, ?_⟩
        · rw [f10 11 (by decide) (by decide)] at n1
          rw [k10 (e + 11) (by omega) (by omega) (by omega) (by omega) (by omega)]
          rcases has10 n n0 n1 n2 with ⟨_, w⟩ | ⟨c', c0, c1, c2', _⟩
          · exact ha n n0 n1 w
          · rw [← c2']; exact (rowv c' c0 c1).1
        · rw [e2, e21]; exact nr
        · have mono : cmk e h8 (zd h e 21) ≤ cmk e h10 (zd h e 21) := by
            rcases Int.lt_or_le (cmk e h10 (zd h e 21)) (cmk e h8 (zd h e 21)) with w | w
            · exfalso
              -- marks only grow
              have le : ∀ (N : Nat) (f g : Int → Int), (∀ i : Int, 1 ≤ i → i < 1 + N → f i = 1 → g i = 1) → zct f 1 1 N ≤ zct g 1 1 N := by
                intro N f g hfg
                induction N with
                | zero => exact Int.le_refl _
                | succ N ihN =>
                  unfold zct
                  have a := ihN (fun i i0 i1 => hfg i i0 (by omega))
                  by_cases z : f (1 + (N : Int)) = 1
                  · rw [if_pos z, if_pos (hfg _ (by omega) (by omega) z)]; omega
                  · rw [if_neg z]; split <;> omega
              have := le (zd h e 11).toNat (fun n => if zd h8 (e + 25) n = 1 ∧ zd h8 (e + 12) n = zd h e 21 then 1 else 0) (fun n => if zd h10 (e + 25) n = 1 ∧ zd h10 (e + 12) n = zd h e 21 then 1 else 0) (fun i i0 i1 hi => by
                show (if zd h10 (e + 25) i = 1 ∧ zd h10 (e + 12) i = zd h e 21 then (1 : Int) else 0) = 1
                have hi : (if zd h8 (e + 25) i = 1 ∧ zd h8 (e + 12) i = zd h e 21 then (1 : Int) else 0) = 1 := hi
                by_cases z : zd h8 (e + 25) i = 1 ∧ zd h8 (e + 12) i = zd h e 21
                · rw [if_pos ⟨(E4 i i0 (by rw [z8]; omega)).1.mpr (Or.inl z.1), by rw [k10 (e + 12) (by omega) (by omega) (by omega) (by omega) (by omega), ← l8]; exact z.2⟩]
                · rw [if_neg z] at hi; omega)
              unfold cmk at w
              rw [f10 11 (by decide) (by decide), z8] at w
              omega
            · exact w
          omega
        · rw [f10 20 (by decide) (by decide)] at i1
          rw [tn10, k10 (e + 12) (by omega) (by omega) (by omega) (by omega) (by omega), e21]
          rintro ⟨w1, w2⟩
          obtain ⟨u1, u2⟩ := hT.2.1 i (by omega) i1
          have ur := zab_r u1
          rcases has10 (tn e h i) ur.1 ur.2 w1 with ⟨v1, v2⟩ | ⟨c', c0, c1, c2', c3'⟩
          · by_cases z : i = y
            · rw [z] at v1; exact v1 rfl
            · exact hJ i (by omega) i1 ⟨v2, w2⟩
          · obtain ⟨j', p0, p1, p2⟩ := notop c' c0 c1 (by rw [c2']; exact c3')
            rw [c2'] at p2
            exact hT.2.2 j' i p0 (by omega) i1 p2
        · rw [f10 20 (by decide) (by decide)]; omega
        · rw [f10 20 (by decide) (by decide)]
          by_cases z : s < 564
          · rw [(E8 z).1, z8]; omega
          · rw [(E9 (by omega)).1, z8]; omega
        · have := mb; omega
        · intro n n0 n1 n2
          rw [f10 11 (by decide) (by decide)] at n1
          rw [k10 (e + 12) (by omega) (by omega) (by omega) (by omega) (by omega)]
          rcases ((E4 n n0 (by rw [z8]; exact n1)).1.mp n2) with w | ⟨c', c0, c1, c2', c3', c4'⟩
          · rw [v25] at w
            by_cases z : n = zab (zd h (e + 17) y)
            · rw [if_pos z] at w; omega
            · rw [if_neg z] at w; exact kz n n0 n1 w
          · rw [l8] at c4'; exact c4'
        · intro i i0 i1
          by_cases z : s < 564
          · rw [(E8 z).1, z8] at i1
            rw [(E8 z).2, k8 (e + 30) (by omega)]; exact ku i i0 i1
          · have E9' := E9 (by omega)
            rw [E9'.1, z8] at i1
            rw [E9'.2, z8, k8 (e + 30) (by omega)]
            by_cases w : i = zd h e 54
            · rw [if_pos w]; omega
            · rw [if_neg w]; exact ku i i0 (by omega)
      unfold P_E_learn_J111
      intro x3 e3
      rw [e3, st]
      refine ih f h10 x2 (y - 1) Q K (by omega) (by omega) LI10 (fun first h' p1 p2 p3 p4 => k first h' ⟨A10.tr p1.1, fun j n1 n2 => by rw [p1.2 j n1 n2, f10 j n1 n2]⟩ p2 p3 ?_)
      intro m R C G mg u1 u2 n Q' hn' kq
      obtain ⟨n, rfl⟩ : ∃ m, n = m + 1 := ⟨n - 1, by omega⟩
      have tq : zd m 149 (300 * q + y) = zd h (e + 17) y := (R.2.1.2.2.2.1 y y0 y1).symm
      unfold P_M_lastOne_L11 P_M_lastOne_J120
      simp only [w32_al, w32_ar, w32_sl, w32_sr, w32_ml, w32_mr]
      rw [if_pos trivial, w32_of (x := 300 * q + y) (by omega) (by omega), tq, st]
      refine ⟨⟨by omega, by omega⟩, ?_⟩
      intro x4 e4
      rw [e4]
      refine M_nameOf it A3.2 ?_
      have a := G.1 _ ir.1 ir.2
      have rl := R.2.1.2.1 _ ir.1 ir.2 (ha _ ir.1 ir.2 m1)
      rw [w32_of (x := 301 * q + zab (zd h (e + 17) y)) (by omega) (by omega), if_neg (show ¬ zd m 168 (zab (zd h (e + 17) y)) = 0 by omega), if_pos (show zd m 144 (301 * q + zab (zd h (e + 17) y)) = zd m 151 q by rw [← rl.1, c2]; exact R.2.1.2.2.2.2.1), u1, if_neg c3, zbit_0]
      refine ⟨⟨by omega, by omega⟩, ⟨by omega, by omega⟩, ⟨by omega, by omega⟩, ⟨by omega, by omega⟩, ?_⟩
      intro m6 e6
      have u6 : zd m6 101 104 = here := by rw [e6, zd_a (by decide)]; exact u1
      rw [u6, w32_of (x := here - 1) (by omega) (by omega)]
      intro m7 e7
      refine ⟨⟨by omega, by omega⟩, ?_⟩
      have k7 : ∀ b, b ≠ 101 → b ≠ 168 → zd m7 b = zd m b := fun b n1 n2 => by rw [e7, zw_f n1, e6, zw_f n2]
      have f7 : ∀ j, j ≠ 104 → zd m7 101 j = zd m 101 j := fun j n1 => by rw [e7, zd_i n1, e6, zd_a (by decide)]
      have F7 : yA [101, 168, 169, 170] m m7 := by rw [e7, e6]; exact ((yA.rf _ m).w (by simp)).w (by simp)
      have v168 : ∀ j, zd m7 168 j = if j = zab (zd h (e + 17) y) then 0 else zd m 168 j := by
        intro j
        rw [e7, zd_a (by decide), e6, zd_zw]
        by_cases z : j = zab (zd h (e + 17) y)
        · rw [if_pos ⟨rfl, z⟩, if_pos z]
        · rw [if_neg (by exact fun p => z p.2), if_neg z]
      have w145 : zd m7 145 (301 * q + zab (zd h (e + 17) y)) = num s := by
        rw [k7 145 (by decide) (by decide)]
        have := rl.2
        rw [es] at this
        rcases this with ⟨b1, _⟩ | ⟨_, _, b1⟩
        · omega
        · exact b1
      rw [w145]
      have R7' : RMs e q h8 m7 := R.cg (fun k hk => k8 _ (by simp only [List.mem_cons, List.not_mem_nil, or_false] at hk; omega)) (fun k _ => by rw [z8]) (fun k _ => by rw [k8 14 (by omega)]) (fun k hk => k7 k (by simp only [List.mem_cons, List.not_mem_nil, or_false] at hk; omega) (by simp only [List.mem_cons, List.not_mem_nil, or_false] at hk; omega)) (fun k hk => f7 k (by simp only [List.mem_cons, List.not_mem_nil, or_false] at hk; omega))
      have mg7 : MG (zd h8 e 11) m7 := by
        intro n' n0 n1
        rw [z8] at n1
        have := mg n' n0 n1
        rw [v168, k7 169 (by decide) (by decide)]
        split <;> omega
      have G7 : GLr e q h8 m7 := by
        obtain ⟨g1, g2, g3, g4, g5⟩ := G
        refine ⟨fun n' n0 n1 => ?_, ?_, ?_, ?_, ?_⟩
        · rw [z8] at n1
          rw [v25, v168, k8 (e + 26) (by omega), k7 169 (by decide) (by decide)]
          have := g1 n' n0 n1
          split
          · exact ⟨rfl, this.2⟩
          · exact this
        · intro w b w0 w1 b1
          rw [k8 (e + 29) (by omega), f7 106 (by decide), k7 170 (by decide) (by decide), g2 w b w0 w1 b1]
          have cbl : ∀ k, k ∈ ([119, 120, 123, 124, 143, 144, 152, 153, 159] : List Int) → zd m7 k = zd m k := fun k hk => k7 k (by simp only [List.mem_cons, List.not_mem_nil, or_false] at hk; omega) (by simp only [List.mem_cons, List.not_mem_nil, or_false] at hk; omega)
          have s158 : ∀ r, srcM m7 q r w b = srcM m q r w b := fun r => by unfold srcM; rw [k7 158 (by decide) (by decide)]
          constructor
          · rintro ⟨i, i0, i1, i2⟩; exact ⟨i, i0, i1, by rw [s158, lowM_cg cbl (f7 66 (by decide))]; exact i2⟩
          · rintro ⟨i, i0, i1, i2⟩; rw [s158, lowM_cg cbl (f7 66 (by decide))] at i2; exact ⟨i, i0, i1, i2⟩
        · intro k k0
          rw [k8 (e + 30) (by omega), z8, k7 170 (by decide) (by decide), f7 106 (by decide)]; exact g3 k k0
        · rw [f7 106 (by decide), k7 170 (by decide) (by decide), k8 (e + 5) (by omega)]; exact g4
        · rw [f7 106 (by decide), z8]; exact g5
      have live := (R7'.2.2.1.1 s o1 o2 (by rw [k8 (e + 5) (by omega)]; exact o3)).1
      refine M_useRow (A := zd h8 e 11) q0 q1 (by rw [z8]; omega) (by rw [z8]; omega) (R7'.1.2.2.2.2 _ live) mg7 (by rw [f7 106 (by decide)]; omega) (by rw [f7 106 (by decide)]; omega) (by rw [e7, zd_s]; omega) (by rw [e7, zd_s]; omega) (fun m9 pm => ?_)
      obtain ⟨S1, S2, S3⟩ := S_gather he q0 q1 hE8 R7' o1 o2 (by rw [k8 (e + 5) (by omega)]; exact o3) (fun c' c0 c1 => by
        rw [k8 (e + 1) (by omega)] at c0 c1
        rw [k8 (e + 2) (by omega)] at c1
        rw [k8 (e + 7) (by omega), k8 (e + 11) (by omega)]
        exact (rowv c' c0 c1).1) (Or.inr (by rw [l8, c2]; omega)) ha8 hG8 mg7 G7 (by rw [f7 106 (by decide)]; omega) (by rw [z8]; exact pg) pm
      have MF9 : MuF m m9 := ⟨F7.tr pm.1, fun j n1 n2 => by rw [pm.2.1 j n1 n2, f7 j n1]⟩
      have C9 : R7 e q h10 m9 := C.mu ⟨A10, f10⟩ MF9
      intro x6 e6'
      rw [e6']
      have u104 : zd m9 101 104 = x2 := by rw [S3, e7, zd_s, e2]; omega
      have u106 : zd m9 101 106 = zd m 101 106 + 1 := by rw [pm.2.2.2.2.2.1, f7 106 (by decide)]
      refine p4 m9 S1 C9 S2 (by rw [f10 11 (by decide) (by decide)]; rw [z8] at pm; exact pm.2.2.1) u104 (by rw [f10 20 (by decide) (by decide)]; omega) n Q' (by omega) (fun m' a b c' d' e' f' => kq m' a b c' (by rw [f10 11 (by decide) (by decide)] at d'; exact d') e' ⟨MF9.1.tr f'.1, fun j n1 n2 => by rw [f'.2 j n1 n2, MF9.2 j n1 n2]⟩)
