/-! back -/
theorem L_pop {e y1 y2 x top : Int} {g : zH} {Q : Int → zH → Prop} {k : zH → Prop} (hs : ES e g top) (hc : EC e g) (hx : eit (zd g e 11) x) (h1 : est e g x = 1)
    (hk : ∀ h', yA [e + 3, e + 4, e + 6, e + 11, e + 14] g h' → ES e h' top → EC e h' → (∀ j, zd h' (e + 11) j = if j = zab x then 0 else zd g (e + 11) j) → (∀ j, zd h' (e + 14) j = if j = zab x then (if x ≤ 0 then 0 else 1) else zd g (e + 14) j) → k h') : P_E_back_J73 e y1 y2 x (zab x) (if x ≤ 0 then 0 else 1) (zab x) g Q k := by
  have A3 := hs.1
  have C3 := hs.2.1
  have tp := hs.2.2.1
  obtain ⟨hcc, hh, hv⟩ := hc
  have xr := zab_r hx
  have hx' := eit_neg hx
  have vx : zd g (e + 11) (zab x) = zsg x := by
    rw [est_ab e g hx] at h1
    unfold zsg
    split at h1
    · rw [if_pos (by assumption)]; exact h1
    · rw [if_neg (by assumption)]; omega
  unfold P_E_back_J73
  refine ⟨⟨by omega, by omega⟩, ?_⟩
  intro h5 e5
  refine ⟨⟨by omega, by omega⟩, ?_⟩
  intro h6 e6
  have d11 : ∀ j, zd h6 (e + 11) j = if j = zab x then 0 else zd g (e + 11) j := by
    intro j
    rw [e6, zd_zw, e5, zd_a (by omega)]
    by_cases c : j = zab x
    · rw [if_pos ⟨rfl, c⟩, if_pos c]
    · rw [if_neg (by exact fun q => c q.2), if_neg c]
  have d14 : ∀ j, zd h6 (e + 14) j = if j = zab x then (if x ≤ 0 then 0 else 1) else zd g (e + 14) j := by
    intro j
    rw [e6, zd_a (by omega), e5, zd_zw]
    by_cases c : j = zab x
    · rw [if_pos ⟨rfl, c⟩, if_pos c]
    · rw [if_neg (by exact fun q => c q.2), if_neg c]
  have dA : yA [e + 11, e + 14] g h6 := by
    rw [e6, e5]; exact ((yA.rf _ g).w (by simp)).w (by simp)
  clear e6 e5
  have b0 : zd h6 e = zd g e := dA.f (by simp only [List.mem_cons, List.not_mem_nil, or_false]; omega)
  have b1 : zd h6 (e + 1) = zd g (e + 1) := dA.f (by simp only [List.mem_cons, List.not_mem_nil, or_false]; omega)
  have b2 : zd h6 (e + 2) = zd g (e + 2) := dA.f (by simp only [List.mem_cons, List.not_mem_nil, or_false]; omega)
  have b3 : zd h6 (e + 3) = zd g (e + 3) := dA.f (by simp only [List.mem_cons, List.not_mem_nil, or_false]; omega)
  have b4 : zd h6 (e + 4) = zd g (e + 4) := dA.f (by simp only [List.mem_cons, List.not_mem_nil, or_false]; omega)
  have b5 : zd h6 (e + 5) = zd g (e + 5) := dA.f (by simp only [List.mem_cons, List.not_mem_nil, or_false]; omega)
  have b6 : zd h6 (e + 6) = zd g (e + 6) := dA.f (by simp only [List.mem_cons, List.not_mem_nil, or_false]; omega)
  have b7 : zd h6 (e + 7) = zd g (e + 7) := dA.f (by simp only [List.mem_cons, List.not_mem_nil, or_false]; omega)
  have b8 : zd h6 (e + 8) = zd g (e + 8) := dA.f (by simp only [List.mem_cons, List.not_mem_nil, or_false]; omega)
  have b9 : zd h6 (e + 9) = zd g (e + 9) := dA.f (by simp only [List.mem_cons, List.not_mem_nil, or_false]; omega)
  have b10 : zd h6 (e + 10) = zd g (e + 10) := dA.f (by simp only [List.mem_cons, List.not_mem_nil, or_false]; omega)
  have hs6 : ES e h6 top := hs.cg (by rw [b0]) (by rw [b0]) b1 b2 b5 b7 b8 b9 b10
  have hh6 : EH e h6 := hh.cg b2 b3 b4 b5 b6
  have hB : (zd g e 10).toNat ≤ 12080 := by omega
  have lay : ∀ c : Nat, c < (zd g e 10).toNat → elaid e g (zd g (e + 8) c) := fun c hc => Or.inr ⟨c, by omega, by omega, rfl⟩
  have hGr : ∀ c : Nat, c < (zd g e 10).toNat → 0 ≤ zd g (e + 8) c ∧ zd g (e + 8) c < 1364 := fun c hc => by have := (hs.2.2.2.2.2.1 _ (lay c hc)).1; omega
  have hNx : ∀ (y : Int) (c : Nat), c < (zd g e 10).toNat → zd g (e + 7) c = y → zd g (e + 9) c = zpv (zd g (e + 7)) y c := fun y c hc hy => by
    have := (hs.2.2.2.2.1 c (by omega) (by omega)).2
    rw [hy] at this
    rw [this]; rfl
  have cb : ∀ s, elaid e g s → (0 ≤ zd g (e + 4) s ∧ zd g (e + 4) s ≤ 12080) ∧ (0 ≤ zd g (e + 3) s ∧ zd g (e + 3) s ≤ 12080) := by
    intro s ls
    obtain ⟨-, ⟨q1, q2, q3⟩, -⟩ := hs.2.2.2.2.2.1 s ls
    obtain ⟨t1, t2⟩ := hcc s ls
    rw [t1, t2]; unfold ecnt
    have u1 := zct_le (fun c => est e g (zd g (e + 7) c)) 1 (zd g (e + 1) s) (zd g (e + 2) s).toNat
    have u2 := zct_le (fun c => est e g (zd g (e + 7) c)) (-1) (zd g (e + 1) s) (zd g (e + 2) s).toNat
    omega
  unfold P_E_index
  rw [eidx_of hx A3.2]
  refine ⟨eidx_r hx A3.2, ?_⟩
  intro x4 ex4
  rw [b10, hs.2.2.2.1 x hx] at ex4
  rw [ex4]
  refine ⟨(zd g e 10).toNat + 1, L_bak1 hB (hNx x) hGr _ _ (Nat.le_refl _) (by omega) h6 b7 b8 b9 hh6 (fun c hc => ?_) (fun h14 p1 p2 p3 => ?_)⟩
  · rw [b4]; have := cb _ (lay c hc); omega
  rw [show w32 (-x) = -x from by unfold eit at hx; exact w32_of (by omega) (by omega), eidx_of hx' A3.2]
  refine ⟨eidx_r hx' A3.2, ?_⟩
  intro x5 ex5
  rw [p1.f (b := e + 10) (by simp only [List.mem_cons, List.not_mem_nil, or_false]; omega), b10, hs.2.2.2.1 (-x) hx'] at ex5
  rw [ex5]
  refine ⟨(zd g e 10).toNat + 1, L_bak2 hB (hNx (-x)) hGr _ _ (Nat.le_refl _) (by omega) h14 ((p1.f (by simp only [List.mem_cons, List.not_mem_nil, or_false]; omega)).trans b7) ((p1.f (by simp only [List.mem_cons, List.not_mem_nil, or_false]; omega)).trans b8) ((p1.f (by simp only [List.mem_cons, List.not_mem_nil, or_false]; omega)).trans b9) p3 (fun c hc => ?_) (fun h22 r1 r2 r3 => ?_)⟩
  · rw [p1.f (b := e + 3) (by simp only [List.mem_cons, List.not_mem_nil, or_false]; omega), b3]; have := cb _ (lay c hc); omega
  have q : ∀ b, b ≠ e + 3 → b ≠ e + 4 → b ≠ e + 6 → zd h22 b = zd h6 b := by
    intro b n3 n4 n6
    rw [r1.f (by simp only [List.mem_cons, List.not_mem_nil, or_false]; omega), p1.f (by simp only [List.mem_cons, List.not_mem_nil, or_false]; omega)]
  have v22 : zd h22 (e + 11) = zd h6 (e + 11) := q _ (by omega) (by omega) (by omega)
  have a22 : zd h22 e = zd g e := (q _ (by omega) (by omega) (by omega)).trans b0
  refine hk h22 (((dA.mono (by simp)).tr (p1.mono (by simp))).tr (r1.mono (by simp))) (hs6.cg (by rw [q e (by omega) (by omega) (by omega)]) (by rw [q e (by omega) (by omega) (by omega)]) (q _ (by omega) (by omega) (by omega)) (q _ (by omega) (by omega) (by omega)) (q _ (by omega) (by omega) (by omega)) (q _ (by omega) (by omega) (by omega)) (q _ (by omega) (by omega) (by omega)) (q _ (by omega) (by omega) (by omega)) (q _ (by omega) (by omega) (by omega))) ⟨fun s ls => ?_, r3, fun n n1 n2 => ?_⟩ (fun j => by rw [v22]; exact d11 j) (fun j => by rw [q _ (by omega) (by omega) (by omega)]; exact d14 j)
  · have ls0 : elaid e g s := (elaid.cg (by rw [a22]) ((q _ (by omega) (by omega) (by omega)).trans b5) ((q _ (by omega) (by omega) (by omega)).trans b8)).mp ls
    obtain ⟨q0, ⟨q1, q2, q3⟩, q4⟩ := hs.2.2.2.2.2.1 s ls0
    obtain ⟨t1, t2⟩ := hcc s ls0
    have rw2 : ∀ y, zc2 (zd g (e + 7)) (zd g (e + 8)) y s (zd g e 10).toNat = zct (zd g (e + 7)) y (zd g (e + 1) s) (zd g (e + 2) s).toNat := by
      intro y
      refine zc2_row q1 _ _ (by omega) (fun c hc => ?_)
      rw [q4 c (by omega) (by omega)]; omega
    have eo : est e h22 x = 0 := by
      rw [est_ab e h22 hx, v22, d11, if_pos rfl]; split <;> rfl
    have es : ∀ c, zd g (e + 1) s ≤ c → c < zd g (e + 1) s + (zd g (e + 2) s).toNat → _ := fun c c1 c2 => est_set (h := h22) (h' := g) hx (hs.2.2.2.2.1 c (by omega) (by omega)).1 eo (fun j => by
      rw [v22, d11]
      by_cases d : j = zab x
      · rw [if_pos d, d, vx]
      · rw [if_neg d, if_neg d])
    have z1 := zct_add (fun c c1 c2 => ⟨(es c c1 c2).1, (es c c1 c2).2.1⟩)
    have z2 := zct_add (fun c c1 c2 => ⟨(es c c1 c2).2.2.1, (es c c1 c2).2.2.2⟩)
    unfold ecnt at t1 t2 ⊢
    rw [q (e + 7) (by omega) (by omega) (by omega), q (e + 1) (by omega) (by omega) (by omega), q (e + 2) (by omega) (by omega) (by omega), b7, b1, b2]
    rw [r1.f (b := e + 4) (by simp only [List.mem_cons, List.not_mem_nil, or_false]; omega), p2 s, b4, r2 s, p1.f (b := e + 3) (by simp only [List.mem_cons, List.not_mem_nil, or_false]; omega), b3, rw2, rw2, t1, t2]
    exact ⟨by omega, by omega⟩
  · rw [v22, d11]
    split
    · exact Or.inl rfl
    · exact hv n n1 (by rw [a22] at n2; exact n2)
/-- the trail: items that are true, by their order -/
def ET (e : Int) (h : zH) : Prop := (0 ≤ zd h e 20 ∧ zd h e 20 ≤ 300) ∧ (∀ i, 0 ≤ i → i < zd h e 20 → eit (zd h e 11) (zd h (e + 17) i) ∧ est e h (zd h (e + 17) i) = 1) ∧ (∀ i j, 0 ≤ i → i < j → j < zd h e 20 → zab (zd h (e + 17) i) ≠ zab (zd h (e + 17) j))
/-- what goes back to a length E of the trail leaves -/
def EbackP (e E to : Int) (h h' : zH) : Prop := yA [e, e + 3, e + 4, e + 6, e + 11, e + 14] h h' ∧ (∀ j, zd h' e j = if j = 20 then E else if j = 21 then to else zd h e j) ∧
  (∀ i, E ≤ i → i < zd h e 20 → zd h' (e + 11) (zab (zd h (e + 17) i)) = 0 ∧ zd h' (e + 14) (zab (zd h (e + 17) i)) = if zd h (e + 17) i ≤ 0 then 0 else 1) ∧
  (∀ n, (∀ i, E ≤ i → i < zd h e 20 → zab (zd h (e + 17) i) ≠ n) → zd h' (e + 11) n = zd h (e + 11) n ∧ zd h' (e + 14) n = zd h (e + 14) n)
theorem L_back {e to top E : Int} {h : zH} {Q : Int → zH → Prop} (hs : ES e h top) (hc : EC e h) (hT : ET e h) (hto : -1 ≤ to) (hto2 : to < 321) (hn : zd h e 21 ≤ 321) (hE : E = if zd h e 21 ≤ to then zd h e 20 else zd h (e + 18) (to + 1)) (hE0 : 0 ≤ E) (hE1 : E ≤ zd h e 20)
    (hq : ∀ h', EbackP e E (zmin (zd h e 21) to) h h' → ES e h' top → EC e h' → ET e h' → Q 0 h') : P_E_back e to h Q := by
  have key : ∀ (m f : Nat) (g : zH), zd g e 20 = E + m → m < f → ES e g top → EC e g → ET e g → (∀ j, j ≠ 20 → zd g e j = zd h e j) → (∀ h', EbackP e E (zmin (zd h e 21) to) g h' → ES e h' top → EC e h' → ET e h' → Q 0 h') → P_E_back_L24 e to E Q f g := by
    intro m
    induction m with
    | zero =>
      intro f g gm hf gs gc gT g0 k
      obtain ⟨f, rfl⟩ : ∃ m, f = m + 1 := ⟨f - 1, by omega⟩
      unfold P_E_back_L24
      rw [if_pos (by omega)]
      intro h1 e1
      rw [g0 21 (by decide)] at e1
      have dA : yA [e] g h1 := by rw [e1]; exact (yA.rf _ g).w (by simp)
      have k0 : ∀ b, b ≠ e → zd h1 b = zd g b := fun b nb => dA.f (by simp only [List.mem_cons, List.not_mem_nil, or_false]; exact nb)
      have f0 : ∀ j, j ≠ 21 → zd h1 e j = zd g e j := fun j nj => by rw [e1, zd_i nj]
      refine k h1 ⟨dA.mono (by simp), fun j => ?_, fun i i0 i1 => by omega, fun n _ => ?_⟩ (gs.cg (f0 10 (by decide)) (f0 11 (by decide)) (k0 _ (by omega)) (k0 _ (by omega)) (k0 _ (by omega)) (k0 _ (by omega)) (k0 _ (by omega)) (k0 _ (by omega)) (k0 _ (by omega))) ?_ ?_
      · by_cases c : j = 21
        · rw [if_neg (by omega), if_pos c, c, e1, zd_s]
        · rw [f0 j c, if_neg c]
          by_cases d : j = 20
          · rw [if_pos d, d]; omega
          · rw [if_neg d]
      · rw [k0 _ (by omega), k0 _ (by omega)]; exact ⟨rfl, rfl⟩
      · refine ⟨fun s ls => ?_, gc.2.1.cg (k0 _ (by omega)) (k0 _ (by omega)) (k0 _ (by omega)) (k0 _ (by omega)) (k0 _ (by omega)), ?_⟩
        · have := gc.1 s ((elaid.cg (f0 10 (by decide)) (k0 _ (by omega)) (k0 _ (by omega))).mp ls)
          unfold ecnt est at this ⊢
          rw [k0 (e + 4) (by omega), k0 (e + 3) (by omega), k0 (e + 11) (by omega), k0 (e + 7) (by omega), k0 (e + 1) (by omega), k0 (e + 2) (by omega)]
          exact this
        · rw [f0 11 (by decide), k0 (e + 11) (by omega)]; exact gc.2.2
      · unfold ET est at gT ⊢
        rw [f0 20 (by decide), f0 11 (by decide), k0 (e + 17) (by omega), k0 (e + 11) (by omega)]; exact gT
    | succ m ih =>
      intro f g gm hf gs gc gT g0 k
      obtain ⟨f, rfl⟩ : ∃ m, f = m + 1 := ⟨f - 1, by omega⟩
      obtain ⟨T1, T2, T3⟩ := gT
      unfold P_E_back_L24
      rw [if_neg (by omega)]
      intro h2 e2
      rw [w32_of (by omega) (by omega)] at e2
      have dA : yA [e] g h2 := by rw [e2]; exact (yA.rf _ g).w (by simp)
      have k0 : ∀ b, b ≠ e → zd h2 b = zd g b := fun b nb => dA.f (by simp only [List.mem_cons, List.not_mem_nil, or_false]; exact nb)
      have f0 : ∀ j, j ≠ 20 → zd h2 e j = zd g e j := fun j nj => by rw [e2, zd_i nj]
      have f20 : zd h2 e 20 = zd g e 20 - 1 := by rw [e2, zd_s]
      rw [f20]
      refine ⟨⟨by omega, by omega⟩, ?_⟩
      intro x3 ex3 x4 ex4
      rw [k0 (e + 17) (by omega)] at ex3
      obtain ⟨it, tr⟩ := T2 (zd g e 20 - 1) (by omega) (by omega)
      rw [← ex3] at it tr
      rw [zabs_of it gs.1.2] at ex4
      rw [ex4]
      have s2 : ES e h2 top := gs.cg (f0 10 (by decide)) (f0 11 (by decide)) (k0 _ (by omega)) (k0 _ (by omega)) (k0 _ (by omega)) (k0 _ (by omega)) (k0 _ (by omega)) (k0 _ (by omega)) (k0 _ (by omega))
      have c2 : EC e h2 := by
        refine ⟨fun s ls => ?_, gc.2.1.cg (k0 _ (by omega)) (k0 _ (by omega)) (k0 _ (by omega)) (k0 _ (by omega)) (k0 _ (by omega)), ?_⟩
        · have := gc.1 s ((elaid.cg (f0 10 (by decide)) (k0 _ (by omega)) (k0 _ (by omega))).mp ls)
          unfold ecnt est at this ⊢
          rw [k0 (e + 4) (by omega), k0 (e + 3) (by omega), k0 (e + 11) (by omega), k0 (e + 7) (by omega), k0 (e + 1) (by omega), k0 (e + 2) (by omega)]
          exact this
        · rw [f0 11 (by decide), k0 (e + 11) (by omega)]; exact gc.2.2
      refine L_pop s2 c2 (by rw [f0 11 (by decide)]; exact it) (by unfold est at tr ⊢; rw [k0 (e + 11) (by omega)]; exact tr) (fun h22 p1 p2 p3 p4 p5 => ?_)
      have q0 : zd h22 e = zd h2 e := p1.f (by simp only [List.mem_cons, List.not_mem_nil, or_false]; omega)
      have q17 : zd h22 (e + 17) = zd g (e + 17) := (p1.f (by simp only [List.mem_cons, List.not_mem_nil, or_false]; omega)).trans (k0 _ (by omega))
      have ot : ∀ i, 0 ≤ i → i < zd g e 20 - 1 → zab (zd g (e + 17) i) ≠ zab x3 := fun i i0 i1 => by rw [ex3]; exact T3 i _ i0 i1 (by omega)
      refine ih f h22 (by rw [q0, f20]; omega) (by omega) p2 p3 ⟨by rw [q0, f20]; omega, fun i i0 i1 => ?_, fun i j i0 i1 i2 => ?_⟩ (fun j nj => by rw [q0, f0 j nj, g0 j nj]) (fun h' r1 r2 r3 r4 => k h' ?_ r2 r3 r4)
      · rw [q0, f20] at i1
        obtain ⟨u1, u2⟩ := T2 i i0 (by omega)
        rw [q0, f0 11 (by decide), q17]
        refine ⟨u1, ?_⟩
        rw [est_ab e h22 u1, p4, if_neg (ot i i0 i1), k0 (e + 11) (by omega), ← est_ab e g u1]; exact u2
      · rw [q0, f20] at i2
        rw [q17]; exact T3 i j i0 i1 (by omega)
      · obtain ⟨v1, v2, v3, v4⟩ := r1
        rw [q0, f20] at v3 v4
        rw [q17] at v3 v4
        refine ⟨((dA.mono (by simp)).tr (p1.mono (by simp))).tr v1, fun j => ?_, fun i i0 i1 => ?_, fun n hn' => ?_⟩
        · rw [v2 j]
          by_cases c : j = 20
          · rw [if_pos c, if_pos c]
          · rw [if_neg c, if_neg c, q0, f0 j c]
        · by_cases c : i = zd g e 20 - 1
          · have w := v4 (zab x3) (fun i' j0 j1 => ot i' (by omega) j1)
            rw [c, ← ex3, w.1, w.2, p4, p5, if_pos rfl, if_pos rfl]; exact ⟨rfl, rfl⟩
          · exact v3 i i0 (by omega)
        · have w := v4 n (fun i i0 i1 => hn' i i0 (by omega))
          have nx : n ≠ zab x3 := fun q => hn' (zd g e 20 - 1) (by omega) (by omega) (by rw [← ex3]; exact q.symm)
          rw [w.1, w.2, p4, p5, if_neg nx, if_neg nx, k0 _ (by omega), k0 _ (by omega)]; exact ⟨rfl, rfl⟩
  unfold P_E_back P_E_back_J23
  rw [w32_of (x := to + 1) (by omega) (by omega), ← hE]
  refine ⟨zif_i (fun _ => trivial) (fun _ => ⟨⟨by omega, by omega⟩, trivial⟩), (zd h e 20 - E).toNat + 1, key (zd h e 20 - E).toNat _ h (by omega) (by omega) hs hc hT (fun _ _ => rfl) hq⟩
