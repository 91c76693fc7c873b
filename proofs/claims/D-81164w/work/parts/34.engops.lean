/-! set, back -/
def EsetP (e x why : Int) (h h' : zH) : Prop := yA [e, e + 3, e + 4, e + 6, e + 11, e + 12, e + 13, e + 16, e + 17] h h' ∧ (∀ j, zd h' (e + 11) j = if j = zab x then zsg x else zd h (e + 11) j) ∧ (∀ j, zd h' (e + 12) j = if j = zab x then zd h e 21 else zd h (e + 12) j) ∧ (∀ j, zd h' (e + 13) j = if j = zab x then why else zd h (e + 13) j) ∧ (∀ j, zd h' (e + 17) j = if j = zd h e 20 then x else zd h (e + 17) j) ∧ (∀ j, zd h' e j = if j = 20 then zd h e 20 + 1 else zd h e j) ∧
  (zd h e 21 ≠ 0 → zd h' (e + 16) = zd h (e + 16)) ∧ (zd h e 21 = 0 → (∀ j, j < zab x * 8 ∨ zab x * 8 + 8 ≤ j → zd h' (e + 16) j = zd h (e + 16) j) ∧ ∀ w k, 0 ≤ w → w < 8 → k < 64 → (hb (zd h' (e + 16) (zab x * 8 + w)) k = true ↔ rootOf e (zab x) why h w k))
/-- counts of rows, when the items of one name change -/
theorem L_set {e x why top : Int} {h : zH} {Q : Int → zH → Prop} (hs : ES e h top) (hc : EC e h) (hx : eit (zd h e 11) x) (ho : est e h x = 0) (ht0 : 0 ≤ zd h e 20) (ht1 : zd h e 20 < 300)
    (hr : zd h e 21 = 0 → elaid e h why ∧ zt h (e + 16) = 53 ∧ zl h (e + 16) = 2408)
    (hq : ∀ h', EsetP e x why h h' → ES e h' top → EC e h' → Q 0 h') : P_E_set e x why h Q := by
  have A3 := hs.1
  have C3 := hs.2.1
  have tp := hs.2.2.1
  obtain ⟨hcc, hh, hv⟩ := hc
  have xr := zab_r hx
  have hx' := eit_neg hx
  unfold P_E_set P_E_set_J19
  rw [zabs_of hx A3.2, zsg_of]
  intro x3 ex3
  rw [ex3]
  refine ⟨⟨by omega, by omega⟩, ?_⟩
  intro h2 e2
  refine ⟨⟨by omega, by omega⟩, ?_⟩
  intro h3 e3
  refine ⟨⟨by omega, by omega⟩, ?_⟩
  intro h4 e4 h5 e5
  have f21 : zd h2 e 21 = zd h e 21 := by rw [e2]; exact zd_a (by omega)
  have f20 : zd h4 e 20 = zd h e 20 := by rw [e4, e3, e2, zd_a (by omega), zd_a (by omega), zd_a (by omega)]
  rw [f20] at e5 ⊢
  rw [w32_of (by omega) (by omega)] at e5
  rw [f21] at e3
  refine ⟨⟨ht0, ht1⟩, ?_⟩
  intro h6 e6
  have d11 : ∀ j, zd h6 (e + 11) j = if j = zab x then zsg x else zd h (e + 11) j := by
    intro j
    rw [e6, zd_a (by omega), e5, zd_a (by omega), e4, zd_a (by omega), e3, zd_a (by omega), e2, zd_zw]
    by_cases c : j = zab x
    · rw [if_pos ⟨rfl, c⟩, if_pos c]
    · rw [if_neg (by exact fun q => c q.2), if_neg c]
  have d12 : ∀ j, zd h6 (e + 12) j = if j = zab x then zd h e 21 else zd h (e + 12) j := by
    intro j
    rw [e6, zd_a (by omega), e5, zd_a (by omega), e4, zd_a (by omega), e3, zd_zw, e2, zd_a (by omega)]
    by_cases c : j = zab x
    · rw [if_pos ⟨rfl, c⟩, if_pos c]
    · rw [if_neg (by exact fun q => c q.2), if_neg c]
  have d13 : ∀ j, zd h6 (e + 13) j = if j = zab x then why else zd h (e + 13) j := by
    intro j
    rw [e6, zd_a (by omega), e5, zd_a (by omega), e4, zd_zw, e3, zd_a (by omega), e2, zd_a (by omega)]
    by_cases c : j = zab x
    · rw [if_pos ⟨rfl, c⟩, if_pos c]
    · rw [if_neg (by exact fun q => c q.2), if_neg c]
  have d17 : ∀ j, zd h6 (e + 17) j = if j = zd h e 20 then x else zd h (e + 17) j := by
    intro j
    rw [e6, zd_zw, e5, zd_a (by omega), e4, zd_a (by omega), e3, zd_a (by omega), e2, zd_a (by omega)]
    by_cases c : j = zd h e 20
    · rw [if_pos ⟨rfl, c⟩, if_pos c]
    · rw [if_neg (by exact fun q => c q.2), if_neg c]
  have d0 : ∀ j, zd h6 e j = if j = 20 then zd h e 20 + 1 else zd h e j := by
    intro j
    rw [e6, zd_a (by omega), e5, zd_zw, e4, zd_a (by omega), e3, zd_a (by omega), e2, zd_a (by omega)]
    by_cases c : j = 20
    · rw [if_pos ⟨rfl, c⟩, if_pos c]
    · rw [if_neg (by exact fun q => c q.2), if_neg c]
  have dA : yA [e, e + 11, e + 12, e + 13, e + 17] h h6 := by
    rw [e6, e5, e4, e3, e2]
    exact (((((yA.rf _ h).w (by simp)).w (by simp)).w (by simp)).w (by simp)).w (by simp)
  have a10 : zd h6 e 10 = zd h e 10 := by rw [d0, if_neg (by decide)]
  have a11 : zd h6 e 11 = zd h e 11 := by rw [d0, if_neg (by decide)]
  clear e6 e5 e4 e3 e2 f20 f21
  have b1 : zd h6 (e + 1) = zd h (e + 1) := dA.f (by simp only [List.mem_cons, List.not_mem_nil, or_false]; omega)
  have b2 : zd h6 (e + 2) = zd h (e + 2) := dA.f (by simp only [List.mem_cons, List.not_mem_nil, or_false]; omega)
  have b3 : zd h6 (e + 3) = zd h (e + 3) := dA.f (by simp only [List.mem_cons, List.not_mem_nil, or_false]; omega)
  have b4 : zd h6 (e + 4) = zd h (e + 4) := dA.f (by simp only [List.mem_cons, List.not_mem_nil, or_false]; omega)
  have b5 : zd h6 (e + 5) = zd h (e + 5) := dA.f (by simp only [List.mem_cons, List.not_mem_nil, or_false]; omega)
  have b6 : zd h6 (e + 6) = zd h (e + 6) := dA.f (by simp only [List.mem_cons, List.not_mem_nil, or_false]; omega)
  have b7 : zd h6 (e + 7) = zd h (e + 7) := dA.f (by simp only [List.mem_cons, List.not_mem_nil, or_false]; omega)
  have b8 : zd h6 (e + 8) = zd h (e + 8) := dA.f (by simp only [List.mem_cons, List.not_mem_nil, or_false]; omega)
  have b9 : zd h6 (e + 9) = zd h (e + 9) := dA.f (by simp only [List.mem_cons, List.not_mem_nil, or_false]; omega)
  have b10 : zd h6 (e + 10) = zd h (e + 10) := dA.f (by simp only [List.mem_cons, List.not_mem_nil, or_false]; omega)
  have b16 : zd h6 (e + 16) = zd h (e + 16) := dA.f (by simp only [List.mem_cons, List.not_mem_nil, or_false]; omega)
  have hs6 : ES e h6 top := hs.cg a10 a11 b1 b2 b5 b7 b8 b9 b10
  have hh6 : EH e h6 := hh.cg b2 b3 b4 b5 b6
  have hB : (zd h e 10).toNat ≤ 12080 := by omega
  have lay : ∀ c : Nat, c < (zd h e 10).toNat → elaid e h (zd h (e + 8) c) := fun c hc => Or.inr ⟨c, by omega, by omega, rfl⟩
  have hGr : ∀ c : Nat, c < (zd h e 10).toNat → 0 ≤ zd h (e + 8) c ∧ zd h (e + 8) c < 1364 := fun c hc => by have := (hs.2.2.2.2.2.1 _ (lay c hc)).1; omega
  have hNx : ∀ (y : Int) (c : Nat), c < (zd h e 10).toNat → zd h (e + 7) c = y → zd h (e + 9) c = zpv (zd h (e + 7)) y c := fun y c hc hy => by
    have := (hs.2.2.2.2.1 c (by omega) (by omega)).2
    rw [hy] at this
    rw [this]; rfl
  have cb : ∀ s, elaid e h s → (0 ≤ zd h (e + 4) s ∧ zd h (e + 4) s ≤ 12080) ∧ (0 ≤ zd h (e + 3) s ∧ zd h (e + 3) s ≤ 12080) := by
    intro s ls
    obtain ⟨-, ⟨q1, q2, q3⟩, -⟩ := hs.2.2.2.2.2.1 s ls
    obtain ⟨t1, t2⟩ := hcc s ls
    rw [t1, t2]; unfold ecnt
    have u1 := zct_le (fun c => est e h (zd h (e + 7) c)) 1 (zd h (e + 1) s) (zd h (e + 2) s).toNat
    have u2 := zct_le (fun c => est e h (zd h (e + 7) c)) (-1) (zd h (e + 1) s) (zd h (e + 2) s).toNat
    omega
  unfold P_E_index
  rw [eidx_of hx A3.2]
  refine ⟨eidx_r hx A3.2, ?_⟩
  intro x4 ex4
  rw [b10, hs.2.2.2.1 x hx] at ex4
  rw [ex4]
  refine ⟨(zd h e 10).toNat + 1, L_set1 hB (hNx x) hGr _ _ (Nat.le_refl _) (by omega) h6 b7 b8 b9 hh6 (fun c hc => ?_) (fun h14 p1 p2 p3 => ?_)⟩
  · rw [b4]; have := cb _ (lay c hc); omega
  rw [show w32 (-x) = -x from by unfold eit at hx; exact w32_of (by omega) (by omega), eidx_of hx' A3.2]
  refine ⟨eidx_r hx' A3.2, ?_⟩
  intro x5 ex5
  rw [p1.f (b := e + 10) (by simp only [List.mem_cons, List.not_mem_nil, or_false]; omega), b10, hs.2.2.2.1 (-x) hx'] at ex5
  rw [ex5]
  refine ⟨(zd h e 10).toNat + 1, L_set2 hB (hNx (-x)) hGr _ _ (Nat.le_refl _) (by omega) h14 ((p1.f (by simp only [List.mem_cons, List.not_mem_nil, or_false]; omega)).trans b7) ((p1.f (by simp only [List.mem_cons, List.not_mem_nil, or_false]; omega)).trans b8) ((p1.f (by simp only [List.mem_cons, List.not_mem_nil, or_false]; omega)).trans b9) p3 (fun c hc => ?_) (fun h22 r1 r2 r3 => ?_)⟩
  · rw [p1.f (b := e + 3) (by simp only [List.mem_cons, List.not_mem_nil, or_false]; omega), b3]; have := cb _ (lay c hc); omega
  have g : ∀ b, b ≠ e + 3 → b ≠ e + 4 → b ≠ e + 6 → zd h22 b = zd h6 b := by
    intro b n3 n4 n6
    rw [r1.f (by simp only [List.mem_cons, List.not_mem_nil, or_false]; omega), p1.f (by simp only [List.mem_cons, List.not_mem_nil, or_false]; omega)]
  have hs22 : ES e h22 top := hs6.cg (by rw [g e (by omega) (by omega) (by omega)]) (by rw [g e (by omega) (by omega) (by omega)]) (g _ (by omega) (by omega) (by omega)) (g _ (by omega) (by omega) (by omega)) (g _ (by omega) (by omega) (by omega)) (g _ (by omega) (by omega) (by omega)) (g _ (by omega) (by omega) (by omega)) (g _ (by omega) (by omega) (by omega)) (g _ (by omega) (by omega) (by omega))
  have v22 : zd h22 (e + 11) = zd h6 (e + 11) := g _ (by omega) (by omega) (by omega)
  have t22 : ∀ s, zd h22 (e + 4) s = zd h (e + 4) s + zc2 (zd h (e + 7)) (zd h (e + 8)) x s (zd h e 10).toNat := by
    intro s; rw [r1.f (b := e + 4) (by simp only [List.mem_cons, List.not_mem_nil, or_false]; omega), p2 s, b4]
  have u22 : ∀ s, zd h22 (e + 3) s = zd h (e + 3) s + zc2 (zd h (e + 7)) (zd h (e + 8)) (-x) s (zd h e 10).toNat := by
    intro s; rw [r2 s, p1.f (b := e + 3) (by simp only [List.mem_cons, List.not_mem_nil, or_false]; omega), b3]
  have hc22 : EC e h22 := by
    refine ⟨fun s ls => ?_, r3, fun n n1 n2 => ?_⟩
    · have ls0 : elaid e h s := (elaid.cg ((congrFun (g e (by omega) (by omega) (by omega)) 10).trans a10) ((g _ (by omega) (by omega) (by omega)).trans b5) ((g _ (by omega) (by omega) (by omega)).trans b8)).mp ls
      obtain ⟨q0, ⟨q1, q2, q3⟩, q4⟩ := hs.2.2.2.2.2.1 s ls0
      obtain ⟨t1, t2⟩ := hcc s ls0
      have rw2 : ∀ y, zc2 (zd h (e + 7)) (zd h (e + 8)) y s (zd h e 10).toNat = zct (zd h (e + 7)) y (zd h (e + 1) s) (zd h (e + 2) s).toNat := by
        intro y
        refine zc2_row q1 _ _ (by omega) (fun c hc => ?_)
        rw [q4 c (by omega) (by omega)]; omega
      have es : ∀ c, zd h (e + 1) s ≤ c → c < zd h (e + 1) s + (zd h (e + 2) s).toNat → _ := fun c c1 c2 => est_set (h' := h22) hx (hs.2.2.2.2.1 c (by omega) (by omega)).1 ho (fun j => by rw [v22]; exact d11 j)
      unfold ecnt at t1 t2 ⊢
      rw [g (e + 7) (by omega) (by omega) (by omega), g (e + 1) (by omega) (by omega) (by omega), g (e + 2) (by omega) (by omega) (by omega), b7, b1, b2, t22, u22, rw2, rw2, t1, t2]
      exact ⟨(zct_add (fun c c1 c2 => ⟨(es c c1 c2).1, (es c c1 c2).2.1⟩)).symm, (zct_add (fun c c1 c2 => ⟨(es c c1 c2).2.2.1, (es c c1 c2).2.2.2⟩)).symm⟩
    · rw [v22, d11]
      split
      · unfold zsg; split <;> omega
      · exact hv n n1 (by rw [g e (by omega) (by omega) (by omega), a11] at n2; exact n2)
  have big : yA [e, e + 3, e + 4, e + 6, e + 11, e + 12, e + 13, e + 16, e + 17] h h22 := ((dA.mono (by simp)).tr (p1.mono (by simp))).tr (r1.mono (by simp))
  have G0 : ∀ j, zd h22 e j = if j = 20 then zd h e 20 + 1 else zd h e j := fun j => by rw [g e (by omega) (by omega) (by omega)]; exact d0 j
  have G12 : ∀ j, zd h22 (e + 12) j = if j = zab x then zd h e 21 else zd h (e + 12) j := fun j => by rw [g _ (by omega) (by omega) (by omega)]; exact d12 j
  have G13 : ∀ j, zd h22 (e + 13) j = if j = zab x then why else zd h (e + 13) j := fun j => by rw [g _ (by omega) (by omega) (by omega)]; exact d13 j
  have G17 : ∀ j, zd h22 (e + 17) j = if j = zd h e 20 then x else zd h (e + 17) j := fun j => by rw [g _ (by omega) (by omega) (by omega)]; exact d17 j
  have G16 : zd h22 (e + 16) = zd h (e + 16) := (g _ (by omega) (by omega) (by omega)).trans b16
  have n22 : zd h22 e 21 = zd h e 21 := by rw [G0, if_neg (by decide)]
  rw [n22]
  refine zif_i (fun c => ?_) (fun c => ?_)
  · obtain ⟨lw, tw, zw'⟩ := hr c
    have lw22 : elaid e h22 why := (elaid.cg ((congrFun (g e (by omega) (by omega) (by omega)) 10).trans a10) ((g _ (by omega) (by omega) (by omega)).trans b5) ((g _ (by omega) (by omega) (by omega)).trans b8)).mpr lw
    refine L_rootSource hs22 (by rw [big.t]; exact tw) (by rw [big.l]; exact zw') (by omega) (by omega) lw22 (fun h' u1 u2 u3 => ?_)
    have k : ∀ b, b ≠ e + 16 → zd h' b = zd h22 b := fun b nb => u1.f (by simp only [List.mem_cons, List.not_mem_nil, or_false]; omega)
    refine hq h' ⟨big.tr (u1.mono (by simp)), fun j => by rw [k _ (by omega), v22]; exact d11 j, fun j => by rw [k _ (by omega)]; exact G12 j, fun j => by rw [k _ (by omega)]; exact G13 j, fun j => by rw [k _ (by omega)]; exact G17 j, fun j => by rw [k _ (by omega)]; exact G0 j, fun q => absurd c q, fun _ => ⟨fun j hj => by rw [u2 j hj, G16], fun w b w0 w1 b0 => ?_⟩⟩ ?_ ?_
    · rw [u3 w b w0 w1 b0]
      unfold rootOf srcE
      rw [g (e + 19) (by omega) (by omega) (by omega), dA.f (b := e + 19) (by simp only [List.mem_cons, List.not_mem_nil, or_false]; omega), g (e + 1) (by omega) (by omega) (by omega), g (e + 2) (by omega) (by omega) (by omega), g (e + 7) (by omega) (by omega) (by omega), b1, b2, b7, G16]
    · exact hs22.cg (by rw [k _ (by omega)]) (by rw [k _ (by omega)]) (k _ (by omega)) (k _ (by omega)) (k _ (by omega)) (k _ (by omega)) (k _ (by omega)) (k _ (by omega)) (k _ (by omega))
    · refine ⟨fun s ls => ?_, hc22.2.1.cg (k _ (by omega)) (k _ (by omega)) (k _ (by omega)) (k _ (by omega)) (k _ (by omega)), ?_⟩
      · have := hc22.1 s ((elaid.cg (by rw [k _ (by omega)]) (k _ (by omega)) (k _ (by omega))).mp ls)
        unfold ecnt est at this ⊢
        rw [k (e + 4) (by omega), k (e + 3) (by omega), k (e + 11) (by omega), k (e + 7) (by omega), k (e + 1) (by omega), k (e + 2) (by omega)]
        exact this
      · rw [k e (by omega), k (e + 11) (by omega)]; exact hc22.2.2
  · exact hq h22 ⟨big, fun j => by rw [v22]; exact d11 j, G12, G13, G17, G0, fun _ => G16, fun q => absurd q c⟩ hs22 hc22
