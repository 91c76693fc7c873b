/-! lay -/
theorem zpv_congr {f g : Int → Int} {x : Int} {n : Nat} (h : ∀ i : Nat, i < n → f i = g i) : zpv f x n = zpv g x n := by
  induction n with
  | zero => rfl
  | succ n ih => unfold zpv; rw [h n (by omega), ih (fun i hi => h i (by omega))]
theorem est_neg (e : Int) (h : zH) {A x : Int} (hx : eit A x) : est e h (-x) = -(est e h x) := by
  rw [est_ab e h hx, est_ab e h (eit_neg hx), zab_neg]
  unfold eit at hx
  by_cases c : 0 < x
  · rw [if_pos c, if_neg (by omega)]
  · rw [if_neg c, if_pos (by omega)]; omega
theorem L_isTrue {e x A : Int} {h : zH} {Q : Int → zH → Prop} (hx : eit A x) (hA : A ≤ 300) (hq : Q (if est e h x = 1 then 1 else 0) h) : P_E_isTrue e x h Q := by
  have xr := zab_r hx
  unfold P_E_isTrue P_E_isTrue_J18
  rw [zabs_of hx hA, zsg_of]
  refine ⟨⟨by omega, by omega⟩, ?_⟩
  have : (zd h (e + 11) (zab x) = zsg x) ↔ est e h x = 1 := by
    rw [est_ab e h hx]; unfold zsg
    by_cases c : 0 < x
    · rw [if_pos c, if_pos c]
    · rw [if_neg c, if_neg c]; omega
  by_cases c : est e h x = 1
  · rw [if_pos c] at hq; rw [if_pos (this.mpr c)]; exact hq
  · rw [if_neg c] at hq; rw [if_neg (by exact fun q => c (this.mp q))]; exact hq
theorem L_isOpen {e x A : Int} {h : zH} {Q : Int → zH → Prop} (hx : eit A x) (hA : A ≤ 300) (hq : Q (if est e h x = 0 then 1 else 0) h) : P_E_isOpen e x h Q := by
  have xr := zab_r hx
  unfold P_E_isOpen
  rw [zabs_of hx hA]
  refine ⟨⟨by omega, by omega⟩, ?_⟩
  have : (zd h (e + 11) (zab x) = 0) ↔ est e h x = 0 := by
    rw [est_ab e h hx]
    split <;> omega
  by_cases c : est e h x = 0
  · rw [if_pos c] at hq; rw [if_pos (this.mpr c)]; exact hq
  · rw [if_neg c] at hq; rw [if_neg (by exact fun q => c (this.mp q))]; exact hq
def ElayP (e s a b n : Int) (h h' : zH) : Prop := yA [e, e + 1, e + 2, e + 3, e + 4, e + 5, e + 6, e + 7, e + 8, e + 9, e + 10] h h' ∧ (∀ j, zd h' e j = if j = 10 then zd h e 10 + n else zd h e j) ∧ (∀ j, zd h' (e + 1) j = if j = s then zd h e 10 else zd h (e + 1) j) ∧ (∀ j, zd h' (e + 2) j = if j = s then n else zd h (e + 2) j) ∧ (∀ j, zd h' (e + 5) j = if j = s then 1 else zd h (e + 5) j) ∧ (∀ j, zd h' (e + 7) j = if zd h e 10 ≤ j ∧ j < zd h e 10 + n then zd h a (b + (j - zd h e 10)) else zd h (e + 7) j)
theorem L_lay {e s a b n top : Int} {h : zH} {Q : Int → zH → Prop} (hs : ES e h top) (hc : EC e h) (h0 : top ≤ s) (h1 : s < 1364) (ha : a ∉ [e, e + 1, e + 2, e + 3, e + 4, e + 5, e + 6, e + 7, e + 8, e + 9, e + 10]) (hat : zt h a = 50) (hb0 : 0 ≤ b) (hn0 : 0 ≤ n) (hl : b + n ≤ zl h a) (hl2 : zl h a ≤ 20000) (hcap : zd h e 10 + n ≤ 12080) (hit : ∀ j, b ≤ j → j < b + n → eit (zd h e 11) (zd h a j))
    (hq : ∀ h', ElayP e s a b n h h' → ES e h' (s + 1) → EC e h' → Q 0 h') : P_E_lay e s a b (b + n) h Q := by
  have A3 := hs.1
  have C3 := hs.2.1
  have tp := hs.2.2.1
  obtain ⟨hcc, hh, hv⟩ := hc
  have nolay : ¬ elaid e h s := fun q => by have := (hs.2.2.2.2.2.1 s q).1; omega
  have norow : ∀ c, 0 ≤ c → c < zd h e 10 → zd h (e + 8) c ≠ s := fun c c0 c1 q => nolay (Or.inr ⟨c, c0, c1, q⟩)
  have inv : ∀ (m f : Nat) (y : Int) (g k0 : zH), y = b + n - m → b ≤ y → m < f → yA [e, e + 3, e + 4, e + 7, e + 8, e + 9, e + 10] k0 g → zt k0 a = 50 → zl k0 a = zl h a → zd k0 a = zd h a → zd k0 (e + 11) = zd h (e + 11) →
      (∀ j, zd g e j = if j = 10 then zd h e 10 + (y - b) else zd h e j) → (∀ j, zd g (e + 7) j = if zd h e 10 ≤ j ∧ j < zd h e 10 + (y - b) then zd h a (b + (j - zd h e 10)) else zd h (e + 7) j) → (∀ j, zd g (e + 8) j = if zd h e 10 ≤ j ∧ j < zd h e 10 + (y - b) then s else zd h (e + 8) j) →
      (∀ c, 0 ≤ c → c < zd h e 10 + (y - b) → zd g (e + 9) c = zpv (zd g (e + 7)) (zd g (e + 7) c) c.toNat) → (∀ x, eit (zd h e 11) x → zd g (e + 10) (eidx x) = zpv (zd g (e + 7)) x (zd h e 10 + (y - b)).toNat) →
      (∀ j, zd g (e + 4) j = if j = s then zct (fun c => est e h (zd g (e + 7) c)) 1 (zd h e 10) (y - b).toNat else zd h (e + 4) j) → (∀ j, zd g (e + 3) j = if j = s then zct (fun c => est e h (zd g (e + 7) c)) (-1) (zd h e 10) (y - b).toNat else zd h (e + 3) j) →
      (∀ g', yA [e, e + 3, e + 4, e + 7, e + 8, e + 9, e + 10] k0 g' → (∀ j, zd g' e j = if j = 10 then zd h e 10 + n else zd h e j) → (∀ j, zd g' (e + 7) j = if zd h e 10 ≤ j ∧ j < zd h e 10 + n then zd h a (b + (j - zd h e 10)) else zd h (e + 7) j) → (∀ j, zd g' (e + 8) j = if zd h e 10 ≤ j ∧ j < zd h e 10 + n then s else zd h (e + 8) j) →
        (∀ c, 0 ≤ c → c < zd h e 10 + n → zd g' (e + 9) c = zpv (zd g' (e + 7)) (zd g' (e + 7) c) c.toNat) → (∀ x, eit (zd h e 11) x → zd g' (e + 10) (eidx x) = zpv (zd g' (e + 7)) x (zd h e 10 + n).toNat) →
        (∀ j, zd g' (e + 4) j = if j = s then zct (fun c => est e h (zd g' (e + 7) c)) 1 (zd h e 10) n.toNat else zd h (e + 4) j) → (∀ j, zd g' (e + 3) j = if j = s then zct (fun c => est e h (zd g' (e + 7) c)) (-1) (zd h e 10) n.toNat else zd h (e + 3) j) → P_E_look e s g' Q) →
      P_E_lay_L44 e s a (b + n) Q f y g := by
    intro m
    induction m with
    | zero =>
      intro f y g k0 hy y0 hf gA kt kl ka kv g0 g7 g8 g9 g10 g4 g3 k
      obtain ⟨f, rfl⟩ : ∃ m, f = m + 1 := ⟨f - 1, by omega⟩
      have ey : y - b = n := by omega
      rw [ey] at g0 g7 g8 g9 g10 g4 g3
      unfold P_E_lay_L44
      rw [if_pos (by omega)]
      exact k g gA g0 g7 g8 g9 g10 g4 g3
    | succ m ih =>
      intro f y g k0 hy y0 hf gA kt kl ka kv g0 g7 g8 g9 g10 g4 g3 k
      obtain ⟨f, rfl⟩ : ∃ m, f = m + 1 := ⟨f - 1, by omega⟩
      have ga : zd g a = zd h a := (gA.f (by simp only [List.mem_cons, List.not_mem_nil, or_false] at ha ⊢; omega)).trans ka
      have gv : zd g (e + 11) = zd h (e + 11) := (gA.f (by simp only [List.mem_cons, List.not_mem_nil, or_false]; omega)).trans kv
      have it := hit y y0 (by omega)
      have c10 : zd g e 10 = zd h e 10 + (y - b) := by rw [g0, if_pos rfl]
      have C0 : (0 : Int) ≤ zd h e 10 + (y - b) := by omega
      have C1 : zd h e 10 + (y - b) < 12080 := by omega
      unfold P_E_lay_L44 P_E_lay_J144 P_E_lay_J168
      rw [if_neg (by omega), ga, c10]
      refine ⟨⟨by rw [gA.t]; exact kt, by omega, by rw [gA.l, kl]; omega⟩, ?_⟩
      intro x6 ex6
      rw [← ex6] at it
      refine ⟨⟨C0, C1⟩, ?_⟩
      intro h9 e9
      have i9 : zd h9 e 10 = zd h e 10 + (y - b) := by rw [e9, zd_a (by omega), c10]
      rw [i9]
      refine ⟨⟨C0, C1⟩, ?_⟩
      intro h10 e10
      unfold P_E_index
      rw [eidx_of it A3.2]
      have ir := eidx_r it A3.2
      have i10 : zd h10 e 10 = zd h e 10 + (y - b) := by rw [e10, zd_a (by omega), i9]
      rw [i10]
      refine ⟨ir, ⟨C0, C1⟩, ?_⟩
      intro h13 e13
      refine ⟨ir, ?_⟩
      have i13 : zd h13 e 10 = zd h e 10 + (y - b) := by rw [e13, zd_a (by omega), i10]
      rw [i13]
      intro h16 e16
      have i16 : zd h16 e 10 = zd h e 10 + (y - b) := by rw [e16, zd_a (by omega), i13]
      rw [i16, w32_of (x := zd h e 10 + (y - b) + 1) (by omega) (by omega)]
      intro h17 e17
      refine ⟨⟨by omega, h1⟩, ?_⟩
      have v17 : zd h17 (e + 11) = zd h (e + 11) := by
        rw [e17, zw_f (by omega), e16, zw_f (by omega), e13, zw_f (by omega), e10, zw_f (by omega), e9, zw_f (by omega)]; exact gv
      have es17 : ∀ z, est e h17 z = est e h z := fun z => by unfold est; rw [v17]
      have t17 : zd h17 (e + 4) s = zct (fun c => est e h (zd g (e + 7) c)) 1 (zd h e 10) (y - b).toNat := by
        rw [e17, zd_a (by omega), e16, zd_a (by omega), e13, zd_a (by omega), e10, zd_a (by omega), e9, zd_a (by omega), g4, if_pos rfl]
      have f17 : zd h17 (e + 3) s = zct (fun c => est e h (zd g (e + 7) c)) (-1) (zd h e 10) (y - b).toNat := by
        rw [e17, zd_a (by omega), e16, zd_a (by omega), e13, zd_a (by omega), e10, zd_a (by omega), e9, zd_a (by omega), g3, if_pos rfl]
      have zb1 := zct_le (fun c => est e h (zd g (e + 7) c)) 1 (zd h e 10) (y - b).toNat
      have zb2 := zct_le (fun c => est e h (zd g (e + 7) c)) (-1) (zd h e 10) (y - b).toNat
      refine L_isTrue it A3.2 ?_
      rw [es17, t17]
      have u1 : (if (if est e h x6 = 1 then (1 : Int) else 0) = 0 then (0 : Int) else 1) = if est e h x6 = 1 then 1 else 0 := by split <;> rfl
      rw [u1]
      have u1r : (if est e h x6 = 1 then (1 : Int) else 0) ≤ 1 ∧ 0 ≤ (if est e h x6 = 1 then (1 : Int) else 0) := by split <;> omega
      refine ⟨⟨by omega, h1⟩, ?_⟩
      intro h20 e20
      rw [w32_of (by omega) (by omega)] at e20
      refine ⟨⟨by omega, h1⟩, ?_⟩
      rw [show w32 (-x6) = -x6 from by unfold eit at it; exact w32_of (by omega) (by omega)]
      refine L_isTrue (eit_neg it) A3.2 ?_
      have es20 : est e h20 (-x6) = -(est e h x6) := by
        rw [est_neg e h20 it]; unfold est; rw [e20, zw_f (b := e + 11) (by omega), v17]
      have f20 : zd h20 (e + 3) s = zct (fun c => est e h (zd g (e + 7) c)) (-1) (zd h e 10) (y - b).toNat := by rw [e20, zd_a (by omega), f17]
      rw [es20, f20]
      have u2 : (if (if -(est e h x6) = 1 then (1 : Int) else 0) = 0 then (0 : Int) else 1) = if est e h x6 = -1 then 1 else 0 := by
        by_cases c : est e h x6 = -1
        · rw [if_pos c, if_pos (show -(est e h x6) = 1 by omega)]; rfl
        · rw [if_neg c, if_neg (show ¬ -(est e h x6) = 1 by omega)]; rfl
      rw [u2]
      have u2r : (if est e h x6 = -1 then (1 : Int) else 0) ≤ 1 ∧ 0 ≤ (if est e h x6 = -1 then (1 : Int) else 0) := by split <;> omega
      refine ⟨⟨by omega, h1⟩, ?_⟩
      intro h23 e23 x5 ex5
      rw [w32_of (by omega) (by omega)] at e23
      rw [w32_of (by omega) (by omega)] at ex5
      rw [ex5]
      have big : yA [e, e + 3, e + 4, e + 7, e + 8, e + 9, e + 10] k0 h23 := by
        rw [e23, e20, e17, e16, e13, e10, e9]
        exact (((((((gA.w (by simp)).w (by simp)).w (by simp)).w (by simp)).w (by simp)).w (by simp)).w (by simp))
      have r7 : ∀ j, zd h23 (e + 7) j = if j = zd h e 10 + (y - b) then x6 else zd g (e + 7) j := by
        intro j
        rw [e23, zd_a (by omega), e20, zd_a (by omega), e17, zd_a (by omega), e16, zd_a (by omega), e13, zd_a (by omega), e10, zd_a (by omega), e9, zd_zw]
        by_cases c : j = zd h e 10 + (y - b)
        · rw [if_pos ⟨rfl, c⟩, if_pos c]
        · rw [if_neg (by exact fun q => c q.2), if_neg c]
      have r8 : ∀ j, zd h23 (e + 8) j = if j = zd h e 10 + (y - b) then s else zd g (e + 8) j := by
        intro j
        rw [e23, zd_a (by omega), e20, zd_a (by omega), e17, zd_a (by omega), e16, zd_a (by omega), e13, zd_a (by omega), e10, zd_zw, e9, zd_a (by omega)]
        by_cases c : j = zd h e 10 + (y - b)
        · rw [if_pos ⟨rfl, c⟩, if_pos c]
        · rw [if_neg (by exact fun q => c q.2), if_neg c]
      have r9 : ∀ j, zd h23 (e + 9) j = if j = zd h e 10 + (y - b) then zd g (e + 10) (eidx x6) else zd g (e + 9) j := by
        intro j
        rw [e23, zd_a (by omega), e20, zd_a (by omega), e17, zd_a (by omega), e16, zd_a (by omega), e13, zd_zw, e10, zd_a (by omega), zd_a (by omega), e9, zd_a (by omega), zd_a (by omega)]
        by_cases c : j = zd h e 10 + (y - b)
        · rw [if_pos ⟨rfl, c⟩, if_pos c]
        · rw [if_neg (by exact fun q => c q.2), if_neg c]
      have r10 : ∀ j, zd h23 (e + 10) j = if j = eidx x6 then zd h e 10 + (y - b) else zd g (e + 10) j := by
        intro j
        rw [e23, zd_a (by omega), e20, zd_a (by omega), e17, zd_a (by omega), e16, zd_zw, e13, zd_a (by omega), e10, zd_a (by omega), e9, zd_a (by omega)]
        by_cases c : j = eidx x6
        · rw [if_pos ⟨rfl, c⟩, if_pos c]
        · rw [if_neg (by exact fun q => c q.2), if_neg c]
      have r0 : ∀ j, zd h23 e j = if j = 10 then zd h e 10 + (y + 1 - b) else zd h e j := by
        intro j
        rw [e23, zd_a (by omega), e20, zd_a (by omega), e17, zd_zw, e16, zd_a (by omega), e13, zd_a (by omega), e10, zd_a (by omega), e9, zd_a (by omega), g0]
        by_cases c : j = 10
        · rw [if_pos ⟨rfl, c⟩, if_pos c]; omega
        · rw [if_neg (by exact fun q => c q.2), if_neg c, if_neg c]
      have r4 : ∀ j, zd h23 (e + 4) j = if j = s then zct (fun c => est e h (zd g (e + 7) c)) 1 (zd h e 10) (y - b).toNat + (if est e h x6 = 1 then 1 else 0) else zd h (e + 4) j := by
        intro j
        rw [e23, zd_a (by omega), e20, zd_zw]
        by_cases c : j = s
        · rw [if_pos ⟨rfl, c⟩, if_pos c]
        · rw [if_neg (by exact fun q => c q.2), if_neg c, e17, zd_a (by omega), e16, zd_a (by omega), e13, zd_a (by omega), e10, zd_a (by omega), e9, zd_a (by omega), g4, if_neg c]
      have r3 : ∀ j, zd h23 (e + 3) j = if j = s then zct (fun c => est e h (zd g (e + 7) c)) (-1) (zd h e 10) (y - b).toNat + (if est e h x6 = -1 then 1 else 0) else zd h (e + 3) j := by
        intro j
        rw [e23, zd_zw]
        by_cases c : j = s
        · rw [if_pos ⟨rfl, c⟩, if_pos c]
        · rw [if_neg (by exact fun q => c q.2), if_neg c, e20, zd_a (by omega), e17, zd_a (by omega), e16, zd_a (by omega), e13, zd_a (by omega), e10, zd_a (by omega), e9, zd_a (by omega), g3, if_neg c]
      clear e23 e20 e17 e16 e13 e10 e9 t17 f17 f20 es20 es17 v17 i9 i10 i13 i16
      have pc : ∀ z (k : Nat), (k : Int) ≤ zd h e 10 + (y - b) → zpv (zd h23 (e + 7)) z k = zpv (zd g (e + 7)) z k := fun z k hk => zpv_congr (fun i hi => by rw [r7, if_neg (by omega)])
      have tn : (y + 1 - b).toNat = (y - b).toNat + 1 := by omega
      have ts : ∀ v, zct (fun c => est e h (zd h23 (e + 7) c)) v (zd h e 10) (y + 1 - b).toNat = zct (fun c => est e h (zd g (e + 7) c)) v (zd h e 10) (y - b).toNat + (if est e h x6 = v then 1 else 0) := by
        intro v
        rw [tn]
        show zct _ v (zd h e 10) (y - b).toNat + _ = _
        rw [zct_congr (g := fun c => est e h (zd g (e + 7) c)) (u := v) (fun i i1 i2 => by rw [r7, if_neg (by omega)])]
        have ec : zd h e 10 + ((y - b).toNat : Int) = zd h e 10 + (y - b) := by omega
        rw [ec]
        show _ + (if est e h (zd h23 (e + 7) (zd h e 10 + (y - b))) = v then (1 : Int) else 0) = _
        rw [r7, if_pos rfl]
      refine ih f (y + 1) h23 k0 (by omega) (by omega) (by omega) big kt kl ka kv r0 (fun j => ?_) (fun j => ?_) (fun c c0 c1 => ?_) (fun z hz => ?_) (fun j => ?_) (fun j => ?_) k
      · rw [r7, g7]
        by_cases c : j = zd h e 10 + (y - b)
        · rw [if_pos c, if_pos (by omega), ex6]; congr 1; omega
        · rw [if_neg c]
          by_cases d : zd h e 10 ≤ j ∧ j < zd h e 10 + (y - b)
          · rw [if_pos d, if_pos (by omega)]
          · rw [if_neg d, if_neg (by omega)]
      · rw [r8, g8]
        by_cases c : j = zd h e 10 + (y - b)
        · rw [if_pos c, if_pos (by omega)]
        · rw [if_neg c]
          by_cases d : zd h e 10 ≤ j ∧ j < zd h e 10 + (y - b)
          · rw [if_pos d, if_pos (by omega)]
          · rw [if_neg d, if_neg (by omega)]
      · rw [pc _ _ (by omega), r9, r7]
        by_cases d : c = zd h e 10 + (y - b)
        · rw [if_pos d, if_pos d, g10 x6 it, d]
        · rw [if_neg d, if_neg d]; exact g9 c c0 (by omega)
      · rw [r10]
        have e2 : (zd h e 10 + (y + 1 - b)).toNat = (zd h e 10 + (y - b)).toNat + 1 := by omega
        rw [e2]
        show _ = if zd h23 (e + 7) ((zd h e 10 + (y - b)).toNat : Int) = z then ((zd h e 10 + (y - b)).toNat : Int) else zpv (zd h23 (e + 7)) z (zd h e 10 + (y - b)).toNat
        have e3 : ((zd h e 10 + (y - b)).toNat : Int) = zd h e 10 + (y - b) := by omega
        rw [e3, r7, if_pos rfl]
        by_cases d : x6 = z
        · rw [d, if_pos rfl, if_pos rfl]
        · rw [if_neg (by exact fun q => d (eidx_inj it hz q.symm)), if_neg d, g10 z hz, pc _ _ (by omega)]
      · rw [r4, ts]
      · rw [r3, ts]
  unfold P_E_lay
  rw [w32_of (x := b + n - b) (by omega) (by omega), zbit_1, show b + n - b = n by omega]
  refine ⟨⟨by omega, h1⟩, ?_⟩
  intro k1 e1
  refine ⟨⟨by omega, h1⟩, ?_⟩
  intro k2 e2
  refine ⟨⟨by omega, h1⟩, ?_⟩
  intro k3 e3
  refine ⟨⟨by omega, h1⟩, ?_⟩
  intro k4 e4
  refine ⟨⟨by omega, h1⟩, ?_⟩
  intro k5 e5
  have K : yA [e + 1, e + 2, e + 3, e + 4, e + 5] h k5 := by
    rw [e5, e4, e3, e2, e1]
    exact ((((((yA.rf _ h).w (by simp)).w (by simp)).w (by simp)).w (by simp)).w (by simp))
  have m1 : ∀ j, zd k5 (e + 1) j = if j = s then zd h e 10 else zd h (e + 1) j := by
    intro j
    rw [e5, zd_a (by omega), e4, zd_a (by omega), e3, zd_a (by omega), e2, zd_a (by omega), e1, zd_zw]
    by_cases c : j = s
    · rw [if_pos ⟨rfl, c⟩, if_pos c]
    · rw [if_neg (by exact fun q => c q.2), if_neg c]
  have m2 : ∀ j, zd k5 (e + 2) j = if j = s then n else zd h (e + 2) j := by
    intro j
    rw [e5, zd_a (by omega), e4, zd_a (by omega), e3, zd_a (by omega), e2, zd_zw, e1, zd_a (by omega)]
    by_cases c : j = s
    · rw [if_pos ⟨rfl, c⟩, if_pos c]
    · rw [if_neg (by exact fun q => c q.2), if_neg c]
  have m5 : ∀ j, zd k5 (e + 5) j = if j = s then 1 else zd h (e + 5) j := by
    intro j
    rw [e5, zd_zw, e4, zd_a (by omega), e3, zd_a (by omega), e2, zd_a (by omega), e1, zd_a (by omega)]
    by_cases c : j = s
    · rw [if_pos ⟨rfl, c⟩, if_pos c]
    · rw [if_neg (by exact fun q => c q.2), if_neg c]
  have m3 : ∀ j, zd k5 (e + 3) j = if j = s then 0 else zd h (e + 3) j := by
    intro j
    rw [e5, zd_a (by omega), e4, zd_a (by omega), e3, zd_zw, e2, zd_a (by omega), e1, zd_a (by omega)]
    by_cases c : j = s
    · rw [if_pos ⟨rfl, c⟩, if_pos c]
    · rw [if_neg (by exact fun q => c q.2), if_neg c]
  have m4 : ∀ j, zd k5 (e + 4) j = if j = s then 0 else zd h (e + 4) j := by
    intro j
    rw [e5, zd_a (by omega), e4, zd_zw, e3, zd_a (by omega), e2, zd_a (by omega), e1, zd_a (by omega)]
    by_cases c : j = s
    · rw [if_pos ⟨rfl, c⟩, if_pos c]
    · rw [if_neg (by exact fun q => c q.2), if_neg c]
  clear e5 e4 e3 e2 e1
  have j0 : zd k5 e = zd h e := K.f (by simp only [List.mem_cons, List.not_mem_nil, or_false]; omega)
  have j7 : zd k5 (e + 7) = zd h (e + 7) := K.f (by simp only [List.mem_cons, List.not_mem_nil, or_false]; omega)
  have j8 : zd k5 (e + 8) = zd h (e + 8) := K.f (by simp only [List.mem_cons, List.not_mem_nil, or_false]; omega)
  have j9 : zd k5 (e + 9) = zd h (e + 9) := K.f (by simp only [List.mem_cons, List.not_mem_nil, or_false]; omega)
  have j10 : zd k5 (e + 10) = zd h (e + 10) := K.f (by simp only [List.mem_cons, List.not_mem_nil, or_false]; omega)
  have z0 : (b - b).toNat = 0 := by omega
  refine ⟨n.toNat + 1, inv n.toNat _ b k5 k5 (by omega) (by omega) (by omega) (yA.rf _ _) (by rw [K.t]; exact hat) (K.l a) (K.f (by simp only [List.mem_cons, List.not_mem_nil, or_false] at ha ⊢; omega)) (K.f (by simp only [List.mem_cons, List.not_mem_nil, or_false]; omega)) (fun j => ?_) (fun j => ?_) (fun j => ?_) (fun c c0 c1 => ?_) (fun x hx => ?_) (fun j => ?_) (fun j => ?_) (fun g gA g0 g7 g8 g9 g10 g4 g3 => ?_)⟩
  · rw [j0]; split
    · rename_i c; rw [c]; omega
    · rfl
  · rw [j7, if_neg (by omega)]
  · rw [j8, if_neg (by omega)]
  · rw [j9, j7]; exact (hs.2.2.2.2.1 c c0 (by omega)).2
  · rw [j10, j7, hs.2.2.2.1 x hx]; congr 1; omega
  · rw [m4, z0]; rfl
  · rw [m3, z0]; rfl
  have n1 : zd g (e + 1) = zd k5 (e + 1) := gA.f (by simp only [List.mem_cons, List.not_mem_nil, or_false]; omega)
  have n2 : zd g (e + 2) = zd k5 (e + 2) := gA.f (by simp only [List.mem_cons, List.not_mem_nil, or_false]; omega)
  have n5 : zd g (e + 5) = zd k5 (e + 5) := gA.f (by simp only [List.mem_cons, List.not_mem_nil, or_false]; omega)
  have n6 : zd g (e + 6) = zd h (e + 6) := (gA.f (by simp only [List.mem_cons, List.not_mem_nil, or_false]; omega)).trans (K.f (by simp only [List.mem_cons, List.not_mem_nil, or_false]; omega))
  have n11 : zd g (e + 11) = zd h (e + 11) := (gA.f (by simp only [List.mem_cons, List.not_mem_nil, or_false]; omega)).trans (K.f (by simp only [List.mem_cons, List.not_mem_nil, or_false]; omega))
  refine L_look (by omega) h1 (fun t t0 t1 tn => ?_) (fun w => by rw [n6]; exact hh.2.1 w) (fun t t0 t1 => ?_) (fun v hh' => ?_)
  · have := hh.1 t t0 t1
    unfold hotok at this ⊢
    rw [n6, n5, m5, if_neg tn, g4, if_neg tn, n2, m2, if_neg tn, g3, if_neg tn]; exact this
  · rw [n2, m2]; split
    · omega
    · exact hh.2.2 t t0 t1
  generalize eg : zw g (e + 6) (s / 64) v = g' at hh' ⊢
  have kk : ∀ c, c ≠ e + 6 → zd g' c = zd g c := fun c hc' => by rw [← eg]; exact zw_f hc'
  have G : yA [e, e + 1, e + 2, e + 3, e + 4, e + 5, e + 6, e + 7, e + 8, e + 9, e + 10] h g' := by
    rw [← eg]; exact ((K.mono (by simp)).tr (gA.mono (by simp))).w (by simp)
  have q0 : ∀ j, zd g' e j = if j = 10 then zd h e 10 + n else zd h e j := fun j => by rw [kk _ (by omega)]; exact g0 j
  have q1 : ∀ j, zd g' (e + 1) j = if j = s then zd h e 10 else zd h (e + 1) j := fun j => by rw [kk _ (by omega), n1]; exact m1 j
  have q2 : ∀ j, zd g' (e + 2) j = if j = s then n else zd h (e + 2) j := fun j => by rw [kk _ (by omega), n2]; exact m2 j
  have q5 : ∀ j, zd g' (e + 5) j = if j = s then 1 else zd h (e + 5) j := fun j => by rw [kk _ (by omega), n5]; exact m5 j
  have q7 : ∀ j, zd g' (e + 7) j = if zd h e 10 ≤ j ∧ j < zd h e 10 + n then zd h a (b + (j - zd h e 10)) else zd h (e + 7) j := fun j => by rw [kk _ (by omega)]; exact g7 j
  have q8 : ∀ j, zd g' (e + 8) j = if zd h e 10 ≤ j ∧ j < zd h e 10 + n then s else zd h (e + 8) j := fun j => by rw [kk _ (by omega)]; exact g8 j
  have q9 : ∀ c, 0 ≤ c → c < zd h e 10 + n → zd g' (e + 9) c = zpv (zd g' (e + 7)) (zd g' (e + 7) c) c.toNat := fun c c0 c1 => by rw [kk _ (by omega), kk (e + 7) (by omega)]; exact g9 c c0 c1
  have q10 : ∀ x, eit (zd h e 11) x → zd g' (e + 10) (eidx x) = zpv (zd g' (e + 7)) x (zd h e 10 + n).toNat := fun x hx => by rw [kk _ (by omega), kk (e + 7) (by omega)]; exact g10 x hx
  have q4 : ∀ j, zd g' (e + 4) j = if j = s then zct (fun c => est e h (zd g' (e + 7) c)) 1 (zd h e 10) n.toNat else zd h (e + 4) j := fun j => by rw [kk _ (by omega), kk (e + 7) (by omega)]; exact g4 j
  have q3 : ∀ j, zd g' (e + 3) j = if j = s then zct (fun c => est e h (zd g' (e + 7) c)) (-1) (zd h e 10) n.toNat else zd h (e + 3) j := fun j => by rw [kk _ (by omega), kk (e + 7) (by omega)]; exact g3 j
  have q11 : zd g' (e + 11) = zd h (e + 11) := (kk _ (by omega)).trans n11
  have qes : ∀ z, est e g' z = est e h z := fun z => by unfold est; rw [q11]
  have a10 : zd g' e 10 = zd h e 10 + n := by rw [q0, if_pos rfl]
  have a11 : zd g' e 11 = zd h e 11 := by rw [q0, if_neg (by decide)]
  have ld : ∀ t, elaid e g' t → t ≠ s → elaid e h t := by
    intro t lt ts
    rcases lt with ⟨l0, l1, l⟩ | ⟨c, c0, c1, c2⟩
    · rw [q5, if_neg ts] at l; exact Or.inl ⟨l0, l1, l⟩
    · rw [a10] at c1
      rw [q8] at c2
      by_cases d : zd h e 10 ≤ c ∧ c < zd h e 10 + n
      · rw [if_pos d] at c2; exact absurd c2.symm ts
      · rw [if_neg d] at c2; exact Or.inr ⟨c, c0, by omega, c2⟩
  clear eg inv gA g0 g7 g8 g9 g10 g4 g3 kk n1 n2 n5 n6 n11 K m1 m2 m3 m4 m5 j0 j7 j8 j9 j10
  refine hq g' ⟨G, q0, q1, q2, q5, q7⟩ ⟨by rw [a11]; exact A3, by rw [a10]; omega, by omega, ?_, ?_, ?_, ?_⟩ ⟨?_, hh', ?_⟩
  · intro x hx; rw [a11] at hx; rw [a10]; exact q10 x hx
  · intro c c0 c1
    rw [a10] at c1
    refine ⟨?_, q9 c c0 c1⟩
    rw [a11, q7]
    by_cases d : zd h e 10 ≤ c ∧ c < zd h e 10 + n
    · rw [if_pos d]; exact hit _ (by omega) (by omega)
    · rw [if_neg d]; exact (hs.2.2.2.2.1 c c0 (by omega)).1
  · intro t lt
    by_cases ts : t = s
    · rw [ts]
      refine ⟨by omega, ?_⟩
      unfold erow
      rw [q1, q2, if_pos rfl, if_pos rfl, a10]
      refine ⟨⟨by omega, hn0, by omega⟩, fun c c0 c1 => ?_⟩
      rw [q8]
      by_cases d : zd h e 10 ≤ c ∧ c < zd h e 10 + n
      · rw [if_pos d]; exact ⟨fun _ => d, fun _ => rfl⟩
      · rw [if_neg d]; exact ⟨fun q => absurd q (norow c c0 (by omega)), fun q => absurd q d⟩
    · obtain ⟨w0, ⟨w1, w2, w3⟩, w4⟩ := hs.2.2.2.2.2.1 t (ld t lt ts)
      refine ⟨by omega, ?_⟩
      unfold erow
      rw [q1, q2, if_neg ts, if_neg ts, a10]
      refine ⟨⟨w1, w2, by omega⟩, fun c c0 c1 => ?_⟩
      rw [q8]
      by_cases d : zd h e 10 ≤ c ∧ c < zd h e 10 + n
      · rw [if_pos d]; exact ⟨fun q => absurd q.symm ts, fun q => by omega⟩
      · rw [if_neg d]; exact w4 c c0 (by omega)
  · intro t t0 t1
    rw [q5]; split
    · exact Or.inr rfl
    · exact hs.2.2.2.2.2.2 t t0 t1
  · intro t lt
    unfold ecnt
    by_cases ts : t = s
    · rw [ts, q4, q3, q1, q2, if_pos rfl, if_pos rfl, if_pos rfl, if_pos rfl]
      exact ⟨zct_congr (fun i _ _ => by rw [qes]), zct_congr (fun i _ _ => by rw [qes])⟩
    · obtain ⟨w0, ⟨w1, w2, w3⟩, w4⟩ := hs.2.2.2.2.2.1 t (ld t lt ts)
      obtain ⟨t1, t2⟩ := hcc t (ld t lt ts)
      unfold ecnt at t1 t2
      rw [q4, q3, q1, q2, if_neg ts, if_neg ts, if_neg ts, if_neg ts, t1, t2]
      exact ⟨zct_congr (fun i i1 i2 => by rw [qes, q7, if_neg (by omega)]), zct_congr (fun i i1 i2 => by rw [qes, q7, if_neg (by omega)])⟩
  · rw [a11, q11]; exact hv
