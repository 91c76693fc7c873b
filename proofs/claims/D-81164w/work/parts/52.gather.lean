/-! the set of names that a quarrel leads to: the engine's part -/
theorem zct_one {f g : Int → Int} {v a i : Int} {n : Nat} (i0 : a ≤ i) (i1 : i < a + n) (hf : f i ≠ v) (hg : g i = v) (hs : ∀ j, j ≠ i → (g j = v ↔ f j = v)) : zct g v a n = zct f v a n + 1 := by
  induction n with
  | zero => omega
  | succ n ih =>
    unfold zct
    by_cases c : i = a + n
    · rw [← c, if_pos hg, if_neg hf, zct_congr (f := g) (g := f) (u := v) (fun j j0 j1 => hs j (by omega))]; omega
    · rw [ih (by omega)]
      by_cases d : f (a + (n : Int)) = v
      · rw [if_pos d, if_pos ((hs _ (by omega)).mpr d)]
      · rw [if_neg d, if_neg (by exact fun q => d ((hs _ (by omega)).mp q))]; omega
def cmk (e : Int) (h : zH) (l : Int) : Int := zct (fun n => if zd h (e + 25) n = 1 ∧ zd h (e + 12) n = l then 1 else 0) 1 1 (zd h e 11).toNat
def cwas (e : Int) (h : zH) : Int := zct (zd h (e + 26)) 1 1 (zd h e 11).toNat
def EG (e : Int) (h : zH) : Prop := ∀ n, 1 ≤ n → n ≤ zd h e 11 → (zd h (e + 25) n = 0 ∨ zd h (e + 25) n = 1) ∧ (zd h (e + 26) n = 0 ∨ zd h (e + 26) n = 1) ∧ (zd h (e + 25) n = 1 → zd h (e + 26) n = 1)
def rowHas (e : Int) (h : zH) (s but n : Int) (y : Int) : Prop := ∃ c, y ≤ c ∧ c < zd h (e + 1) s + zd h (e + 2) s ∧ zab (zd h (e + 7) c) = n ∧ n ≠ but ∧ zd h (e + 12) n ≠ 0
def lowE (e : Int) (h : zH) (s but : Int) (w : Int) (b : Nat) (y : Int) : Prop := ∃ c, y ≤ c ∧ c < zd h (e + 1) s + zd h (e + 2) s ∧ zab (zd h (e + 7) c) ≠ but ∧ zd h (e + 12) (zab (zd h (e + 7) c)) = 0 ∧ hb (zd h (e + 16) (zab (zd h (e + 7) c) * 8 + w)) b = true
/-- the set grows by a row, from a place on -/
def EgP (e s but l : Int) (y : Int) (h h' : zH) (r : Int) : Prop := yA [e, e + 25, e + 26, e + 29] h h' ∧ (∀ j, j ≠ 52 → zd h' e j = zd h e j) ∧ EG e h' ∧
  (∀ n, 1 ≤ n → n ≤ zd h e 11 → (zd h' (e + 25) n = 1 ↔ zd h (e + 25) n = 1 ∨ rowHas e h s but n y) ∧ (zd h' (e + 26) n = 1 ↔ zd h (e + 26) n = 1 ∨ rowHas e h s but n y)) ∧
  r = cmk e h' l - cmk e h l ∧ (zd h' e 52 - zd h e 52 = cwas e h' - cwas e h) ∧ (∀ j, j < 0 ∨ 8 ≤ j → zd h' (e + 29) j = zd h (e + 29) j) ∧
  ∀ w b, 0 ≤ w → w < 8 → (hb (zd h' (e + 29) w) b = true ↔ hb (zd h (e + 29) w) b = true ∨ lowE e h s but w b y)
theorem E_gather_L {e s but l top : Int} {Q : Int → zH → Prop} : ∀ (d f : Nat) (h : zH) (n y : Int), ES e h top → EG e h → zt h (e + 29) = 53 → zl h (e + 29) = 8 → elaid e h s → y = zd h (e + 1) s + zd h (e + 2) s - d → zd h (e + 1) s ≤ y → d < f → (0 ≤ n ∧ n ≤ y - zd h (e + 1) s) → (-100000 ≤ zd h e 52 ∧ zd h e 52 ≤ 100000 + (y - zd h (e + 1) s)) → (∀ r h', EgP e s but l y h h' r → Q (n + r) h') → P_E_gather_L49 e s but l Q f n y h := by
  intro d
  induction d with
  | zero =>
    intro f h n y hs hg t29 l29 ls hy y0 hf hn hm k
    obtain ⟨f, rfl⟩ : ∃ m, f = m + 1 := ⟨f - 1, by omega⟩
    obtain ⟨⟨s0, s1⟩, ⟨f0, z0, f1⟩, -⟩ := hs.2.2.2.2.2.1 s ls
    have tp := hs.2.2.1
    have cl := hs.2.1
    unfold P_E_gather_L49
    rw [w32_of (by omega) (by omega), if_pos (by omega)]
    refine ⟨⟨by omega, by omega⟩, ⟨by omega, by omega⟩, ?_⟩
    have := k 0 h ⟨yA.rf _ _, fun _ _ => rfl, hg, fun n n0 n1 => ⟨⟨Or.inl, fun q => q.elim id (fun ⟨c, c0, c1, _⟩ => by omega)⟩, ⟨Or.inl, fun q => q.elim id (fun ⟨c, c0, c1, _⟩ => by omega)⟩⟩, by omega, by omega, fun _ _ => rfl, fun w b w0 w1 => ⟨Or.inl, fun q => q.elim id (fun ⟨c, c0, c1, _⟩ => by omega)⟩⟩
    rw [show n + 0 = n by omega] at this; exact this
  | succ d ih =>
    intro f h n y hs hg t29 l29 ls hy y0 hf hn hm k
    obtain ⟨f, rfl⟩ : ∃ m, f = m + 1 := ⟨f - 1, by omega⟩
    obtain ⟨⟨s0, s1⟩, ⟨f0, z0, f1⟩, -⟩ := hs.2.2.2.2.2.1 s ls
    have tp := hs.2.2.1
    have cl := hs.2.1
    have A3 := hs.1
    have it := (hs.2.2.2.2.1 y (by omega) (by omega)).1
    have ir := zab_r it
    have st : w32 (y + 1) = y + 1 := w32_of (by omega) (by omega)
    -- a place that adds no name
    have step : ∀ (h2 : zH), yA [e + 29] h h2 → (∀ w b, 0 ≤ w → w < 8 → (hb (zd h2 (e + 29) w) b = true ↔ hb (zd h (e + 29) w) b = true ∨ (zab (zd h (e + 7) y) ≠ but ∧ zd h (e + 12) (zab (zd h (e + 7) y)) = 0 ∧ hb (zd h (e + 16) (zab (zd h (e + 7) y) * 8 + w)) b = true))) → (∀ j, j < 0 ∨ 8 ≤ j → zd h2 (e + 29) j = zd h (e + 29) j) → (zab (zd h (e + 7) y) = but ∨ zd h (e + 12) (zab (zd h (e + 7) y)) = 0 ∨ zd h (e + 25) (zab (zd h (e + 7) y)) = 1) → P_E_gather_L49 e s but l Q f n (y + 1) h2 := by
      intro h2 p1 p2 p3 p4
      have k2 : ∀ b, b ≠ e + 29 → zd h2 b = zd h b := fun b hb => p1.f (by simp only [List.mem_cons, List.not_mem_nil, or_false]; exact hb)
      have hs2 : ES e h2 top := hs.cg (by rw [k2 e (by omega)]) (by rw [k2 e (by omega)]) (k2 _ (by omega)) (k2 _ (by omega)) (k2 _ (by omega)) (k2 _ (by omega)) (k2 _ (by omega)) (k2 _ (by omega)) (k2 _ (by omega))
      refine ih f h2 n (y + 1) hs2 (by unfold EG at hg ⊢; rw [k2 e (by omega), k2 (e + 25) (by omega), k2 (e + 26) (by omega)]; exact hg) (by rw [p1.t]; exact t29) (by rw [p1.l]; exact l29) ((elaid.cg (by rw [k2 e (by omega)]) (k2 _ (by omega)) (k2 _ (by omega))).mpr ls) (by rw [k2 (e + 1) (by omega), k2 (e + 2) (by omega)]; omega) (by rw [k2 (e + 1) (by omega)]; omega) (by omega) (by rw [k2 (e + 1) (by omega)]; omega) (by rw [k2 (e + 1) (by omega), k2 e (by omega)]; omega) (fun r h' u => k r h' ?_)
      obtain ⟨u1, u2, u3, u4, u5, u6, u7, u8⟩ := u
      have rh : ∀ x, 1 ≤ x → (zd h (e + 25) x = 1 ∨ rowHas e h2 s but x (y + 1) ↔ zd h (e + 25) x = 1 ∨ rowHas e h s but x y) := by
        intro x x0
        unfold rowHas
        rw [k2 (e + 1) (by omega), k2 (e + 2) (by omega), k2 (e + 7) (by omega), k2 (e + 12) (by omega)]
        constructor
        · rintro (q | ⟨c, c0, c1, c2⟩)
          · exact Or.inl q
          · exact Or.inr ⟨c, by omega, c1, c2⟩
        · rintro (q | ⟨c, c0, c1, c2, c3, c4⟩)
          · exact Or.inl q
          · by_cases z : c = y
            · rw [z] at c2
              rcases p4 with p | p | p
              · exact absurd (c2.symm.trans p) c3
              · rw [c2] at p; exact absurd p c4
              · rw [c2] at p; exact Or.inl p
            · exact Or.inr ⟨c, by omega, c1, c2, c3, c4⟩
      refine ⟨(p1.mono (by simp)).tr u1, fun j hj => by rw [u2 j hj, k2 e (by omega)], u3, fun x x0 x1 => ?_, ?_, ?_, fun j hj => by rw [u7 j hj, p3 j hj], fun w b w0 w1 => ?_⟩
      · obtain ⟨v1, v2⟩ := u4 x x0 (by rw [k2 e (by omega)]; exact x1)
        rw [k2 (e + 25) (by omega)] at v1
        rw [k2 (e + 26) (by omega)] at v2
        refine ⟨v1.trans (rh x x0), v2.trans ?_⟩
        have hgx := hg x x0 x1
        constructor
        · rintro (q | q)
          · exact Or.inl q
          · rcases (rh x x0).mp (Or.inr q) with z | z
            · exact Or.inl (hgx.2.2 z)
            · exact Or.inr z
        · rintro (q | q)
          · exact Or.inl q
          · rcases (rh x x0).mpr (Or.inr q) with z | z
            · exact Or.inl (hgx.2.2 z)
            · exact Or.inr z
      · rw [u5]; unfold cmk; rw [k2 e (by omega), k2 (e + 25) (by omega), k2 (e + 12) (by omega)]
      · have : zd h2 e 52 = zd h e 52 := by rw [k2 e (by omega)]
        rw [← this, u6]; unfold cwas; rw [k2 e (by omega), k2 (e + 26) (by omega)]
      · rw [u8 w b w0 w1, p2 w b w0 w1]
        unfold lowE
        rw [k2 (e + 1) (by omega), k2 (e + 2) (by omega), k2 (e + 7) (by omega), k2 (e + 12) (by omega), k2 (e + 16) (by omega)]
        constructor
        · rintro ((q | q) | ⟨c, c0, c1, c2⟩)
          · exact Or.inl q
          · exact Or.inr ⟨y, by omega, by omega, q⟩
          · exact Or.inr ⟨c, by omega, c1, c2⟩
        · rintro (q | ⟨c, c0, c1, c2⟩)
          · exact Or.inl (Or.inl q)
          · by_cases z : c = y
            · rw [z] at c2; exact Or.inl (Or.inr c2)
            · exact Or.inr ⟨c, by omega, c1, c2⟩
    unfold P_E_gather_L49 P_E_gather_J183 P_E_gather_J150 P_E_gather_J180
    rw [w32_of (x := zd h (e + 1) s + zd h (e + 2) s) (by omega) (by omega), if_neg (by omega)]
    refine ⟨⟨by omega, by omega⟩, ⟨by omega, by omega⟩, ⟨by omega, by omega⟩, ?_⟩
    intro x6 e6
    rw [zabs_of it A3.2] at e6
    rw [e6]
    refine zif_i (fun c => ?_) (fun c => ⟨⟨by omega, by omega⟩, zif_i (fun c2 => ?_) (fun c2 => ⟨⟨by omega, by omega⟩, zif_i (fun c3 => ?_) (fun c3 => ?_)⟩)⟩)
    · intro x5 e5
      rw [e5, st]
      exact step h (yA.rf _ _) (fun w b w0 w1 => ⟨Or.inl, fun q => q.elim id (fun q => absurd c q.1)⟩) (fun _ _ => rfl) (Or.inl c)
    · refine L_addRoot t29 (by decide) (by rw [l29]; decide) (by rw [l29]; decide) (by omega) (by omega) (fun q => by omega) (fun h11 p1 p2 p3 => ?_)
      intro x5 e5
      rw [e5, st]
      refine step h11 p1 (fun w b w0 w1 => ?_) (fun j hj => p2 j (by omega)) (Or.inr (Or.inl c2))
      have := p3 w b w0 w1
      rw [show 0 + w = w by omega] at this
      rw [this, Bool.or_eq_true]
      exact or_congr Iff.rfl ⟨fun q => ⟨c, c2, q⟩, fun q => q.2.2⟩
    · refine ⟨⟨by omega, by omega⟩, ?_⟩
      intro h6 e6'
      rw [zbit_1] at e6'
      refine ⟨⟨by omega, by omega⟩, ?_⟩
      have w6 : zd h6 (e + 26) (zab (zd h (e + 7) y)) = zd h (e + 26) (zab (zd h (e + 7) y)) := by rw [e6', zd_a (by omega)]
      have m6 : zd h6 e 52 = zd h e 52 := by rw [e6', zd_a (by omega)]
      rw [w6, m6]
      intro h7 e7
      refine ⟨⟨by omega, by omega⟩, ?_⟩
      intro h8 e8
      rw [zbit_1] at e8
      refine ⟨⟨by omega, by omega⟩, ?_⟩
      have hgx := hg _ ir.1 ir.2
      have mr : (if zd h (e + 26) (zab (zd h (e + 7) y)) = 0 then (1 : Int) else 0) ≤ 1 ∧ 0 ≤ (if zd h (e + 26) (zab (zd h (e + 7) y)) = 0 then (1 : Int) else 0) := by split <;> omega
      rw [w32_of (by omega) (by omega)] at e7
      have A8 : yA [e, e + 25, e + 26] h h8 := by rw [e8, e7, e6']; exact (((yA.rf _ h).w (by simp)).w (by simp)).w (by simp)
      have k8 : ∀ b, b ≠ e → b ≠ e + 25 → b ≠ e + 26 → zd h8 b = zd h b := fun b h1 h2 h3 => A8.f (by simp only [List.mem_cons, List.not_mem_nil, or_false]; omega)
      have v25 : ∀ j, zd h8 (e + 25) j = if j = zab (zd h (e + 7) y) then 1 else zd h (e + 25) j := by
        intro j
        rw [e8, zd_a (by omega), e7, zd_a (by omega), e6', zd_zw]
        by_cases z : j = zab (zd h (e + 7) y)
        · rw [if_pos ⟨rfl, z⟩, if_pos z]
        · rw [if_neg (by exact fun q => z q.2), if_neg z]
      have v26 : ∀ j, zd h8 (e + 26) j = if j = zab (zd h (e + 7) y) then 1 else zd h (e + 26) j := by
        intro j
        rw [e8, zd_zw, e7, zd_a (by omega), e6', zd_a (by omega)]
        by_cases z : j = zab (zd h (e + 7) y)
        · rw [if_pos ⟨rfl, z⟩, if_pos z]
        · rw [if_neg (by exact fun q => z q.2), if_neg z]
      have v0 : ∀ j, zd h8 e j = if j = 52 then zd h e 52 + (if zd h (e + 26) (zab (zd h (e + 7) y)) = 0 then 1 else 0) else zd h e j := by
        intro j
        rw [e8, zd_a (by omega), e7, zd_zw, e6', zd_a (by omega)]
        by_cases z : j = 52
        · rw [if_pos ⟨rfl, z⟩, if_pos z]
        · rw [if_neg (by exact fun q => z q.2), if_neg z]
      clear e8 e7 e6' w6 m6 h6 h7
      have a11 : zd h8 e 11 = zd h e 11 := by rw [v0, if_neg (by decide)]
      have hs8 : ES e h8 top := hs.cg (by rw [v0, if_neg (by decide)]) a11 (k8 _ (by omega) (by omega) (by omega)) (k8 _ (by omega) (by omega) (by omega)) (k8 _ (by omega) (by omega) (by omega)) (k8 _ (by omega) (by omega) (by omega)) (k8 _ (by omega) (by omega) (by omega)) (k8 _ (by omega) (by omega) (by omega)) (k8 _ (by omega) (by omega) (by omega))
      have g8 : EG e h8 := by
        intro x x0 x1
        rw [a11] at x1
        have := hg x x0 x1
        rw [v25, v26]
        split <;> omega
      have l8 : zd h8 (e + 12) = zd h (e + 12) := k8 _ (by omega) (by omega) (by omega)
      rw [l8]
      have cm : cmk e h8 l = cmk e h l + (if zd h (e + 12) (zab (zd h (e + 7) y)) = l then 1 else 0) := by
        unfold cmk
        rw [a11, l8]
        by_cases z : zd h (e + 12) (zab (zd h (e + 7) y)) = l
        · rw [if_pos z]
          refine zct_one (i := zab (zd h (e + 7) y)) (by omega) (by omega) ?_ ?_ (fun j hj => ?_)
          · rw [if_neg (by exact fun q => by have := q.1; omega)]; decide
          · rw [v25, if_pos rfl, if_pos ⟨rfl, z⟩]
          · rw [v25, if_neg hj]
        · rw [if_neg z]
          rw [zct_congr (g := fun n => if zd h (e + 25) n = 1 ∧ zd h (e + 12) n = l then 1 else 0) (u := 1)]
          · omega
          · intro j j0 j1
            by_cases w : j = zab (zd h (e + 7) y)
            · rw [w, if_neg (by exact fun q => z q.2), if_neg (by exact fun q => z q.2)]
            · rw [v25, if_neg w]
      have cw : cwas e h8 = cwas e h + (if zd h (e + 26) (zab (zd h (e + 7) y)) = 0 then 1 else 0) := by
        unfold cwas
        rw [a11]
        by_cases z : zd h (e + 26) (zab (zd h (e + 7) y)) = 0
        · rw [if_pos z]
          exact zct_one (i := zab (zd h (e + 7) y)) (by omega) (by omega) (by omega) (by rw [v26, if_pos rfl]) (fun j hj => by rw [v26, if_neg hj])
        · rw [if_neg z, zct_congr (g := zd h (e + 26)) (u := 1)]
          · omega
          · intro j j0 j1
            rw [v26]
            by_cases w : j = zab (zd h (e + 7) y)
            · rw [if_pos w, w]; omega
            · rw [if_neg w]
      have lr : (if zd h (e + 12) (zab (zd h (e + 7) y)) = l then (1 : Int) else 0) ≤ 1 ∧ 0 ≤ (if zd h (e + 12) (zab (zd h (e + 7) y)) = l then (1 : Int) else 0) := by split <;> omega
      intro x4 e4
      rw [w32_of (by omega) (by omega)] at e4
      intro x5 e5
      rw [e5, st, e4]
      refine ih f h8 _ (y + 1) hs8 g8 (by rw [A8.t]; exact t29) (by rw [A8.l]; exact l29) ((elaid.cg (by rw [v0, if_neg (by decide)]) (k8 _ (by omega) (by omega) (by omega)) (k8 _ (by omega) (by omega) (by omega))).mpr ls) (by rw [k8 (e + 1) (by omega) (by omega) (by omega), k8 (e + 2) (by omega) (by omega) (by omega)]; omega) (by rw [k8 (e + 1) (by omega) (by omega) (by omega)]; omega) (by omega) (by rw [k8 (e + 1) (by omega) (by omega) (by omega)]; omega) (by rw [k8 (e + 1) (by omega) (by omega) (by omega), v0, if_pos rfl]; omega) (fun r h' u => ?_)
      obtain ⟨u1, u2, u3, u4, u5, u6, u7, u8⟩ := u
      have key := k (r + (if zd h (e + 12) (zab (zd h (e + 7) y)) = l then 1 else 0)) h'
      rw [show n + (if zd h (e + 12) (zab (zd h (e + 7) y)) = l then (1 : Int) else 0) + r = n + (r + (if zd h (e + 12) (zab (zd h (e + 7) y)) = l then 1 else 0)) by omega]
      apply key
      have rh : ∀ x, 1 ≤ x → ((x = zab (zd h (e + 7) y) ∨ rowHas e h8 s but x (y + 1)) ↔ rowHas e h s but x y) := by
        intro x x0
        unfold rowHas
        rw [k8 (e + 1) (by omega) (by omega) (by omega), k8 (e + 2) (by omega) (by omega) (by omega), k8 (e + 7) (by omega) (by omega) (by omega), l8]
        constructor
        · rintro (q | ⟨c', c0, c1, c2'⟩)
          · exact ⟨y, by omega, by omega, q.symm, by rw [q]; exact c, by rw [q]; exact c2⟩
          · exact ⟨c', by omega, c1, c2'⟩
        · rintro ⟨c', c0, c1, c2', c3', c4'⟩
          by_cases z : c' = y
          · rw [z] at c2'; exact Or.inl c2'.symm
          · exact Or.inr ⟨c', by omega, c1, c2', c3', c4'⟩
      refine ⟨(A8.mono (by simp)).tr u1, fun j hj => by rw [u2 j hj, v0, if_neg hj], u3, fun x x0 x1 => ?_, by omega, ?_, fun j hj => by rw [u7 j hj, k8 (e + 29) (by omega) (by omega) (by omega)], fun w b w0 w1 => ?_⟩
      · obtain ⟨w1, w2⟩ := u4 x x0 (by rw [a11]; exact x1)
        rw [v25] at w1
        rw [v26] at w2
        rw [w1, w2]
        have r2 := rh x x0
        by_cases z : x = zab (zd h (e + 7) y)
        · rw [if_pos z, if_pos z]
          have : rowHas e h s but x y := r2.mp (Or.inl z)
          exact ⟨⟨fun _ => Or.inr this, fun _ => Or.inl rfl⟩, ⟨fun _ => Or.inr this, fun _ => Or.inl rfl⟩⟩
        · rw [if_neg z, if_neg z]
          have : rowHas e h8 s but x (y + 1) ↔ rowHas e h s but x y := ⟨fun q => r2.mp (Or.inr q), fun q => (r2.mpr q).resolve_left z⟩
          exact ⟨or_congr Iff.rfl this, or_congr Iff.rfl this⟩
      · have a := v0 52
        rw [if_pos rfl] at a
        omega
      · rw [u8 w b w0 w1, k8 (e + 29) (by omega) (by omega) (by omega)]
        unfold lowE
        rw [k8 (e + 1) (by omega) (by omega) (by omega), k8 (e + 2) (by omega) (by omega) (by omega), k8 (e + 7) (by omega) (by omega) (by omega), l8, k8 (e + 16) (by omega) (by omega) (by omega)]
        refine or_congr Iff.rfl ⟨fun ⟨c', c0, c1, c2'⟩ => ⟨c', by omega, c1, c2'⟩, fun ⟨c', c0, c1, c2', c3', c4'⟩ => ⟨c', ?_, c1, c2', c3', c4'⟩⟩
        by_cases z : c' = y
        · rw [z] at c3'; exact absurd c3' c2
        · omega
    · intro x5 e5
      rw [e5, st]
      have hgx := hg _ ir.1 ir.2
      exact step h (yA.rf _ _) (fun w b w0 w1 => ⟨Or.inl, fun q => q.elim id (fun q => absurd q.2.1 c2)⟩) (fun _ _ => rfl) (Or.inr (Or.inr (by omega)))
