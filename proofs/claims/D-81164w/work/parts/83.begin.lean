/-! the case is laid in an engine: rows and names -/
/-- tags and lengths of the static layout -/
def TG (h : zH) : Prop := ∀ a, 14 ≤ a → a < 175 → zt h a = zstag a ∧ zl h a = zslen a
theorem st_t {h : zH} (st : TG h) {a : Int} (h0 : 14 ≤ a) (h1 : a < 175) : zt h a = zstag a ∧ zl h a = zslen a := st a h0 h1
theorem TG.y {l : List Int} {h h' : zH} (st : TG h) (p : yA l h h') : TG h' := fun a a0 a1 => by rw [p.t, p.l]; exact st a a0 a1
/-- the court's own case is in order -/
def CaseE (h : zH) : Prop := (0 ≤ zd h 14 2 ∧ zd h 14 2 ≤ 300) ∧ (0 ≤ zd h 14 18 ∧ zd h 14 18 ≤ 500) ∧ zd h 23 0 = 0 ∧ (∀ r, 0 ≤ r → r < zd h 14 18 → zd h 23 r ≤ zd h 23 (r + 1)) ∧ zd h 23 (zd h 14 18) ≤ 2500 ∧ (∀ c, 0 ≤ c → c < zd h 23 (zd h 14 18) → eit (zd h 14 2) (zd h 22 c)) ∧ (∀ n, 1 ≤ n → n ≤ zd h 14 2 → (zt h (zd h 15 (n - 1)) = 4 ∧ 175 ≤ zd h 15 (n - 1)) ∧ (0 ≤ zd h (zd h 15 (n - 1)) 1 ∧ zd h (zd h 15 (n - 1)) 1 ≤ 1000) ∧ zd h 15 (n - 1) < zn h) ∧ ∀ i j, 0 ≤ i → i < j → j < zd h 14 2 → zd h 15 i ≠ zd h 15 j
/-- and is the model's -/
def CaseM (h m : zH) : Prop := zd h 14 2 = zd m 101 1 ∧ zd h 14 18 = zd m 101 23 ∧ (∀ r, 0 ≤ r → r ≤ zd h 14 18 → zd h 23 r = zd m 119 r) ∧ (∀ c, 0 ≤ c → c < zd h 23 (zd h 14 18) → zd h 22 c = zd m 120 c) ∧ ∀ n, 1 ≤ n → n ≤ zd h 14 2 → zd h (zd h 15 (n - 1)) 1 = zd m 102 n
theorem case_mono {h : zH} (cs : CaseE h) : ∀ (d : Nat) (r : Int), 0 ≤ r → r + d ≤ zd h 14 18 → 0 ≤ zd h 23 r ∧ zd h 23 r ≤ zd h 23 (r + d) := by
  have nn : ∀ (d : Nat), (d : Int) ≤ zd h 14 18 → 0 ≤ zd h 23 d := by
    intro d
    induction d with
    | zero => intro _; have := cs.2.2.1; simp only [Int.natCast_zero]; omega
    | succ d ih =>
      intro hd
      have a := ih (by omega)
      have b := cs.2.2.2.1 d (by omega) (by omega)
      rw [show ((d + 1 : Nat) : Int) = (d : Int) + 1 by omega]; omega
  intro d
  induction d with
  | zero =>
    intro r r0 r1
    have := nn r.toNat (by omega)
    rw [show ((r.toNat : Nat) : Int) = r by omega] at this
    rw [show r + ((0 : Nat) : Int) = r by omega]; omega
  | succ d ih =>
    intro r r0 r1
    have a := ih r r0 (by omega)
    have b := cs.2.2.2.1 (r + d) (by omega) (by omega)
    rw [show r + ((d + 1 : Nat) : Int) = r + d + 1 by omega]; omega
theorem case_le {h : zH} (cs : CaseE h) {r s : Int} (r0 : 0 ≤ r) (rs : r ≤ s) (s1 : s ≤ zd h 14 18) : 0 ≤ zd h 23 r ∧ zd h 23 r ≤ zd h 23 s := by
  have := case_mono cs (s - r).toNat r r0 (by omega)
  rw [show r + ((s - r).toNat : Int) = s by omega] at this; exact this
/-- which rows stand in an engine, and what they hold -/
def LR (e : Int) (h : zH) (P : Int → Prop) (len : Int → Int) (itm : Int → Int → Int) : Prop := ∀ s, 0 ≤ s → s < 1364 → (zd h (e + 5) s = 1 ↔ P s) ∧ (P s → zd h (e + 2) s = len s ∧ ∀ i, 0 ≤ i → i < len s → zd h (e + 7) (zd h (e + 1) s + i) = itm s i)
theorem LR.imp {e : Int} {h : zH} {P P' : Int → Prop} {len : Int → Int} {itm : Int → Int → Int} (L : LR e h P len itm) (k : ∀ s, 0 ≤ s → s < 1364 → (P s ↔ P' s)) : LR e h P' len itm := by
  intro s s0 s1
  obtain ⟨a, b⟩ := L s s0 s1
  exact ⟨a.trans (k s s0 s1), fun p => b ((k s s0 s1).mpr p)⟩
theorem LR.cg {e : Int} {h h' : zH} {P : Int → Prop} {len : Int → Int} {itm : Int → Int → Int} (L : LR e h P len itm) (ca : ∀ k, k ∈ ([1, 2, 5, 7] : List Int) → zd h' (e + k) = zd h (e + k)) : LR e h' P len itm := by
  unfold LR at *
  rw [ca 1 (by decide), ca 2 (by decide), ca 5 (by decide), ca 7 (by decide)]; exact L
theorem LR_lay {e s a b n top : Int} {h h' : zH} {P : Int → Prop} {len : Int → Int} {itm : Int → Int → Int} (hs : ES e h top) (h0 : top ≤ s) (p : ElayP e s a b n h h') (L : LR e h P len itm) (hl : len s = n) (hi : ∀ i, 0 ≤ i → i < n → itm s i = zd h a (b + i)) : LR e h' (fun x => P x ∨ x = s) len itm := by
  obtain ⟨pA, p0, p1, p2, p5, p7⟩ := p
  intro x x0 x1
  obtain ⟨l1, l2⟩ := L x x0 x1
  by_cases c : x = s
  · refine ⟨⟨fun _ => Or.inr c, fun _ => by rw [p5, if_pos c]⟩, fun _ => ?_⟩
    rw [p2, if_pos c, p1, if_pos c, c, hl]
    refine ⟨rfl, fun i i0 i1 => ?_⟩
    rw [p7, if_pos (by omega), hi i i0 i1, show zd h e 10 + i - zd h e 10 = i by omega]
  · rw [p5, if_neg c, p2, if_neg c, p1, if_neg c]
    refine ⟨⟨fun z => Or.inl (l1.mp z), fun z => l1.mpr (z.resolve_right c)⟩, fun z => ?_⟩
    have z' := z.resolve_right c
    obtain ⟨m1, m2⟩ := l2 z'
    obtain ⟨-, ⟨f0, z0, f1⟩, -⟩ := hs.2.2.2.2.2.1 x (Or.inl ⟨x0, x1, l1.mpr z'⟩)
    refine ⟨m1, fun i i0 i1 => ?_⟩
    rw [p7, if_neg (by omega)]; exact m2 i i0 i1
theorem E_layCase {e w : Int} {h : zH} {Q : Int → zH → Prop} (he : zE e) (st : TG h) (cs : CaseE h) (hs : ES e h 0) (hc : EC e h) (c10 : zd h e 10 = 0) (a11 : zd h e 11 = zd h 14 2) (hw : w = 0 ∨ w = 96) (z5 : ∀ s, 0 ≤ s → s < 1364 → zd h (e + 5) s = 0)
    (k : ∀ h', yA [e, e + 1, e + 2, e + 3, e + 4, e + 5, e + 6, e + 7, e + 8, e + 9, e + 10] h h' → (∀ j, j ≠ 10 → zd h' e j = zd h e j) → (0 ≤ zd h' e 10 ∧ zd h' e 10 ≤ 2500) → ES e h' 500 → EC e h' → LR e h' (fun s => s < zd h 14 18 ∧ (w = 0 ∨ zd h w s = 0)) (fun s => zd h 23 (s + 1) - zd h 23 s) (fun s i => zd h 22 (zd h 23 s + i)) → Q 0 h') : P_E_layCase e w h Q := by
  have eR : 25 ≤ e ∧ e ≤ 58 := by rcases he with z | z <;> omega
  obtain ⟨N1, N2, N3, N4, N5, N6, N7, N8⟩ := id cs
  have t22 : zt h 22 = 50 ∧ zl h 22 = 2500 := st_t st (by decide) (by decide)
  have key : ∀ (d f : Nat) (y : Int) (g : zH), y = zd h 14 18 - d → 0 ≤ y → d < f → yA [e, e + 1, e + 2, e + 3, e + 4, e + 5, e + 6, e + 7, e + 8, e + 9, e + 10] h g → (∀ j, j ≠ 10 → zd g e j = zd h e j) → (0 ≤ zd g e 10 ∧ zd g e 10 ≤ zd h 23 y) → ES e g y → EC e g → LR e g (fun s => s < y ∧ (w = 0 ∨ zd h w s = 0)) (fun s => zd h 23 (s + 1) - zd h 23 s) (fun s i => zd h 22 (zd h 23 s + i)) → P_E_layCase_L2 e w Q f y g := by
    intro d
    induction d with
    | zero =>
      intro f y g hy y0 hf gA gf g10 gs gc gL
      obtain ⟨f, rfl⟩ : ∃ m, f = m + 1 := ⟨f - 1, by omega⟩
      unfold P_E_layCase_L2
      have ey : y = zd h 14 18 := by omega
      rw [gA.d (b := 14) (by simp only [List.mem_cons, List.not_mem_nil, or_false]; omega), if_pos (by omega)]
      rw [ey] at gL gs g10
      exact k g gA gf ⟨g10.1, by omega⟩ (gs.up N2.2 (by decide)) gc gL
    | succ d ih =>
      intro f y g hy y0 hf gA gf g10 gs gc gL
      obtain ⟨f, rfl⟩ : ∃ m, f = m + 1 := ⟨f - 1, by omega⟩
      have c23 : zd g 23 = zd h 23 := gA.f (by simp only [List.mem_cons, List.not_mem_nil, or_false]; omega)
      have c22 : zd g 22 = zd h 22 := gA.f (by simp only [List.mem_cons, List.not_mem_nil, or_false]; omega)
      have mo := case_le cs (r := y) (s := y + 1) y0 (by omega) (by omega)
      have mt := case_le cs (r := y + 1) (s := zd h 14 18) (by omega) (by omega) (Int.le_refl _)
      have st' : w32 (y + 1) = y + 1 := w32_of (by omega) (by omega)
      have skip : (¬ (w = 0 ∨ zd h w y = 0)) → P_E_layCase_J55 e w y g Q (P_E_layCase_L2 e w Q f) := by
        intro no
        unfold P_E_layCase_J55
        rw [st']
        intro x2 ex
        rw [ex]
        refine ih f (y + 1) g (by omega) (by omega) (by omega) gA gf (by omega) (gs.up (by omega) (by omega)) gc (gL.imp (fun s s0 s1 => ⟨fun z => ⟨by omega, z.2⟩, fun z => ⟨?_, z.2⟩⟩))
        by_cases c : s = y
        · rw [c] at z; exact absurd z.2 no
        · omega
      have lay : (w = 0 ∨ zd h w y = 0) → P_E_layCase_J23 e w y g Q (P_E_layCase_L2 e w Q f) := by
        intro yes
        unfold P_E_layCase_J23 P_E_layCase_J55
        rw [st', c23, show zd h 23 (y + 1) = zd h 23 y + (zd h 23 (y + 1) - zd h 23 y) by omega]
        refine ⟨⟨by omega, by omega⟩, ⟨by omega, by omega⟩, ?_⟩
        refine L_lay gs gc (Int.le_refl _) (by omega) (by simp only [List.mem_cons, List.not_mem_nil, or_false]; omega) (by rw [gA.t]; exact t22.1) mo.1 (by omega) (by rw [gA.l, t22.2]; omega) (by rw [gA.l, t22.2]; decide) (by omega) (fun j j0 j1 => by rw [c22, gf 11 (by decide), a11]; exact N6 j (by omega) (by omega)) (fun g2 pl hs2 hc2 => ?_)
        intro x2 ex
        rw [ex]
        have L2 := LR_lay gs (Int.le_refl _) pl gL rfl (fun i i0 i1 => by rw [c22])
        refine ih f (y + 1) g2 (by omega) (by omega) (by omega) (gA.tr pl.1) (fun j hj => by rw [pl.2.1, if_neg hj]; exact gf j hj) (by rw [pl.2.1, if_pos rfl]; omega) hs2 hc2 (L2.imp (fun s s0 s1 => ⟨fun z => ?_, fun z => ?_⟩))
        · rcases z with z | z
          · exact ⟨by omega, z.2⟩
          · rw [z]; exact ⟨by omega, yes⟩
        · by_cases c : s = y
          · exact Or.inr c
          · exact Or.inl ⟨by omega, z.2⟩
      unfold P_E_layCase_L2
      rw [gA.d (b := 14) (by simp only [List.mem_cons, List.not_mem_nil, or_false]; omega), if_neg (by omega)]
      refine zif_i (fun c => lay (Or.inl c)) (fun c => ?_)
      have w96 : w = 96 := hw.resolve_left c
      have gw : zd g w = zd h w := by rw [w96]; exact gA.f (by simp only [List.mem_cons, List.not_mem_nil, or_false]; omega)
      have t96 : zt h 96 = 52 ∧ zl h 96 = 500 := st_t st (by decide) (by decide)
      rw [gw]
      refine ⟨⟨by rw [w96, gA.t]; exact t96.1, y0, by rw [w96, gA.l, t96.2]; omega⟩, zif_i (fun c2 => lay (Or.inr c2)) (fun c2 => skip (fun x => x.elim c c2))⟩
  unfold P_E_layCase
  refine ⟨(zd h 14 18).toNat + 1, key (zd h 14 18).toNat _ 0 h (by omega) (by decide) (by omega) (yA.rf _ _) (fun _ _ => rfl) (by omega) hs hc (fun s s0 s1 => ?_)⟩
  exact ⟨⟨fun z => by have := z5 s s0 s1; omega, fun z => by omega⟩, fun z => by omega⟩
/-- nothing is tried yet -/
theorem E_empty {e top : Int} {h : zH} (hs : ES e h top) (hc : EC e h) (t0 : zd h e 20 = 0) (n0 : zd h e 21 = 0) (v0 : ∀ n, 1 ≤ n → n ≤ zd h e 11 → zd h (e + 11) n = 0) (t16 : zt h (e + 16) = 53) (l16 : zl h (e + 16) = 2408) : EInv e h top ∧ EX e h := by
  refine ⟨⟨hs, hc, ⟨by omega, fun i i0 i1 => by omega, fun i j i0 i1 i2 => by omega⟩, ⟨⟨by omega, fun i i0 i1 => by omega, fun l l0 l1 => by omega, fun n n0 n1 z => absurd (v0 n n0 n1) z⟩, fun l l0 l1 => by omega⟩, fun i i0 i1 => by omega, t16, l16⟩, fun L L0 L1 => by omega⟩
