/-! learning: going back, beginning anew -/
theorem MFr.w1 {q b v : Int} {m g : zH} (p : MFr q m g) (hb : b = 161 ∨ b = 162) : MFr q m (zw g b q v) := by
  refine p.tr (MFr.of (l := [b]) ((yA.rf _ g).w (by simp)) (fun c hc => by simp only [List.mem_cons, List.not_mem_nil, or_false] at hc ⊢; omega) (fun c n hc hn j hj => ?_))
  simp only [List.mem_cons, List.not_mem_nil, or_false] at hc
  simp only [List.mem_cons, List.not_mem_nil, or_false, Prod.mk.injEq] at hn
  have : n = 1 := by omega
  subst this
  rw [hc, zd_i (by omega)]
theorem RMs.ww {e q j v b i u : Int} {h m : zH} (p : RMs e q h m) (he : 14 < e) (hj : j ∉ ([10, 11, 20, 21, 22, 25, 26, 28, 37] : List Int)) (hb : b ∉ ([119, 120, 123, 124, 137, 138, 139, 140, 141, 143, 144, 145, 146, 147, 148, 149, 150, 151, 152, 153, 154, 155, 156, 157, 158, 159] : List Int)) (hb1 : b ≠ 101) : RMs e q (zw h e j v) (zw m b i u) :=
  p.cg (fun k hk => zw_f (by simp only [List.mem_cons, List.not_mem_nil, or_false] at hk; omega)) (fun k hk => zd_i (fun x => hj (x ▸ hk))) (fun k _ => zd_a (by omega)) (fun k hk => zw_f (fun x => hb (x ▸ hk))) (fun k _ => zd_a (Ne.symm hb1))
theorem EX.w {e j v : Int} {h : zH} (p : EX e h) (hj : j ≠ 21) : EX e (zw h e j v) :=
  p.cg (fun k hk => zw_f (by simp only [List.mem_cons, List.not_mem_nil, or_false] at hk; omega)) (zd_i (Ne.symm hj))
def L2P (e t top : Int) (h g : zH) : Prop := EInv e g top ∧ EX e g ∧ yA [e, e + 3, e + 4, e + 6, e + 11, e + 14] h g ∧ (∀ j, j ∉ ([20, 21, 35, 39, 40] : List Int) → zd g e j = zd h e j) ∧ (zd g e 21 = t ∨ zd g e 21 = 0) ∧ (zd g e 40 = zd h e 40 ∨ zd g e 40 = zd h e 40 + 1) ∧ ∀ i, 0 ≤ i → i < zd h e 20 → t < zd h (e + 12) (tn e h i) → zd g (e + 11) (tn e h i) = 0
def L2S (e q t : Int) (h g : zH) : Prop := ∀ m, RMs e q h m → R7 e q h m → ∀ (J' : zH → Prop), (∀ m', RMs e q g m' → R7 e q g m' → MFr q m m' → zd m' 167 = zd m 167 → zd m' 155 = zd m 155 → zd m' 160 = zd m 160 → J' m') →
  P_M_goBack q t m (fun _ h37 => (0 ≤ q ∧ q < 2) ∧ (0 ≤ q ∧ q < 2) ∧ ∀ h38 : zH, h38 = zw h37 161 q (w32 ((zd h37 161 q) + 1)) → if zd h38 101 30 ≤ 0 then J' h38 else ((0 ≤ q ∧ q < 2) ∧ (0 ≤ q ∧ q < 2) ∧ P_M_partOfRow (zd h38 162 q) h38 (fun r48 h49 => if zd h38 161 q < w32 ((zd h38 101 30) * r48) then J' h49 else (P_M_goBack q 0 h49 (fun _ h51 => (0 ≤ q ∧ q < 2) ∧ (0 ≤ q ∧ q < 2) ∧ ∀ h52 : zH, h52 = zw h51 162 q (w32 ((zd h51 162 q) + 1)) → (0 ≤ q ∧ q < 2) ∧ ∀ h53 : zH, h53 = zw h52 161 q 0 → (0 ≤ w32 ((w32 (10 * q)) + 5) ∧ w32 ((w32 (10 * q)) + 5) < 20) ∧ (0 ≤ w32 ((w32 (10 * q)) + 5) ∧ w32 ((w32 (10 * q)) + 5) < 20) ∧ ∀ h54 : zH, h54 = zw h53 163 (w32 ((w32 (10 * q)) + 5)) (w32 ((zd h53 163 (w32 ((w32 (10 * q)) + 5))) + 1)) → J' h54)))))
theorem S_l2 {e q t top : Int} {h : zH} {J : zH → Prop} (he : zE e) (q0 : 0 ≤ q) (q1 : q ≤ 1) (I : EInv e h top) (X : EX e h) (t0 : 0 ≤ t) (t1 : t ≤ zd h e 21) (t2 : t < 321) (k0 : 1 ≤ zd h e 40) (k1 : zd h e 40 ≤ 900000) (kk : ∀ g, L2P e t top h g → L2S e q t h g → J g) :
    P_E_back e t h (fun _ h18 => ∀ h19 : zH, h19 = zw h18 e 39 (w32 ((zd h18 e 39) + 1)) → if zd h19 14 26 ≤ 0 then J h19 else (P_E_turnNumber e h19 (fun r26 h27 => if zd h19 e 39 < w32 ((zd h19 14 26) * r26) then J h27 else (P_E_back e 0 h27 (fun _ h29 => ∀ h30 : zH, h30 = zw h29 e 39 0 → ∀ h31 : zH, h31 = zw h30 e 40 (w32 ((zd h30 e 40) + 1)) → ∀ h32 : zH, h32 = zw h31 e 35 (w32 ((zd h31 e 35) + 1)) → J h32))))) := by
  have eR : 25 ≤ e ∧ e ≤ 58 := by rcases he with z | z <;> omega
  refine E_back I X t0 t1 t2 (fun h18 p18 I18 X18 => ?_)
  intro h19 e19
  obtain ⟨hs, hc, hT, hL, hO, t16, l16⟩ := id I
  obtain ⟨b1, b2, b3, b4⟩ := back_EL p18 hs hT hL.1 t0 t1 rfl
  have I19 : EInv e h19 top := by rw [e19]; exact I18.w (by decide) (by decide) (by decide) (by decide)
  have X19 : EX e h19 := by rw [e19]; exact X18.w (by decide)
  have f18 : ∀ j, j ≠ 20 → j ≠ 21 → zd h18 e j = zd h e j := fun j n1 n2 => by rw [p18.2.1, if_neg n1, if_neg n2]
  have f19 : ∀ j, j ≠ 20 → j ≠ 21 → j ≠ 39 → zd h19 e j = zd h e j := fun j n1 n2 n3 => by rw [e19, zd_i n3, f18 j n1 n2]
  have n19 : zd h19 e 21 = t := by rw [e19, zd_i (by decide), p18.2.1, if_neg (by decide), if_pos rfl]
  have k19 : ∀ b, b ≠ e → zd h19 b = zd h18 b := fun b n => by rw [e19, zw_f n]
  have A19 : yA [e, e + 3, e + 4, e + 6, e + 11, e + 14] h h19 := by rw [e19]; exact p18.1.w (by simp)
  have op19 : ∀ i, 0 ≤ i → i < zd h e 20 → t < zd h (e + 12) (tn e h i) → zd h19 (e + 11) (tn e h i) = 0 := by
    intro i i0 i1 i2
    rw [k19 (e + 11) (by omega)]
    exact (p18.2.2.1 i ((b4 i i0 i1).mp i2) i1).1
  have u40 : zd h19 e 40 = zd h e 40 := f19 40 (by decide) (by decide) (by decide)
  have L19 : L2P e t top h h19 := ⟨I19, X19, A19, fun j hj => f19 j (fun x => hj (by rw [x]; decide)) (fun x => hj (by rw [x]; decide)) (fun x => hj (by rw [x]; decide)), Or.inl n19, Or.inl u40, op19⟩
  have M19 : ∀ m, RMs e q h m → R7 e q h m → ∀ (J' : zH → Prop), (∀ m', RMs e q h19 m' → R7 e q h19 m' → MFr q m m' → yA [143, 146, 150, 151, 161] m m' → J' m') → P_M_goBack q t m (fun _ h37 => (0 ≤ q ∧ q < 2) ∧ (0 ≤ q ∧ q < 2) ∧ ∀ h38 : zH, h38 = zw h37 161 q (w32 ((zd h37 161 q) + 1)) → J' h38) := by
    intro m R C J' kj
    refine S_back he q0 q1 I t0 t1 p18 I18.1 R (fun m8 pm R8 F8 R78 => ⟨⟨by omega, by omega⟩, ⟨by omega, by omega⟩, ?_⟩)
    intro m9 e9
    have C8 := R78 C
    refine kj m9 (by rw [e9, e19]; exact R8.ww (by omega) (by decide) (by decide) (by decide)) ?_ (by rw [e9]; exact F8.w1 (Or.inl rfl)) (by rw [e9]; exact (pm.1.mono (by simp)).w (by simp))
    rw [e9, e19]
    obtain ⟨a1, a2, a3, a4, a5, a6, a7, a8, a9, a10⟩ := C8
    unfold R7; simp only [zz, true_and, and_true, ite_true]
    refine ⟨?_, ?_, ?_, ?_, ?_, ?_, ?_, ?_, ?_, ?_⟩ <;> (repeat (first | rw [if_pos (by omega)] | rw [if_neg (by omega)])) <;> simp only [a1, a2, a3, a4, a5, a6, a7, a8, a9, a10]
  have sc : ∀ {m m' : zH}, yA [143, 146, 150, 151, 161] m m' → zd m' 167 = zd m 167 ∧ zd m' 155 = zd m 155 ∧ zd m' 160 = zd m 160 := fun y => ⟨y.f (by decide), y.f (by decide), y.f (by decide)⟩
  refine zif_i (fun c => ?_) (fun c => ?_)
  · refine kk h19 L19 ?_
    intro m R C J' kj
    refine M19 m R C _ (fun m9 R9 C9 F9 A9 => ?_)
    rw [if_pos (show zd m9 101 30 ≤ 0 by have := R9.2.2.2.2.2.2.2.1; omega)]
    exact kj m9 R9 C9 F9 (sc A9).1 (sc A9).2.1 (sc A9).2.2
  · refine E_turn (by omega) (by omega) (zif_i (fun d => ?_) (fun d => ?_))
    · refine kk h19 L19 ?_
      intro m R C J' kj
      refine M19 m R C _ (fun m9 R9 C9 F9 A9 => ?_)
      have s30 := R9.2.2.2.2.2.2.2.1
      rw [if_neg (show ¬ zd m9 101 30 ≤ 0 by omega)]
      obtain ⟨-, -, -, -, -, -, -, -, c39, c40⟩ := id C9
      refine ⟨⟨by omega, by omega⟩, ⟨by omega, by omega⟩, M_turn (by omega) (by omega) ?_⟩
      rw [← c40, ← c39, ← s30, if_pos d]
      exact kj m9 R9 C9 F9 (sc A9).1 (sc A9).2.1 (sc A9).2.2
    · refine E_back I19 X19 (Int.le_refl 0) (by omega) (by decide) (fun h29 p29 I29 X29 => ?_)
      intro h30 e30 h31 e31 h32 e32
      have f29 : ∀ j, j ≠ 20 → j ≠ 21 → zd h29 e j = zd h19 e j := fun j n1 n2 => by rw [p29.2.1, if_neg n1, if_neg n2]
      have v40 : zd h30 e 40 = zd h e 40 := by rw [e30, zd_i (by decide), f29 40 (by decide) (by decide), u40]
      have v35 : zd h31 e 35 = zd h29 e 35 := by rw [e31, zd_i (by decide), e30, zd_i (by decide)]
      have E32 : h32 = zw (zw (zw h29 e 39 0) e 40 (w32 (zd h29 e 40 + 1))) e 35 (w32 (zd h29 e 35 + 1)) := by
        rw [e32, v35, e31, show zd h30 e 40 = zd h29 e 40 from by rw [e30, zd_i (by decide)], e30]
      have I32 : EInv e h32 top := by rw [E32]; exact ((I29.w (by decide) (by decide) (by decide) (by decide)).w (by decide) (by decide) (by decide) (by decide)).w (by decide) (by decide) (by decide) (by decide)
      have X32 : EX e h32 := by rw [E32]; exact ((X29.w (by decide)).w (by decide)).w (by decide)
      have A32 : yA [e, e + 3, e + 4, e + 6, e + 11, e + 14] h h32 := by rw [E32]; exact (((A19.tr p29.1).w (by simp)).w (by simp)).w (by simp)
      have f32 : ∀ j, j ≠ 35 → j ≠ 40 → j ≠ 39 → zd h32 e j = zd h29 e j := fun j n1 n2 n3 => by rw [E32, zd_i n1, zd_i n2, zd_i n3]
      refine kk h32 ⟨I32, X32, A32, fun j hj => ?_, Or.inr ?_, Or.inr ?_, fun i i0 i1 i2 => ?_⟩ ?_
      · have m1 : j ≠ 20 := fun x => hj (by rw [x]; decide)
        have m2 : j ≠ 21 := fun x => hj (by rw [x]; decide)
        have m3 : j ≠ 35 := fun x => hj (by rw [x]; decide)
        have m4 : j ≠ 39 := fun x => hj (by rw [x]; decide)
        have m5 : j ≠ 40 := fun x => hj (by rw [x]; decide)
        rw [f32 j m3 m5 m4, f29 j m1 m2, f19 j m1 m2 m4]
      · rw [f32 21 (by decide) (by decide) (by decide), p29.2.1, if_neg (by decide), if_pos rfl]
      · rw [E32, zd_i (by decide), zd_s, f29 40 (by decide) (by decide), u40, w32_of (by omega) (by omega)]
      · rw [show zd h32 (e + 11) = zd h29 (e + 11) from by rw [E32, zw_f (by omega), zw_f (by omega), zw_f (by omega)]]
        by_cases z : ∃ k, (if zd h19 e 21 ≤ 0 then zd h19 e 20 else zd h19 (e + 18) (0 + 1)) ≤ k ∧ k < zd h19 e 20 ∧ zab (zd h19 (e + 17) k) = tn e h i
        · obtain ⟨k, z0, z1, z2⟩ := z
          rw [← z2]; exact (p29.2.2.1 k z0 z1).1
        · rw [(p29.2.2.2 (tn e h i) (fun k z0 z1 z2 => z ⟨k, z0, z1, z2⟩)).1]
          exact op19 i i0 i1 i2
      · intro m R C J' kj
        refine M19 m R C _ (fun m9 R9 C9 F9 A9 => ?_)
        have s30 := R9.2.2.2.2.2.2.2.1
        rw [if_neg (show ¬ zd m9 101 30 ≤ 0 by omega)]
        obtain ⟨-, -, -, -, -, -, -, -, c39, c40⟩ := id C9
        refine ⟨⟨by omega, by omega⟩, ⟨by omega, by omega⟩, M_turn (by omega) (by omega) ?_⟩
        rw [← c40, ← c39, ← s30, if_neg d]
        refine S_back he q0 q1 I19 (Int.le_refl 0) (by omega) p29 I29.1 R9 (fun m10 pm R10 F10 R710 => ⟨⟨by omega, by omega⟩, ⟨by omega, by omega⟩, ?_⟩)
        have C10 := R710 C9
        intro m11 e11
        refine ⟨⟨by omega, by omega⟩, ?_⟩
        intro m12 e12
        simp only [w32_al, w32_ar, w32_sl, w32_sr, w32_ml, w32_mr]
        rw [w32_of (x := 10 * q + 5) (by omega) (by omega)]
        refine ⟨⟨by omega, by omega⟩, ⟨by omega, by omega⟩, ?_⟩
        intro m13 e13
        have E13 : m13 = zw (zw (zw m10 162 q (w32 (zd m10 162 q + 1))) 161 q 0) 163 (10 * q + 5) (w32 (zd m10 163 (10 * q + 5) + 1)) := by
          rw [e13, show zd m12 163 (10 * q + 5) = zd m10 163 (10 * q + 5) from by rw [e12, zd_a (by decide), e11, zd_a (by decide)], e12, e11]
        have R13 : RMs e q h32 m13 := by
          have E32' : h32 = zw (zw (zw h29 e 39 0) e 40 (w32 (zd h29 e 40 + 1))) e 35 (w32 (zd h29 e 35 + 1)) := E32
          rw [E32', E13]
          exact ((R10.ww (by omega) (by decide) (by decide) (by decide)).ww (by omega) (by decide) (by decide) (by decide)).ww (by omega) (by decide) (by decide) (by decide)
        have C13 : R7 e q h32 m13 := by
          rw [E32, E13]
          obtain ⟨a1, a2, a3, a4, a5, a6, a7, a8, a9, a10⟩ := C10
          unfold R7; simp only [zz, true_and, and_true, ite_true]
          refine ⟨?_, ?_, ?_, ?_, ?_, ?_, ?_, ?_, ?_, ?_⟩ <;> (repeat (first | rw [if_pos (by omega)] | rw [if_neg (by omega)])) <;> simp only [a1, a2, a3, a4, a5, a6, a7, a8, a9, a10]
        have A13 : yA [143, 146, 150, 151, 161, 162, 163] m m13 := by
          rw [E13]; exact ((((A9.mono (by simp)).tr (pm.1.mono (by simp))).w (by simp)).w (by simp)).w (by simp)
        refine kj m13 R13 C13 ?_ (A13.f (by decide)) (A13.f (by decide)) (A13.f (by decide))
        rw [E13]
        exact (((F9.tr F10).w1 (Or.inr rfl)).w1 (Or.inl rfl)).w163 q0 q1 (by omega) (by omega)
