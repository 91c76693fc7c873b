/-! forcing: the whole of it -/
def RMs (e q : Int) (h m : zH) : Prop := MRows m q (zd h e 11) ∧ R2 e q h m ∧ R3 e q h m ∧ R4 e q h m ∧ R5 e q h m ∧ R6 e q h m ∧ R8 e q h m ∧ R9 e q h m
theorem RMs.cg {e q : Int} {h m h' m' : zH} (p : RMs e q h m) (ca : ∀ k, k ∈ ([1, 2, 5, 7, 11, 12, 13, 14, 15, 16, 17, 19, 20, 21] : List Int) → zd h' (e + k) = zd h (e + k)) (cf : ∀ k, k ∈ ([10, 11, 20, 21, 22, 25, 26, 28, 37] : List Int) → zd h' e k = zd h e k) (cg : ∀ k, k ∈ ([26, 27] : List Int) → zd h' 14 k = zd h 14 k) (cb : ∀ k, k ∈ ([119, 120, 123, 124, 137, 138, 139, 140, 141, 143, 144, 145, 146, 147, 148, 149, 150, 151, 152, 153, 154, 155, 156, 157, 158, 159] : List Int) → zd m' k = zd m k) (cc : ∀ k, k ∈ ([30, 31, 58, 66, 67] : List Int) → zd m' 101 k = zd m 101 k) : RMs e q h' m' := by
  obtain ⟨p1, p2, p3, p4, p5, p6, p8, p9⟩ := p
  refine ⟨?_, p2.cg (fun k hk => ca k (by simp only [List.mem_cons, List.not_mem_nil, or_false] at hk ⊢; omega)) (fun k hk => cf k (by simp only [List.mem_cons, List.not_mem_nil, or_false] at hk ⊢; omega)) (fun k hk => cb k (by simp only [List.mem_cons, List.not_mem_nil, or_false] at hk ⊢; omega)), p3.cg (fun k hk => ca k (by simp only [List.mem_cons, List.not_mem_nil, or_false] at hk ⊢; omega)) (fun k hk => cb k (by simp only [List.mem_cons, List.not_mem_nil, or_false] at hk ⊢; omega)) (fun k hk => cc k (by simp only [List.mem_cons, List.not_mem_nil, or_false] at hk ⊢; omega)), p4.cg (fun k hk => ca k (by simp only [List.mem_cons, List.not_mem_nil, or_false] at hk ⊢; omega)) (fun k hk => cf k (by simp only [List.mem_cons, List.not_mem_nil, or_false] at hk ⊢; omega)) (fun k hk => cb k (by simp only [List.mem_cons, List.not_mem_nil, or_false] at hk ⊢; omega)), p5.cg (fun k hk => ca k (by simp only [List.mem_cons, List.not_mem_nil, or_false] at hk ⊢; omega)) (fun k hk => cf k (by simp only [List.mem_cons, List.not_mem_nil, or_false] at hk ⊢; omega)) (fun k hk => cb k (by simp only [List.mem_cons, List.not_mem_nil, or_false] at hk ⊢; omega)), p6.cg (fun k hk => ca k (by simp only [List.mem_cons, List.not_mem_nil, or_false] at hk ⊢; omega)) (fun k hk => cf k (by simp only [List.mem_cons, List.not_mem_nil, or_false] at hk ⊢; omega)) (fun k hk => cb k (by simp only [List.mem_cons, List.not_mem_nil, or_false] at hk ⊢; omega)), p8.cg (fun k hk => ca k (by simp only [List.mem_cons, List.not_mem_nil, or_false] at hk ⊢; omega)) (fun k hk => cf k (by simp only [List.mem_cons, List.not_mem_nil, or_false] at hk ⊢; omega)) (fun k hk => cb k (by simp only [List.mem_cons, List.not_mem_nil, or_false] at hk ⊢; omega)), p9.cg (fun k hk => cc k (by simp only [List.mem_cons, List.not_mem_nil, or_false] at hk ⊢; omega)) cg⟩
  rw [cf 11 (by decide)]
  refine p1.cg ?_ (fun k hk => cb k (by simp only [List.mem_cons, List.not_mem_nil, or_false] at hk ⊢; omega)) (fun k hk => cc k (by simp only [List.mem_cons, List.not_mem_nil, or_false] at hk ⊢; omega))
  unfold MV
  rw [cb 143 (by decide)]; exact p1.1
theorem RMs.MF {e q : Int} {h m g : zH} (p : RMs e q h m) (f : MF m g) : RMs e q h g :=
  p.cg (fun _ _ => rfl) (fun _ _ => rfl) (fun _ _ => rfl) (fun k hk => f.f (by simp only [List.mem_cons, List.not_mem_nil, or_false] at hk; omega)) (fun k hk => f.2 k (by simp only [List.mem_cons, List.not_mem_nil, or_false] at hk; omega) (by simp only [List.mem_cons, List.not_mem_nil, or_false] at hk; omega) (by simp only [List.mem_cons, List.not_mem_nil, or_false] at hk; omega) (by simp only [List.mem_cons, List.not_mem_nil, or_false] at hk; omega))
theorem R7.MF {e q : Int} {h m g : zH} (p : R7 e q h m) (f : MF m g) : R7 e q h g :=
  p.cg (fun _ _ => rfl) (fun k hk => f.f (by simp only [List.mem_cons, List.not_mem_nil, or_false] at hk; omega)) (fun k hk => f.2 k (by simp only [List.mem_cons, List.not_mem_nil, or_false] at hk; omega) (by simp only [List.mem_cons, List.not_mem_nil, or_false] at hk; omega) (by simp only [List.mem_cons, List.not_mem_nil, or_false] at hk; omega) (by simp only [List.mem_cons, List.not_mem_nil, or_false] at hk; omega))
theorem MF.fr {m g : zH} (f : MF m g) (q : Int) : MFr q m g := by
  refine ⟨⟨f.1.1, f.1.2.1, f.1.2.2.1, fun b j hb => f.1.d (by simp only [List.mem_cons, List.not_mem_nil, or_false]; omega) j⟩, fun b hb => f.f (by simp only [List.mem_cons, List.not_mem_nil, or_false] at hb; omega), fun j hj => ?_, fun _ => ⟨f.2 91 (by decide) (by decide) (by decide) (by decide), f.2 94 (by decide) (by decide) (by decide) (by decide), f.2 96 (by decide) (by decide) (by decide) (by decide), f.f (by decide), f.f (by decide), f.f (by decide), f.f (by decide)⟩, fun b n hb j _ => by rw [f.f (c := b) (by simp only [List.mem_cons, List.not_mem_nil, or_false, Prod.mk.injEq] at hb; omega)]⟩
  simp only [List.mem_cons, List.not_mem_nil, or_false] at hj
  exact f.2 j (by omega) (by omega) (by omega) (by omega)
/-- what is found, here and there -/
def FMatch (r : Int) (g : zH) : Prop := (r = -1005 ∧ zd g 101 98 = -1005 ∧ zd g 101 99 = -1005) ∨ (0 ≤ r ∧ r < 1364 ∧ zd g 101 98 = num r)
theorem fq_q {e q top r : Int} {h m g : zH} (hs : ES e h top) (hc : EC e h) (p : RMs e q h m) (r0 : 0 ≤ r) (r1 : r < 1364) (hq : Equar e h r) (mn : ∀ s, 0 ≤ s → s < r → ¬ Equar e h s) (hf : findR m q g) : MF m g ∧ zd g 101 98 = num r := by
  obtain ⟨p1, p2, p3, -⟩ := p
  have ht : zd h (e + 5) r = 1 := (hs.2.2.2.2.2.2 r r0 r1).resolve_left hq.1
  have l := (p3.1 r r0 r1 ht).1
  have mq := (bz_q hs hc p2 p3 r0 r1 ht).mp hq
  have nr := num_r r0 r1
  rcases hf with ⟨f1, f2, f3, f4⟩ | ⟨f1, f2, f3, f4⟩
  · refine ⟨f1, ?_⟩
    obtain ⟨s, s0, s1, s2, s3⟩ := p3.2 _ f2
    rw [← s3] at f3 f4 ⊢
    have sq := (bz_q hs hc p2 p3 s0 s1 s2).mpr f3
    have a1 : ¬ s < r := fun c => mn s s0 c sq
    have a2 : ¬ num r < num s := fun c => f4 (num r) c l mq
    have a3 : ¬ r < s := fun c => a2 ((num_lt r0 s1).mp c)
    have : s = r := by omega
    rw [this]
  · exact absurd mq (f3 (num r) (by omega) l)
theorem fq_n {e q top : Int} {h m g : zH} (hs : ES e h top) (hc : EC e h) (p : RMs e q h m) (nq : ∀ s, 0 ≤ s → s < 1364 → ¬ Equar e h s) (hf : findR m q g) : findI m q 2800 g := by
  obtain ⟨p1, p2, p3, -⟩ := p
  rcases hf with ⟨f1, f2, f3, f4⟩ | f
  · obtain ⟨s, s0, s1, s2, s3⟩ := p3.2 _ f2
    rw [← s3] at f3
    exact absurd ((bz_q hs hc p2 p3 s0 s1 s2).mpr f3) (nq s s0 s1)
  · exact f
theorem ff_n {e q top : Int} {h m g : zH} (hs : ES e h top) (hc : EC e h) (p : RMs e q h m) (nq : ∀ s, 0 ≤ s → s < 1364 → ¬ Ehot e h s) (hf : findI m q 2800 g) : MF m g ∧ zd g 101 98 = -1005 ∧ zd g 101 99 = -1005 := by
  obtain ⟨p1, p2, p3, -⟩ := p
  obtain ⟨f1, f2, f3, f4⟩ := hf
  refine ⟨f1, f2, ?_⟩
  rcases f4 with ⟨a, _⟩ | ⟨a1, a2, a3, a4⟩
  · exact a
  · obtain ⟨s, s0, s1, s2, s3⟩ := p3.2 _ a2
    rw [← s3] at a3
    exact absurd ((bz_f hs hc p2 p3 s0 s1 s2).mpr ⟨_, a3⟩).1 (nq s s0 s1)
theorem ff_s {e q top r : Int} {h m g : zH} (hs : ES e h top) (hc : EC e h) (p : RMs e q h m) (nq : ∀ s, 0 ≤ s → s < 1364 → ¬ Equar e h s) (r0 : 0 ≤ r) (r1 : r < 1364) (hh : Ehot e h r) (mn : ∀ s, 0 ≤ s → s < r → ¬ Ehot e h s) (hf : findI m q 2800 g) : MF m g ∧ zd g 101 98 = -1005 ∧ zd g 101 99 = num r ∧ mf1 m q (num r) (zd g 101 100) := by
  obtain ⟨p1, p2, p3, -⟩ := p
  obtain ⟨f1, f2, f3, f4⟩ := hf
  have ht : zd h (e + 5) r = 1 := (hs.2.2.2.2.2.2 r r0 r1).resolve_left hh.1
  have l := (p3.1 r r0 r1 ht).1
  have nr := num_r r0 r1
  obtain ⟨u, fu⟩ := (bz_f hs hc p2 p3 r0 r1 ht).mp ⟨hh, nq r r0 r1⟩
  refine ⟨f1, f2, ?_⟩
  rcases f4 with ⟨_, a⟩ | ⟨a1, a2, a3, a4⟩
  · exact absurd fu (a (num r) u (by omega) l)
  · obtain ⟨s, s0, s1, s2, s3⟩ := p3.2 _ a2
    rw [← s3] at a3 a4 ⊢
    have sh := ((bz_f hs hc p2 p3 s0 s1 s2).mpr ⟨_, a3⟩).1
    have b1 : ¬ s < r := fun c => mn s s0 c sh
    have b2 : ¬ num r < num s := fun c => a4 (num r) u c l fu
    have b3 : ¬ r < s := fun c => b2 ((num_lt r0 s1).mp c)
    have : s = r := by omega
    rw [this] at a3 ⊢
    exact ⟨rfl, a3⟩
/-- the engine behind a forced name -/
theorem E_forced {e top s : Int} {h : zH} {K : Int → zH → Prop} (p : EInv e h top) (s0 : 0 ≤ s) (s1 : s < 1364) (hh : Ehot e h s) (nq : ¬ Equar e h s)
    (k : ∀ c h', zd h (e + 1) s ≤ c → c < zd h (e + 1) s + zd h (e + 2) s → est e h (zd h (e + 7) c) = 0 → EsetP e (zd h (e + 7) c) s h h' → EInv e h' top → K 0 h') : P_E_openOf e s h (fun r h2 => P_E_set e r s h2 K) := by
  obtain ⟨ls, ht, hx, hrow⟩ := hot_row p s0 s1 hh nq
  obtain ⟨hs, hc, hT, hL, hO, t16, l16⟩ := p
  obtain ⟨-, ⟨f0, z0, f1⟩, -⟩ := hs.2.2.2.2.2.1 s ls
  refine L_openOf hs ls hx (fun c k0 k1 k2 => ?_)
  have it := (hs.2.2.2.2.1 c (by omega) (by omega)).1
  have room := tr_room hs hT it k2
  have A3 := hs.1
  refine L_set hs hc it k2 hT.1.1 (by omega) (fun _ => ⟨ls, t16, l16⟩) (fun h' q1 q2 q3 => k c h' k0 k1 k2 q1 ⟨q2, q3, set_ET q1 hs hT it k2 (by omega), set_EL q1 hs hT it k2 hL.1 (fun l l0 l1 => Or.inl (hL.2 l l0 l1)), set_EO q1 hs hT it k2 hO (Or.inr ⟨⟨s0, s1, ht⟩, fun q => (hL.2 _ q (Int.le_refl _)).1, ⟨c, k0, k1, rfl⟩, fun c' j0 j1 j2 => (hrow c k0 k1 k2 c' j0 j1 j2).2⟩), by rw [q1.1.t]; exact t16, by rw [q1.1.l]; exact l16⟩)
/-- the model behind a forced name -/
theorem S_forced {e q top s c : Int} {h h' m m' : zH} (q0 : 0 ≤ q) (q1 : q ≤ 1) (p : EInv e h top) (s0 : 0 ≤ s) (s1 : s < 1364) (hh : Ehot e h s) (nq : ¬ Equar e h s) (k0 : zd h (e + 1) s ≤ c) (k1 : c < zd h (e + 1) s + zd h (e + 2) s) (k2 : est e h (zd h (e + 7) c) = 0) (pe : EsetP e (zd h (e + 7) c) s h h') (he : e + 32 < 101) (he0 : 14 < e) (r : RMs e q h m) (pm : MbecP q (zd h (e + 7) c) (num s) m m') : RMs e q h' m' := by
  obtain ⟨ls, ht, hx, hrow⟩ := hot_row p s0 s1 hh nq
  obtain ⟨hs, hc, hT, hL, hO, t16, l16⟩ := p
  obtain ⟨-, ⟨f0, z0, f1⟩, -⟩ := hs.2.2.2.2.2.1 s ls
  have it := (hs.2.2.2.2.1 c (by omega) (by omega)).1
  obtain ⟨r1, r2, r3, r4, r5, r6, r8, r9⟩ := r
  have both := S_set q0 q1 hs hT it k2 pe pm (Or.inr ⟨s0, s1, rfl⟩) (fun z => ⟨⟨s0, s1, ht⟩, fun c' j0 j1 j2 => by
    obtain ⟨g1, j, g2, g3, g4⟩ := hrow c k0 k1 k2 c' j0 j1 (fun x => j2 (by rw [x]))
    have i' := (hs.2.2.2.2.1 c' (by omega) (by omega)).1
    have vn : zd h (e + 11) (zab (zd h (e + 7) c')) ≠ 0 := by rw [est_ab e h i'] at g1; split at g1 <;> omega
    refine ⟨vn, ?_⟩
    have lv := hL.1.2.1 j g2 g3
    unfold tn at lv
    rw [g4, zab_neg] at lv
    omega⟩) r1 r2 r3 r5 r6
  have ca : ∀ k, k ∈ ([1, 2, 5, 7, 14, 15, 19, 20, 21] : List Int) → zd h' (e + k) = zd h (e + k) := fun k hk => pe.1.f (by simp only [List.mem_cons, List.not_mem_nil, or_false] at hk ⊢; omega)
  have cf : ∀ k, k ∈ ([10, 11, 21, 22, 25, 26, 28, 34, 37] : List Int) → zd h' e k = zd h e k := fun k hk => by rw [pe.2.2.2.2.2.1, if_neg (by simp only [List.mem_cons, List.not_mem_nil, or_false] at hk; omega)]
  have cb : ∀ k, k ∈ ([119, 120, 123, 124, 137, 138, 139, 140, 141, 146, 147, 148, 151, 152, 153, 154, 155, 156, 157, 158] : List Int) → zd m' k = zd m k := fun k hk => pm.1.f (by simp only [List.mem_cons, List.not_mem_nil, or_false] at hk ⊢; omega)
  have cc : ∀ k, zd m' 101 k = zd m 101 k := fun k => pm.1.d (by decide) k
  have cg : ∀ k, zd h' 14 k = zd h 14 k := fun k => pe.1.d (by simp only [List.mem_cons, List.not_mem_nil, or_false]; omega) k
  have e11 : zd h' e 11 = zd h e 11 := cf 11 (by decide)
  have hs' : zd h' e 11 = zd h e 11 := e11
  refine ⟨?_, both.1, r3.cg (fun k hk => ca k (by simp only [List.mem_cons, List.not_mem_nil, or_false] at hk ⊢; omega)) (fun k hk => cb k (by simp only [List.mem_cons, List.not_mem_nil, or_false] at hk ⊢; omega)) (fun k _ => cc k), r4.cg (fun k hk => ca k (by simp only [List.mem_cons, List.not_mem_nil, or_false] at hk ⊢; omega)) (fun k hk => cf k (by simp only [List.mem_cons, List.not_mem_nil, or_false] at hk ⊢; omega)) (fun k hk => cb k (by simp only [List.mem_cons, List.not_mem_nil, or_false] at hk ⊢; omega)), r5.cg (fun k hk => ca k (by simp only [List.mem_cons, List.not_mem_nil, or_false] at hk ⊢; omega)) (fun k hk => cf k (by simp only [List.mem_cons, List.not_mem_nil, or_false] at hk ⊢; omega)) (fun k hk => cb k (by simp only [List.mem_cons, List.not_mem_nil, or_false] at hk ⊢; omega)), both.2, r8.cg (fun k hk => ca k (by simp only [List.mem_cons, List.not_mem_nil, or_false] at hk ⊢; omega)) (fun k hk => cf k (by simp only [List.mem_cons, List.not_mem_nil, or_false] at hk ⊢; omega)) (fun k hk => cb k (by simp only [List.mem_cons, List.not_mem_nil, or_false] at hk ⊢; omega)), r9.cg (fun k _ => cc k) (fun k _ => cg k)⟩
  rw [e11]
  refine r1.cg ⟨hs.1, fun n n0 n1 => ?_⟩ (fun k hk => cb k (by simp only [List.mem_cons, List.not_mem_nil, or_false] at hk ⊢; omega)) (fun k _ => cc k)
  have := both.1.1 n n0 (by rw [e11]; exact n1)
  unfold vrel at this; omega
theorem Mbec.fr {q A x why : Int} {m m' : zH} (q0 : 0 ≤ q) (q1 : q ≤ 1) (hA : A ≤ 300) (hx : eit A x) (t0 : 0 ≤ zd m 150 q) (t1 : zd m 150 q < 300) (p : MbecP q x why m m') : MFr q m m' := by
  have xr := zab_r hx
  obtain ⟨mA, m3, m4, m5, m9, m10, ms1, ms2⟩ := p
  refine ⟨⟨mA.1, mA.2.1, mA.2.2.1, fun b j hb => mA.d (by simp only [List.mem_cons, List.not_mem_nil, or_false]; omega) j⟩, fun b hb => mA.f (by simp only [List.mem_cons, List.not_mem_nil, or_false] at hb ⊢; omega), fun j _ => mA.d (by decide) j, fun _ => ⟨mA.d (by decide) _, mA.d (by decide) _, mA.d (by decide) _, mA.f (by decide), mA.f (by decide), mA.f (by decide), mA.f (by decide)⟩, fun b n hb j hj => ?_⟩
  have s159 : ∀ j, j < 2408 * q ∨ 2408 * q + 2408 ≤ j → zd m' 159 j = zd m 159 j := by
    intro j hj
    by_cases d : zd m 151 q ≠ 0 ∨ why < 0
    · rw [ms1 d]
    · exact (ms2 (by omega) (by omega)).1 _ (by omega)
  simp only [List.mem_cons, List.not_mem_nil, or_false, Prod.mk.injEq] at hb
  rcases hb with ⟨rfl, rfl⟩ | ⟨rfl, rfl⟩ | ⟨rfl, rfl⟩ | ⟨rfl, rfl⟩ | ⟨rfl, rfl⟩ | ⟨rfl, rfl⟩ | ⟨rfl, rfl⟩ | ⟨rfl, rfl⟩ | ⟨rfl, rfl⟩ | ⟨rfl, rfl⟩ | ⟨rfl, rfl⟩ | ⟨rfl, rfl⟩ | ⟨rfl, rfl⟩ | ⟨rfl, rfl⟩ | ⟨rfl, rfl⟩ | ⟨rfl, rfl⟩ | ⟨rfl, rfl⟩ | ⟨rfl, rfl⟩ | ⟨rfl, rfl⟩ | ⟨rfl, rfl⟩
  · rw [m3, if_neg (by omega)]
  · rw [m4, if_neg (by omega)]
  · rw [m5, if_neg (by omega)]
  · exact mA.d (by decide) j
  · exact mA.d (by decide) j
  · exact mA.d (by decide) j
  · rw [m9, if_neg (by omega)]
  · rw [m10, if_neg (by omega)]
  · exact mA.d (by decide) j
  · exact mA.d (by decide) j
  · exact mA.d (by decide) j
  · exact mA.d (by decide) j
  · exact mA.d (by decide) j
  · exact mA.d (by decide) j
  · exact mA.d (by decide) j
  · exact mA.d (by decide) j
  · exact s159 j hj
  · exact mA.d (by decide) j
  · exact mA.d (by decide) j
  · exact mA.d (by decide) j
