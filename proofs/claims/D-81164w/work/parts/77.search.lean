/-! searching: turn by turn, here and there -/
def Rel (e q : Int) (h m : zH) : Prop := RMs e q h m ∧ R7 e q h m ∧ zd m 155 q = zd h e 25 ∧ (q = 0 → RQ e h m)
theorem Rel.fr {e q : Int} {h h' m m' : zH} (p : Rel e q h m) (R : RMs e q h' m') (C : R7 e q h' m') (F : MFr q m m') (c25 : zd h' e 25 = zd h e 25) (c22 : zd h' (e + 22) = zd h (e + 22)) (c42 : zd h' e 42 = zd h e 42) : Rel e q h' m' := by
  obtain ⟨a1, a2, a3, a4, a5, a6, a7⟩ := F.2.2.2.1 trivial
  exact ⟨R, C, by rw [a7, c25]; exact p.2.2.1, fun z => (p.2.2.2 z).cg c22 c42 a4 a1⟩
/-- the model, from what is related to h, comes to a place related to h', where G is owed -/
def Conn (e q : Int) (h h' : zH) (C : zH → Prop) (G : (Int → zH → Prop) → zH → Prop) : Prop := ∀ m, Rel e q h m → ∀ (n : Nat) (Q' : Int → zH → Prop), zd h e 31 + 1 < n → (∀ m', Rel e q h' m' → MFw q m m' → C m' → G Q' m') → P_M_solving_L3 q Q' n 7 m
def Turn (e q : Int) (h h1 : zH) : Prop := ∀ m, Rel e q h m → ∀ K : Int → zH → Prop, (∀ m1, Rel e q h1 m1 → MFw q m m1 → K 7 m1) → P_M_oneTurn q m K
theorem conn_comp {e q : Int} {h h1 h' : zH} {C : zH → Prop} {G : (Int → zH → Prop) → zH → Prop} (T : Turn e q h h1) (l : zd h1 e 31 < zd h e 31) (l0 : 0 ≤ zd h1 e 31) (c : Conn e q h1 h' C G) : Conn e q h h' C G := by
  intro m R n Q' hn kk
  obtain ⟨n, rfl⟩ : ∃ k, n = k + 1 := ⟨n - 1, by omega⟩
  unfold P_M_solving_L3
  rw [if_pos rfl]
  refine T m R _ (fun m1 R1 F1 => ?_)
  exact c m1 R1 n Q' (by omega) (fun m' R' F' c' => kk m' R' (F1.tr F') c')
theorem conn_end {e q : Int} {h h' : zH} {C : zH → Prop} {G : (Int → zH → Prop) → zH → Prop} (l0 : 0 ≤ zd h e 31) (T : ∀ m, Rel e q h m → ∀ (n : Nat) (Q' : Int → zH → Prop), (∀ m', Rel e q h' m' → MFw q m m' → C m' → G Q' m') → (∀ r m'', r ≠ 7 → Q' r m'' → P_M_solving_L3 q Q' (n + 1) r m'') → P_M_oneTurn q m (fun r1 h2 => P_M_solving_L3 q Q' (n + 1) r1 h2)) : Conn e q h h' C G := by
  intro m R n Q' hn kk
  obtain ⟨n, rfl⟩ : ∃ k, n = k + 2 := ⟨n - 2, by omega⟩
  unfold P_M_solving_L3
  rw [if_pos rfl]
  refine T m R n Q' kk (fun r m'' r7 hq => ?_)
  unfold P_M_solving_L3
  rw [if_neg r7]; exact hq
theorem FFr.si {e : Int} {h h' : zH} (he : zE e) (p : SI e h) (I' : EInv e h' (564 + zd h e 25)) (X' : EX e h') (F : FFr e h h') : SI e h' := by
  have eR : 25 ≤ e ∧ e ≤ 58 := by rcases he with z | z <;> omega
  obtain ⟨⟨p1, p2, p3, p4, p5, p6, p7, p8⟩, t0, t1⟩ := p
  obtain ⟨fA, ff, -, -⟩ := F
  have c : ∀ k, k ≠ 20 → k ≠ 30 → k ≠ 31 → k ≠ 32 → zd h' e k = zd h e k := ff
  unfold SI SI0 EW EAs
  rw [c 25 (by decide) (by decide) (by decide) (by decide), c 26 (by decide) (by decide) (by decide) (by decide), c 10 (by decide) (by decide) (by decide) (by decide), c 11 (by decide) (by decide) (by decide) (by decide), c 37 (by decide) (by decide) (by decide) (by decide), c 36 (by decide) (by decide) (by decide) (by decide), c 22 (by decide) (by decide) (by decide) (by decide), c 28 (by decide) (by decide) (by decide) (by decide), c 40 (by decide) (by decide) (by decide) (by decide), fA.f (b := e + 5) (by simp only [List.mem_cons, List.not_mem_nil, or_false]; omega), fA.f (b := e + 15) (by simp only [List.mem_cons, List.not_mem_nil, or_false]; omega), fA.f (b := e + 18) (by simp only [List.mem_cons, List.not_mem_nil, or_false]; omega), fA.f (b := e + 21) (by simp only [List.mem_cons, List.not_mem_nil, or_false]; omega), fA.t, fA.l, fA.t, fA.l]
  exact ⟨⟨I', X', p3, p4, p5, p6, p7, p8⟩, t0, t1⟩
/-- forcing, the model's turn up to what is found -/
theorem M_turn0 {e q r : Int} {h h3 : zH} (he : zE e) (q0 : 0 ≤ q) (q1 : q ≤ 1) (hs : 0 ≤ zd h e 20) (F : FFr e h h3) (fs : FSim e q h r h3) {m : zH} (R : Rel e q h m) {K : Int → zH → Prop} (k0 : r = -1004 → ∀ g', Rel e q h3 g' → MFr q m g' → K (-1004) g') (k1 : r ≠ -1004 → ∀ g', Rel e q h3 g' → MFr q m g' → FMatch r g' → P_M_oneTurn_J67 q g' K) : P_M_oneTurn q m K := by
  have eR : 25 ≤ e ∧ e ≤ 58 := by rcases he with z | z <;> omega
  obtain ⟨fA, ff, -, -⟩ := F
  have c25 : zd h3 e 25 = zd h e 25 := ff 25 (by decide) (by decide) (by decide) (by decide)
  have c42 : zd h3 e 42 = zd h e 42 := ff 42 (by decide) (by decide) (by decide) (by decide)
  have c22 : zd h3 (e + 22) = zd h (e + 22) := fA.f (by simp only [List.mem_cons, List.not_mem_nil, or_false]; omega)
  unfold P_M_oneTurn
  refine M_find q0 q1 R.1.1 (fun g fr => ⟨302, fs m g R.1 R.2.1 fr 302 K _ (by omega) (fun z g' a b c => k0 z g' (R.fr a b c c25 c22 c42) c) (fun z g' a b c d => k1 z g' (R.fr a b c c25 c22 c42) c d)⟩)
theorem pick {e q r a s : Int} {h m : zH} (hc : EC e h) (ea : EAs e h) (R : RMs e q h m) (hE : (r = 0 ∧ ∀ k, 0 ≤ k → k < zd h e 28 → est e h (zd h (e + 21) k) = 1) ∨ ∃ k, 0 ≤ k ∧ k < zd h e 28 ∧ r = zd h (e + 21) k ∧ est e h r ≠ 1 ∧ ∀ j, 0 ≤ j → j < k → est e h (zd h (e + 21) j) = 1)
    (hM : (s = 1 ∧ ∀ k, 0 ≤ k → k < zd m 141 q → mst m q (zd m 140 (20 * q + k)) = 1) ∨ ∃ k, 0 ≤ k ∧ k < zd m 141 q ∧ a = zd m 140 (20 * q + k) ∧ s = mst m q a ∧ s ≠ 1 ∧ ∀ j, 0 ≤ j → j < k → mst m q (zd m 140 (20 * q + j)) = 1) : (r = 0 ∧ s = 1) ∨ (a = r ∧ ((est e h r = 0 ∧ s = 2) ∨ (est e h r = -1 ∧ s = 0))) := by
  obtain ⟨⟨b1, b2, b3⟩, b4⟩ := R.2.2.2.2.2.2.1
  have st : ∀ k, 0 ≤ k → k < zd h e 28 → zd h (e + 21) k = zd m 140 (20 * q + k) ∧ (est e h (zd h (e + 21) k) = 1 ↔ mst m q (zd h (e + 21) k) = 1) := fun k k0 k1 => ⟨(b4 k k0 k1).1, (R.2.1.st (ea.2 k k0 k1)).2.1⟩
  rcases hE with ⟨r0, al⟩ | ⟨k, k0, k1, k2, k3, k4⟩
  · rcases hM with ⟨s1, _⟩ | ⟨k', l0, l1, l2, l3, l4, l5⟩
    · exact Or.inl ⟨r0, s1⟩
    · exfalso
      rw [← b1] at l1
      have z := st k' l0 l1
      have y := z.2.mp (al k' l0 l1)
      rw [z.1, ← l2, ← l3] at y
      exact l4 y
  · right
    have zk := st k k0 k1
    rcases hM with ⟨s1, al⟩ | ⟨k', l0, l1, l2, l3, l4, l5⟩
    · exfalso
      have := al k k0 (by rw [← b1]; exact k1)
      rw [← zk.1] at this
      rw [k2] at k3
      exact k3 (zk.2.mpr this)
    · rw [← b1] at l1
      have zk' := st k' l0 l1
      have ek : k = k' := by
        rcases Int.lt_trichotomy k k' with z | z | z
        · exfalso
          have := l5 k k0 z
          rw [← zk.1] at this
          rw [k2] at k3
          exact k3 (zk.2.mpr this)
        · exact z
        · exfalso
          have := zk'.2.mp (k4 k' l0 z)
          rw [zk'.1, ← l2, ← l3] at this
          exact l4 this
      have ear : a = r := by rw [l2, k2, zk.1, ek]
      refine ⟨ear, ?_⟩
      have it := ea.2 k k0 k1
      rw [← k2] at it
      have zr := zab_r it
      have v := hc.2.2 _ zr.1 zr.2
      obtain ⟨s1, s2, s3⟩ := R.2.1.st it
      rw [ear] at l3
      have ev : est e h r = 0 ∨ est e h r = 1 ∨ est e h r = -1 := by
        rw [est_ab e h it]; split <;> omega
      rcases ev with z | z | z
      · exact Or.inl ⟨z, by rw [l3]; exact s1.mp z⟩
      · exact absurd z k3
      · exact Or.inr ⟨z, by rw [l3]; exact s3.mp z⟩
theorem M_J67 {e q : Int} {h g : zH} {K : Int → zH → Prop} (q0 : 0 ≤ q) (q1 : q ≤ 1) (R : RMs e q h g) (fm : FMatch (-1005) g) (k : ∀ a s, ((s = 1 ∧ ∀ k, 0 ≤ k → k < zd g 141 q → mst g q (zd g 140 (20 * q + k)) = 1) ∨ ∃ k, 0 ≤ k ∧ k < zd g 141 q ∧ a = zd g 140 (20 * q + k) ∧ s = mst g q a ∧ s ≠ 1 ∧ ∀ j, 0 ≤ j → j < k → mst g q (zd g 140 (20 * q + j)) = 1) → P_M_oneTurn_J146 q a s g K) : P_M_oneTurn_J67 q g K := by
  have f98 : zd g 101 98 < 0 := by
    rcases fm with ⟨_, b, _⟩ | ⟨a, _⟩
    · omega
    · omega
  obtain ⟨⟨b1, b2, b3⟩, b4⟩ := R.2.2.2.2.2.2.1
  unfold P_M_oneTurn_J67
  rw [if_pos f98]
  exact M_asked q0 q1 R.1.1 (by omega) (by omega) (fun k k0 k1 => by rw [← (b4 k k0 (by omega)).1]; exact (b4 k k0 (by omega)).2) k
