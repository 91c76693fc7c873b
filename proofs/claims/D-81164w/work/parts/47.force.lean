/-! forcing, here and there -/
theorem pigeon : ∀ (A T : Nat) (f : Nat → Nat), (∀ i, i < T → f i < A) → (∀ i j, i < j → j < T → f i ≠ f j) → T ≤ A := by
  intro A
  induction A with
  | zero =>
    intro T f h1 _
    rcases Nat.eq_zero_or_pos T with c | c
    · omega
    · have := h1 0 c; omega
  | succ A ih =>
    intro T f h1 h2
    by_cases c : ∃ i, i < T ∧ f i = A
    · obtain ⟨i0, a1, a2⟩ := c
      have := ih (T - 1) (fun i => f (if i < i0 then i else i + 1)) (fun i hi => by
        have b := h1 (if i < i0 then i else i + 1) (by split <;> omega)
        have n : f (if i < i0 then i else i + 1) ≠ A := by
          intro q
          by_cases d : i < i0
          · rw [if_pos d] at q
            exact h2 i i0 d a1 (q.trans a2.symm)
          · rw [if_neg d] at q
            exact h2 i0 (i + 1) (by omega) (by omega) (a2.trans q.symm)
        show f _ < A
        omega) (fun i j hi hj => by
        show f _ ≠ f _
        by_cases d1 : i < i0
        · by_cases d2 : j < i0
          · rw [if_pos d1, if_pos d2]; exact h2 i j hi (by omega)
          · rw [if_pos d1, if_neg d2]; exact h2 i (j + 1) (by omega) (by omega)
        · rw [if_neg d1, if_neg (by omega)]; exact h2 (i + 1) (j + 1) (by omega) (by omega))
      omega
    · have := ih T f (fun i hi => by
        have b := h1 i hi
        have : f i ≠ A := fun q => c ⟨i, hi, q⟩
        omega) h2
      omega
theorem pigeonI {A T : Int} {f : Int → Int} (A0 : 0 ≤ A) (h1 : ∀ i, 0 ≤ i → i < T → 1 ≤ f i ∧ f i ≤ A) (h2 : ∀ i j, 0 ≤ i → i < j → j < T → f i ≠ f j) : T ≤ A := by
  by_cases c : T ≤ 0
  · omega
  obtain ⟨t, rfl⟩ := Int.eq_ofNat_of_zero_le (show 0 ≤ T by omega)
  obtain ⟨a, rfl⟩ := Int.eq_ofNat_of_zero_le A0
  have key : ∀ i : Nat, i < t → ((f i - 1).toNat : Int) = f i - 1 := fun i hi => Int.toNat_of_nonneg (by have := h1 i (by omega) (by omega); omega)
  have := pigeon a t (fun i => (f i - 1).toNat) (fun i hi => by
    have k := key i hi
    have b := h1 i (by omega) (by omega)
    show (f i - 1).toNat < a
    omega) (fun i j hi hj => by
    have k := key i (by omega)
    have k2 := key j hj
    have b := h2 i j (by omega) (by omega) (by omega)
    show (f i - 1).toNat ≠ (f j - 1).toNat
    omega)
  omega
/-- a name that is open is not on the trail: there is room on it -/
theorem tr_room {e top x : Int} {h : zH} (hs : ES e h top) (hT : ET e h) (hx : eit (zd h e 11) x) (ho : est e h x = 0) : zd h e 20 < zd h e 11 := by
  have A3 := hs.1
  have xr := zab_r hx
  obtain ⟨T1, T2, T3⟩ := hT
  have vx : zd h (e + 11) (zab x) = 0 := by rw [est_ab e h hx] at ho; split at ho <;> omega
  have ne : ∀ i, 0 ≤ i → i < zd h e 20 → zab (zd h (e + 17) i) ≠ zab x := by
    intro i i0 i1 q
    obtain ⟨t1, t2⟩ := T2 i i0 i1
    rw [est_ab e h t1, q, vx] at t2
    split at t2 <;> omega
  have := pigeonI (A := zd h e 11) (T := zd h e 20 + 1) (f := fun i => if i < zd h e 20 then zab (zd h (e + 17) i) else zab x) A3.1 (fun i i0 i1 => by
    by_cases c : i < zd h e 20
    · simp only [if_pos c]; exact zab_r (T2 i i0 c).1
    · simp only [if_neg c]; exact xr) (fun i j i0 i1 i2 => by
    have c : i < zd h e 20 := by omega
    by_cases d : j < zd h e 20
    · simp only [if_pos c, if_pos d]; exact T3 i j i0 i1 d
    · simp only [if_pos c, if_neg d]; exact ne i i0 c)
  omega
def EInv (e : Int) (h : zH) (top : Int) : Prop := ES e h top ∧ EC e h ∧ ET e h ∧ ELv e h ∧ EO e h ∧ zt h (e + 16) = 53 ∧ zl h (e + 16) = 2408
/-- a field of the engine that the invariants do not read -/
theorem EInv.w {e top j v : Int} {h : zH} (p : EInv e h top) (n10 : j ≠ 10) (n11 : j ≠ 11) (n20 : j ≠ 20) (n21 : j ≠ 21) : EInv e (zw h e j v) top := by
  obtain ⟨p1, p2, p3, p4, p5, p6, p7⟩ := p
  have k : ∀ b, b ≠ e → zd (zw h e j v) b = zd h b := fun b hb => zw_f hb
  have f : ∀ i, i ≠ j → zd (zw h e j v) e i = zd h e i := fun i hi => zd_i hi
  refine ⟨p1.cg (f 10 (by omega)) (f 11 (by omega)) (k _ (by omega)) (k _ (by omega)) (k _ (by omega)) (k _ (by omega)) (k _ (by omega)) (k _ (by omega)) (k _ (by omega)), ⟨fun s ls => ?_, p2.2.1.cg (k _ (by omega)) (k _ (by omega)) (k _ (by omega)) (k _ (by omega)) (k _ (by omega)), ?_⟩, ?_, ?_, ?_, p6, p7⟩
  · have := p2.1 s ((elaid.cg (f 10 (by omega)) (k _ (by omega)) (k _ (by omega))).mp ls)
    unfold ecnt est at this ⊢
    rw [k (e + 4) (by omega), k (e + 3) (by omega), k (e + 11) (by omega), k (e + 7) (by omega), k (e + 1) (by omega), k (e + 2) (by omega)]
    exact this
  · rw [f 11 (by omega), k (e + 11) (by omega)]; exact p2.2.2
  · unfold ET est at p3 ⊢
    rw [f 20 (by omega), f 11 (by omega), k (e + 17) (by omega), k (e + 11) (by omega)]; exact p3
  · unfold ELv ELg tn at p4 ⊢
    rw [f 20 (by omega), f 11 (by omega), f 21 (by omega), k (e + 17) (by omega), k (e + 11) (by omega), k (e + 12) (by omega), k (e + 18) (by omega)]; exact p4
  · unfold EO EOi tn at p5 ⊢
    rw [f 20 (by omega), k (e + 17) (by omega), k (e + 13) (by omega), k (e + 12) (by omega), k (e + 18) (by omega), k (e + 5) (by omega), k (e + 1) (by omega), k (e + 2) (by omega), k (e + 7) (by omega)]; exact p5
/-- a row that forces: its open item, the others false, on the trail -/
theorem hot_row {e top s : Int} {h : zH} (p : EInv e h top) (s0 : 0 ≤ s) (s1 : s < 1364) (hh : Ehot e h s) (nq : ¬ Equar e h s) : elaid e h s ∧ zd h (e + 5) s = 1 ∧ (∃ c, zd h (e + 1) s ≤ c ∧ c < zd h (e + 1) s + zd h (e + 2) s ∧ est e h (zd h (e + 7) c) = 0) ∧ ∀ c, zd h (e + 1) s ≤ c → c < zd h (e + 1) s + zd h (e + 2) s → est e h (zd h (e + 7) c) = 0 → ∀ c', zd h (e + 1) s ≤ c' → c' < zd h (e + 1) s + zd h (e + 2) s → zd h (e + 7) c' ≠ zd h (e + 7) c → (est e h (zd h (e + 7) c') = -1 ∧ ∃ j, 0 ≤ j ∧ j < zd h e 20 ∧ zd h (e + 17) j = -(zd h (e + 7) c')) := by
  obtain ⟨hs, hc, hT, hL, hO, -, -⟩ := p
  have ht : zd h (e + 5) s = 1 := by
    rcases hs.2.2.2.2.2.2 s s0 s1 with q | q
    · exact absurd q hh.1
    · exact q
  have ls : elaid e h s := Or.inl ⟨s0, s1, ht⟩
  obtain ⟨-, ⟨f0, z0, f1⟩, -⟩ := hs.2.2.2.2.2.1 s ls
  obtain ⟨c1, c2⟩ := hc.1 s ls
  obtain ⟨-, h2, h3⟩ := hh
  rw [c1] at h2
  rw [c2] at h3
  have nq' : zd h (e + 3) s ≠ zd h (e + 2) s := fun q => nq ⟨by omega, by rw [c1]; exact h2, q⟩
  rw [c2] at nq'
  unfold ecnt at h2 h3 nq'
  have le := zct_le (fun c => est e h (zd h (e + 7) c)) (-1) (zd h (e + 1) s) (zd h (e + 2) s).toNat
  have it : ∀ c, zd h (e + 1) s ≤ c → c < zd h (e + 1) s + zd h (e + 2) s → eit (zd h e 11) (zd h (e + 7) c) := fun c k0 k1 => (hs.2.2.2.2.1 c (by omega) (by omega)).1
  have vr : ∀ c, zd h (e + 1) s ≤ c → c < zd h (e + 1) s + zd h (e + 2) s → est e h (zd h (e + 7) c) = 0 ∨ est e h (zd h (e + 7) c) = 1 ∨ est e h (zd h (e + 7) c) = -1 := by
    intro c k0 k1
    have i := it c k0 k1
    have v := hc.2.2 (zab (zd h (e + 7) c)) (zab_r i).1 (zab_r i).2
    rw [est_ab e h i]; split <;> omega
  have nt := zct_0.mp h2
  obtain ⟨c, k0, k1, k2, k3⟩ := zct_but (f := fun c => est e h (zd h (e + 7) c)) (v := -1) (a := zd h (e + 1) s) (n := (zd h (e + 2) s).toNat) (by omega) (by omega)
  have oc : est e h (zd h (e + 7) c) = 0 := by
    have := nt c k0 k1
    rcases vr c k0 (by omega) with v | v | v
    · exact v
    · exact absurd v this
    · exact absurd v k2
  refine ⟨ls, ht, ⟨c, k0, by omega, oc⟩, fun c1 l0 l1 l2 c' j0 j1 j2 => ?_⟩
  have e1 : c1 = c := by
    by_cases d : c1 = c
    · exact d
    · have := k3 c1 l0 (by omega) d
      have : est e h (zd h (e + 7) c1) = -1 := this
      omega
  have ne : c' ≠ c := fun q => j2 (by rw [q, e1])
  have fa : est e h (zd h (e + 7) c') = -1 := k3 c' j0 (by omega) ne
  refine ⟨fa, ?_⟩
  have i' := it c' j0 j1
  have zr := zab_r i'
  have vn : zd h (e + 11) (zab (zd h (e + 7) c')) ≠ 0 := by
    rw [est_ab e h i'] at fa; split at fa <;> omega
  obtain ⟨j, q0, q1, q2⟩ := hL.1.2.2.2 _ zr.1 zr.2 vn
  refine ⟨j, q0, q1, ?_⟩
  obtain ⟨t1, t2⟩ := hT.2.1 j q0 q1
  unfold tn at q2
  rw [est_ab e h i'] at fa
  rw [est_ab e h t1, q2] at t2
  unfold zab eit at *
  split at q2 <;> split at q2 <;> split at fa <;> split at t2 <;> omega
