/-! forgetting: both at once -/
theorem th_cnt {e q top : Int} {h m : zH} (r : RMs e q h m) (hs : ES e h top) : zct (fun k => if zd m 156 (800 * q + k) = 0 then 0 else 1) 1 0 (zd m 155 q).toNat = zd h e 37 := by
  have l := r.1.2.2.2.1
  rw [r.2.2.2.2.1.2.2.2.2.2.2.2.2, ← zct_sh (zd h (e + 5)) 1 564]
  refine zct_congr (fun k k0 k1 => ?_)
  have t := th_iff r hs (k := k) (by omega) (by omega)
  show (if zd m 156 (800 * q + k) = 0 then (0 : Int) else 1) = 1 ↔ zd h (e + 5) (564 + k) = 1
  by_cases z : zd m 156 (800 * q + k) = 0
  · rw [if_pos z]
    constructor
    · intro w; omega
    · intro w; exact absurd z (t.mp (by omega))
  · rw [if_neg z]
    rcases hs.2.2.2.2.2.2 (564 + k) (by omega) (by omega) with w | w
    · exact absurd w (t.mpr z)
    · exact ⟨fun _ => w, fun _ => rfl⟩
def ForSim (e q : Int) (h h' : zH) : Prop := ∀ m, RMs e q h m → R7 e q h m → zd m 155 q = zd h e 25 → ∀ Q' : Int → zH → Prop, (∀ m', RMs e q h' m' → R7 e q h' m' → MFr q m m' → yA [156, 157, 163, 171] m m' → Q' 0 m') → P_M_forgetSome q m Q'
theorem S_forgets {e q top : Int} {h : zH} {Q : Int → zH → Prop} (he : zE e) (q0 : 0 ≤ q) (q1 : q ≤ 1) (p : EInv e h top) (px : EX e h) (k0 : 0 ≤ zd h e 25) (k8 : zd h e 25 ≤ 800) (t0 : 0 ≤ zd h e 37) (t1 : zd h e 37 ≤ 800) (hg : w32 (zd h e 36) = zd h e 36) (kk : ∀ h', EInv e h' top → EX e h' → (h' = h ∨ ForP e h h') → ForSim e q h h' → Q 0 h') : P_E_forgets e h Q := by
  refine E_forgets he p.1 p.2.1 k0 k8 t0 t1 hg (fun c => kk h p px (Or.inl rfl) (fun m r r7 rl Q' k' => ?_)) (fun c c2 h' fp hs' hc' => ?_)
  · have l := r.1.2.2.2.1
    have n9 := r.2.2.2.2.2.2.2.2.1
    have tc := th_cnt r p.1
    have fin := k' m r r7 (MFr.rf q m) (yA.rf _ _)
    unfold P_M_forgetSome
    rw [n9] at c
    exact zif_i (fun _ => fin) (fun d => M_thereOf q0 q1 l.1 l.2 (zif_i (fun d2 => by rw [tc] at d2; omega) (fun _ => fin)))
  · have fp0 := fp
    obtain ⟨n, O, os, fA, fe, f1, f2, f3, f4⟩ := fp
    obtain ⟨i1, i2⟩ := E_forinv he p px hs' hc' k8 os fA fe f1 f2
    refine kk h' i1 i2 (Or.inr fp0) (fun m r r7 rl Q' k' => ?_)
    have l := r.1.2.2.2.1
    have n9 := r.2.2.2.2.2.2.2.2.1
    have tc := th_cnt r p.1
    have os' := OS_mr r p rl os
    obtain ⟨c1, c2', c3, c4, -, -⟩ := r.2.1
    have h36 : zd h e 36 = zd m 163 (10 * q + 6) := r7.2.2.2.2.2.2.1
    have hT := p.2.2.1
    rw [n9] at c c2
    refine M_forgetSome (A := zd h e 11) q0 q1 p.1.1.2 l.1 l.2 (by have := hT.1; omega) (by have := hT.1; omega) (fun i i0 i1 => by rw [← c4 i i0 (by omega)]; exact (hT.2.1 i i0 (by omega)).1) (fun i i0 i1 => ?_) (fun k k0 k1 th => r.1.2.2.2.2 _ (Or.inr (Or.inr ⟨by omega, by omega, by rw [show 800 * q + (2000 + k) - 2000 = 800 * q + k by omega]; exact th⟩))) (by rw [← h36]; exact hg) os' (fun d => by rw [tc] at d; omega) (fun _ _ m' g => k' m' (S_forget he q0 q1 r p rl os fA fe f1 f2 f3 g) (R7_for r7 fe g) (Mfor.fr q0 q1 l.2 k8 os g) g.1)
    have i1' : i < zd h e 20 := by omega
    have ti := hT.2.1 i i0 i1'
    have zr := zab_r ti.1
    have nz : zd h (e + 11) (zab (zd h (e + 17) i)) ≠ 0 := by
      intro z
      have w := ti.2
      rw [est_ab e h ti.1, z] at w
      split at w <;> omega
    have rr := (c2' _ zr.1 zr.2 nz).2
    rw [← c4 i i0 i1']
    have oi := p.2.2.2.2.1 i i0 i1'
    unfold EOi tn at oi
    rcases rr with ⟨x, y⟩ | ⟨x, y, z⟩
    · rw [y]; omega
    · rw [z]
      rcases oi with ⟨a1, -⟩ | ⟨⟨a1, a2, a3⟩, -⟩
      · omega
      · have lv := (r.2.2.1.1 _ a1 a2 a3).1
        have v1 := r.1.2.1
        have v2 := r.1.2.2.1
        unfold mlive at lv
        rcases lv with w | w | w <;> omega
