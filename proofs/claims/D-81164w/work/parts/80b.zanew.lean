/-! Z: arrays of references -/
section
variable {b : Bool} {y : zM} {d pc idx : Nat} {ls st : List zA} {h : zH} {Q : Nat → Int → zH → Prop}
theorem zV_anew {x : Int} {C : String} (t : Int) (k0 : Nat) (hd : decode y.2.1 pc = .ok (.anewarray idx, 3)) (hw : Cond.classLink y.1.cls idx C ∈ lw_all) (ho : Cond.arrayOver (.object C) ∈ lw_tbl) (hk : ∀ g : zG, (zTys g)[k0]? = some (g.2.1 t, .object C)) (h5 : 60 ≤ t ∧ t < 70) (hx : 0 ≤ x ∧ x ≤ 60000) (kk : ∀ h1 : zH, h1 = zal h t x x → zV b y d (pc + 3) ls (zR (zn h) :: st) h1 Q) : zV b y d pc ls (zI x :: st) h Q := by
  refine zV.goA (t := t) (n := x) (m := x) (kk _ rfl) hx.1 ⟨hx.1, by omega⟩ (fun a1 a4 => z_newok a1 (zmt a4)) (fun a1 a4 g p l e R s mm args below meth c G H locs LS cells slots Qm hR hc hs kk => ?_)
  have hxr : r32 x := zmh a4
  have hAO : va_AO C s := G.2.2.1.2.1 _ ho rfl
  refine W.anew G.1.1 G.1.2.1 G.1.2.2.2.2.2.2 (G.2.1 _ hw) (va_AO.use hAO) rfl hd (n := Int32.ofInt x) rfl (by rw [show (0 : Int32) = Int32.ofInt 0 from rfl, l32 hxr r32_0]; omega) ?_ hc (by rw [z_cl hx.1 hxr]; exact hs) (fun cA kA comp f1 f2 f3 f4 => ?_)
  · rw [z_cl hx.1 hxr]
    have h1 : x.toNat ≤ 60000 := by omega
    exact Nat.le_trans (Nat.mul_le_mul h1 (Nat.le_refl 4)) (by decide)
  · obtain ⟨kA', comp', k1, k2, k3, k4⟩ := (G.2.2.1.1.2 k0 _ (hk g)).2
    have e2 : cA = g.2.1 t := Option.some.inj (f1.symm.trans k4)
    rw [z_cl hx.1 hxr]
    have := kk { cls := cA, slots := Array.replicate x.toNat .null, vm := .none } (zcell_na hR G.2.2.2.1 a1.2.2.2 (by omega) h5.2 (.object C) (by rw [if_neg (by omega), if_neg (by omega)]; rfl) (by rw [e2]; exact arrV_new _ _ _))
    refine zW_top this ?_
    rw [zc_r (by have := a1.2.2.2; omega), z_adn hR G.2.2.2.1 a1.2.2.2]
end
