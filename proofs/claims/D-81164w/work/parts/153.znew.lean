/-! Z: what makes cells -/
theorem zfs_al {g : zG} {h : zH} {t n m b t' : Int} (hb : b ≠ zn h) : zfs g (zal h t n m) t' b = zfs g h t' b := by
  unfold zfs
  congr 1
  funext k
  rw [zd_zal, if_neg hb]
theorem zas_al {g : zG} {h : zH} {t n m b t' : Int} (hb : b ≠ zn h) : zas g (zal h t n m) t' b = zas g h t' b := by
  have e : ∀ j : Int, zd (zal h t n m) b j = zd h b j := fun j => by rw [zd_zal, if_neg hb]
  unfold zas
  simp only [e, zl_zal, if_neg hb]
theorem zcell_al {g : zG} {h : zH} {t n m b : Int} {H H' : Heap} (hb : b ≠ zn h) (hq : H'[g.2.2.1 b]? = H[g.2.2.1 b]?) (k : zcell g h b H) : zcell g (zal h t n m) b H' := by
  unfold zcell at k ⊢
  rw [zt_zal, if_neg hb]
  by_cases c : zt h b < 70
  · rw [if_pos c] at k ⊢
    unfold zce at k ⊢
    rw [zt_zal, if_neg hb]
    by_cases c2 : zt h b < 50
    · rw [if_pos c2] at k ⊢
      rw [zfs_al hb]
      exact va_at.kept k hq
    · rw [if_neg c2] at k ⊢
      rw [zas_al hb]
      exact va_at.kept k hq
  · rw [if_neg c] at k ⊢
    obtain ⟨cell, k1, k2, k3⟩ := k
    exact ⟨cell, by rw [hq]; exact k1, k2, by rw [zt_zal, if_neg hb]; exact k3⟩
theorem zRep.push {g : zG} {h : zH} {t n m : Int} {H : Heap} {cell : Cell} (r : zRep g h H) (hg : zgok g) (w : 14 ≤ zn h) (hc : zcell g (zal h t n m) (zn h) (H.push cell)) : zRep g (zal h t n m) (H.push cell) := by
  refine ⟨by rw [Array.size_push, r.1, zn_zal]; omega, fun b h1 h2 => ?_⟩
  rw [zn_zal] at h2
  by_cases c : b = zn h
  · rw [c]; exact hc
  · refine zcell_al c ?_ (r.2 b h1 (by omega))
    have e1 : g.2.2.1 b < H.size := by rw [hg.2 b h1, r.1]; omega
    rw [Array.getElem?_push_lt e1]
    exact (Array.getElem?_eq_getElem e1).symm
theorem z_adn {g : zG} {h : zH} {H : Heap} (r : zRep g h H) (hg : zgok g) (w : 14 ≤ zn h) : g.2.2.1 (zn h) = H.size := by rw [hg.2 _ w, r.1]
/-- one instruction that makes a cell -/
theorem zV.goA {b : Bool} {y : zM} {d pc pc' : Nat} {ls st st' : List zA} {h : zH} {t n m : Int} {Q : Nat → Int → zH → Prop} (k : zV b y d pc' ls st' (zal h t n m) Q) (hm : 0 ≤ m) (hn : 0 ≤ n ∧ n ≤ 2147483647)
    (hok : zwf h → (∀ v ∈ st, zok h v) → ∀ v ∈ st', zok (zal h t n m) v)
    (hw : zwf h → (∀ v ∈ st, zok h v) → ∀ (g : zG) (p : Program) (l : Launch) (e : Env) (R : Room) (s : State) (mm : MethodId) (args : Array Value) (below : List Frame) (meth : Method) (c : Code), zGood y d g p R s mm args meth c →
      ∀ (H : Heap) (locs : List Loc) (LS : Array Slot) (cells slots : Nat) (Qm : State → Prop), zRep g h H → cells + 1 ≤ R.cells → slots + m.toNat ≤ R.slots → (∀ cell : Cell, zcell g (zal h t n m) (zn h) (H.push cell) → W p l e R s mm args below meth c (H.push cell) locs (cells + 1) (slots + m.toNat) Qm (F0 mm pc' LS (st'.map (zc g.2.2.1)))) → W p l e R s mm args below meth c H locs cells slots Qm (F0 mm pc LS (st.map (zc g.2.2.1)))) : zV b y d pc ls st h Q := by
  intro a1 a2 a3 a4
  have o1 : zle h (zal h t n m) := zle.al hm
  obtain ⟨t', o, h', q, q1, q2, q3, r⟩ := k (a1.al hn) (fun hb => (a2 hb).le o1) (fun v hv => (a3 v hv).le o1.1) (hok a1 a4)
  refine ⟨t', o, h', q, o1.tr q1, q2, q3, fun g p l e R s mm args below meth c G H locs LS cells slots hR hS hL hc hsl => ?_⟩
  have n1 := q1.1
  have n2 := q1.2.1
  rw [zn_zal] at n1
  rw [zs_zal] at n2
  refine hw a1 a4 g p l e R s mm args below meth c G H locs LS cells slots _ hR (by omega) (by omega) (fun cell hcell => ?_)
  refine r g p l e R s mm args below meth c G (H.push cell) locs LS (cells + 1) (slots + m.toNat) (hR.push G.2.2.2.1 a1.2.2.2 hcell) ?_ hL (by rw [hc, zn_zal]; omega) (by rw [hsl, zs_zal]; omega)
  refine ⟨by rw [Array.size_push]; exact Nat.le_succ_of_le hS.1, fun q h1 h2 => ?_, hS.2.2⟩
  have e1 : q < H.size := Nat.lt_of_lt_of_le h1 hS.1
  rw [Array.getElem?_push_lt e1, ← hS.2.1 q h1 h2]
  exact (Array.getElem?_eq_getElem e1).symm
theorem z_newok {h : zH} {t n m : Int} (w : zwf h) {st : List zA} (hs : ∀ v ∈ st, zok h v) : ∀ v ∈ zR (zn h) :: st, zok (zal h t n m) v := by
  refine zm1 (fun v hv => (hs v hv).le (by rw [zn_zal]; omega)) ⟨?_, ?_⟩
  · have := w.2.2.2
    show 0 ≤ zn h
    omega
  · rw [zn_zal]
    show zn h < zn h + 1
    omega
section
variable {b : Bool} {y : zM} {d pc idx : Nat} {ls st : List zA} {h : zH} {Q : Nat → Int → zH → Prop}
theorem zcell_na {g : zG} {h : zH} {t n : Int} {H : Heap} {cell : Cell} (r : zRep g h H) (hg : zgok g) (w : 14 ≤ zn h) (h50 : 50 ≤ t) (h70 : t < 70) (ty : FieldType) (hd : defaultValue ty = (if t = 53 then .long 0 else if t < 60 then .int 0 else .null)) (hc : cell = arrV (g.2.1 t) n.toNat (fun _ => defaultValue ty)) : zcell g (zal h t n n) (zn h) (H.push cell) := by
  unfold zcell zce
  rw [zt_zal, if_pos rfl, if_pos h70, if_neg (by omega)]
  show (H.push cell)[g.2.2.1 (zn h)]? = some (vp_cell _ _)
  rw [z_adn r hg w, Array.getElem?_push_size, hc, hd]
  unfold zas
  rw [zl_zal, if_pos rfl]
  by_cases c1 : t = 53
  · subst c1
    rw [if_pos rfl, if_pos rfl, vp_cell_l]
    congr 2
    funext j
    rw [zd_zal, if_pos rfl]; rfl
  · rw [if_neg c1, if_neg c1]
    by_cases c2 : t < 60
    · rw [if_pos c2, if_pos c2, vp_cell_i]
      congr 2
      funext j
      rw [zd_zal, if_pos rfl]; rfl
    · rw [if_neg c2, if_neg c2, vp_cell_q]
      congr 2
      funext j
      rw [zd_zal, if_pos rfl, if_pos rfl]; rfl
theorem zV_newarr {x : Int} {aty : ArrayType} {ty : FieldType} (t : Int) (k0 : Nat) (hd : decode y.2.1 pc = .ok (.newarray aty, 2)) (hty : newarray.typeOf aty = ty) (hw : Cond.arrayClass ty ∈ lw_all) (hk : ∀ g : zG, (zTys g)[k0]? = some (g.2.1 t, ty)) (hdv : defaultValue ty = (if t = 53 then .long 0 else if t < 60 then .int 0 else .null)) (h5 : 50 ≤ t ∧ t < 70) (hra : ∀ (s : State) (cA : ClassId), va_RA s cA ty → s.vm.findClass ("[" ++ ty.toString) = some cA) (hcb : componentBytes ty ≤ 8) (hx : 0 ≤ x ∧ x ≤ 60000) (kk : ∀ h1 : zH, h1 = zal h t x x → zV b y d (pc + 2) ls (zR (zn h) :: st) h1 Q) : zV b y d pc ls (zI x :: st) h Q := by
  subst hty
  refine zV.goA (t := t) (n := x) (m := x) (kk _ rfl) hx.1 ⟨hx.1, by omega⟩ (fun a1 a4 => z_newok a1 (zmt a4)) (fun a1 a4 g p l e R s mm args below meth c G H locs LS cells slots Qm hR hc hs kk => ?_)
  have hxr : r32 x := zmh a4
  refine W.newa G.1.1 G.1.2.1 (atype := aty) (G.2.1 _ hw) rfl hd (n := Int32.ofInt x) rfl (by rw [show (0 : Int32) = Int32.ofInt 0 from rfl, l32 hxr r32_0]; omega) ?_ hc (by rw [z_cl hx.1 hxr]; exact hs) (fun cA kA comp f1 f2 f3 => ?_)
  · rw [z_cl hx.1 hxr]
    have h1 : x.toNat ≤ 60000 := by omega
    exact Nat.le_trans (Nat.mul_le_mul h1 hcb) (by decide)
  · have e1 := hra s _ (G.2.2.1.1.2 k0 _ (hk g)).2
    have e2 : cA = g.2.1 t := Option.some.inj (f1.symm.trans e1)
    rw [z_cl hx.1 hxr]
    have := kk { cls := cA, slots := Array.replicate x.toNat (defaultValue (newarray.typeOf aty)), vm := .none } (zcell_na hR G.2.2.2.1 a1.2.2.2 h5.1 h5.2 _ hdv (by rw [e2]; exact arrV_new _ _ _))
    refine zW_top this ?_
    rw [zc_r (by have := a1.2.2.2; omega), z_adn hR G.2.2.2.1 a1.2.2.2]
end
/-- a class that can be made -/
def zNW (own : String) (idx t : Nat) : Prop := ∃ (C : String) (T : u_T) (N : Nat), zCl[t]? = some (C, T, N) ∧ Cond.classLink own idx C ∈ lw_all ∧ Cond.instantiable C N ∈ lw_all ∧ Cond.initialized C ∈ lw_all
theorem z_def {ad : Int → Nat} {ty : FieldType} (h : ∀ v, zfo ty v ∨ True) (hk : ty ≠ .float ∧ ty ≠ .double) : zc ad (zkf ty, 0) = defaultValue ty := by
  cases ty with
  | float => exact absurd rfl hk.1
  | double => exact absurd rfl hk.2
  | _ => rfl
theorem zTy_nf : ∀ t, t < 13 → ∀ k, k < zN t → zTy t k ≠ .float ∧ zTy t k ≠ .double := by decide +kernel
section
variable {b : Bool} {y : zM} {d pc idx : Nat} {ls st : List zA} {h : zH} {Q : Nat → Int → zH → Prop}
theorem zV_newX {t : Nat} {N : Int} (hd : decode y.2.1 pc = .ok (.new idx, 3)) (h13 : t < 13) (hN : (zN t : Int) = N) (hw : zNW y.1.cls idx t) (kk : ∀ h1 : zH, h1 = zal h t 0 N → zV b y d (pc + 3) ls (zR (zn h) :: st) h1 Q) : zV b y d pc ls st h Q := by
  subst hN
  refine zV.goA (t := t) (n := 0) (m := (zN t : Int)) (kk _ rfl) (Int.natCast_nonneg _) ⟨Int.le_refl _, by decide⟩ (fun a1 a4 => z_newok a1 a4) (fun a1 a4 g p l e R s mm args below meth c G H locs LS cells slots Qm hR hc hs kk => ?_)
  obtain ⟨C, T, N, w1, w2, w3, w4⟩ := hw
  obtain ⟨C', T', N', g1, g2, g3, g4⟩ := zcf t h13
  cases w1.symm.trans g1
  have hN := zN_of w1
  have hs2 : slots + N ≤ R.slots := by
    have : ((zN t : Int)).toNat = N := by rw [hN]; rfl
    rw [this] at hs; exact hs
  refine W.newc G.1.1 G.1.2.1 G.1.2.2.2.2.2.2 (G.2.1 _ w2) (G.2.1 _ w3) (G.2.1 _ w4) rfl hd hc hs2 (fun cC kC f1 f2 f3 f4 => ?_)
  have hKn := G.2.2.1.1.1 t _ w1
  have e1 : cC = g.1.1 t := Option.some.inj (f1.symm.trans hKn.2.1)
  have ht70 : ((t : Int)) < 70 := by omega
  have hcell : zcell g (zal h t 0 (zN t : Int)) (zn h) (H.push { cls := cC, slots := kC.instanceTypes.map defaultValue, vm := .none }) := by
    unfold zcell zce
    rw [zt_zal, if_pos rfl, if_pos ht70, if_pos (by omega)]
    refine ⟨(C, T, N), w1, ?_⟩
    have hb := u_born (zTy t) (o := g.2.2.1 (zn h)) (H := H.push { cls := cC, slots := kC.instanceTypes.map defaultValue, vm := .none }) (kC := kC) G.2.1 g2 hKn (by rw [← e1]; exact f2) (by rw [z_adn hR G.2.2.2.1 a1.2.2.2, Array.getElem?_push_size, e1]; rfl) g3
    refine t_OB.to hb (fun j hj => ?_)
    show defaultValue (zTy t j) = vp_V (zfs g (zal h t 0 (zN t : Int)) t (zn h)) j
    have hj2 : j < zN t := by rw [hN]; exact hj
    unfold vp_V
    have ez := zfs_get (g := g) (h := zal h t 0 (zN t : Int)) (t := (t : Int)) (a := zn h) (k := j) hj2
    rw [List.getD_eq_getElem?_getD, ez, zd_zal, if_pos rfl, zk_cls (by omega)]
    exact (z_def (fun _ => Or.inr trivial) (zTy_nf t h13 j hj2)).symm
  have := kk _ hcell
  have e3 : ((zN t : Int)).toNat = N := by rw [hN]; rfl
  rw [e3] at this
  refine zW_top this ?_
  rw [zc_r (by have := a1.2.2.2; omega), z_adn hR G.2.2.2.1 a1.2.2.2]
end
