/-! Z: putfield, arraylength, ends of methods -/
/-- a class of a tag, as the tables have it -/
def zCF (t : Nat) : Prop := ∃ (C : String) (T : u_T) (N : Nat), zCl[t]? = some (C, T, N) ∧ (∀ w ∈ u_ws C T N, w ∈ lw_all) ∧ (∀ k, k < N → parseFieldDescriptor (T k).2.2.1 = some (zTy t k)) ∧ ∀ a, a < N → ∀ b, b < N → a ≠ b → (T a).1 ≠ (T b).1 ∨ (T a).2.1 ≠ (T b).2.1
theorem zcf0 : zCF 0 := ⟨RX0, TX0, 42, rfl, in_X0, tyX0_ok, by decide +kernel⟩
theorem zcf1 : zCF 1 := ⟨RX1, TX1, 58, rfl, in_X1, tyX1_ok, by decide +kernel⟩
theorem zcf2 : zCF 2 := ⟨RX2, TX2, 4, rfl, in_X2, tyX2_ok, by decide +kernel⟩
theorem zcf3 : zCF 3 := ⟨RX3, TX3, 116, rfl, in_X3, tyX3_ok, by decide +kernel⟩
theorem zcf4 : zCF 4 := ⟨RX4, TX4, 3, rfl, in_X4, tyX4_ok, by decide +kernel⟩
theorem zcf5 : zCF 5 := ⟨RX6, TX6, 6, rfl, in_X6, tyX6_ok, by decide +kernel⟩
theorem zcf6 : zCF 6 := ⟨RX7, TX7, 8, rfl, in_X7, tyX7_ok, by decide +kernel⟩
theorem zcf7 : zCF 7 := ⟨RX8, TX8, 9, rfl, in_X8, tyX8_ok, by decide +kernel⟩
theorem zcf8 : zCF 8 := ⟨RX9, TX9, 7, rfl, in_X9, tyX9_ok, by decide +kernel⟩
theorem zcf9 : zCF 9 := ⟨RX10, TX10, 5, rfl, in_X10, tyX10_ok, by decide +kernel⟩
theorem zcf10 : zCF 10 := ⟨RX11, TX11, 4, rfl, in_X11, tyX11_ok, by decide +kernel⟩
theorem zcf11 : zCF 11 := ⟨RX12, TX12, 7, rfl, in_X12, tyX12_ok, by decide +kernel⟩
theorem zcf12 : zCF 12 := ⟨RX13, TX13, 9, rfl, in_X13, tyX13_ok, by decide +kernel⟩
theorem zcf : ∀ t, t < 13 → zCF t
  | 0, _ => zcf0 | 1, _ => zcf1 | 2, _ => zcf2 | 3, _ => zcf3 | 4, _ => zcf4 | 5, _ => zcf5 | 6, _ => zcf6 | 7, _ => zcf7 | 8, _ => zcf8 | 9, _ => zcf9 | 10, _ => zcf10 | 11, _ => zcf11 | 12, _ => zcf12
  | t + 13, h => absurd h (by omega)
/-- what a field of that type takes -/
def zfo (ty : FieldType) (v : Int) : Prop := match ty with
  | .boolean => v = 0 ∨ v = 1
  | .int => True
  | .long => True
  | .object _ => True
  | .array _ => True
  | _ => False
theorem zfo_fit {ad : Int → Nat} {ty : FieldType} {v : Int} (h : zfo ty v) : narrow ty (zc ad (zkf ty, v)) = zc ad (zkf ty, v) ∧ fits ty (zc ad (zkf ty, v)) = true := by
  cases ty with
  | boolean =>
    rcases h with h | h <;> subst h
    · show narrow .boolean (.int (Int32.ofInt 0)) = .int (Int32.ofInt 0) ∧ fits .boolean (.int (Int32.ofInt 0)) = true
      decide +kernel
    · show narrow .boolean (.int (Int32.ofInt 1)) = .int (Int32.ofInt 1) ∧ fits .boolean (.int (Int32.ofInt 1)) = true
      decide +kernel
  | int => exact ⟨rfl, rfl⟩
  | long => exact ⟨rfl, rfl⟩
  | object n =>
    show narrow (.object n) (if v = 0 then Value.null else .ref (ad v)) = (if v = 0 then Value.null else .ref (ad v)) ∧ fits (.object n) (if v = 0 then Value.null else .ref (ad v)) = true
    by_cases c : v = 0
    · rw [if_pos c]; exact ⟨rfl, rfl⟩
    · rw [if_neg c]; exact ⟨rfl, rfl⟩
  | array n =>
    show narrow (.array n) (if v = 0 then Value.null else .ref (ad v)) = (if v = 0 then Value.null else .ref (ad v)) ∧ fits (.array n) (if v = 0 then Value.null else .ref (ad v)) = true
    by_cases c : v = 0
    · rw [if_pos c]; exact ⟨rfl, rfl⟩
    · rw [if_neg c]; exact ⟨rfl, rfl⟩
  | _ => cases h
theorem zk_cls {t : Nat} {k : Int} (h : t < 50) : zk t k = zkf (zTy t k.toNat) := by
  unfold zk
  rw [if_neg (by omega), if_neg (by omega), if_neg (by omega)]
  rfl
/-- an object's cell behind a putfield -/
theorem zcell_pf {g : zG} {h : zH} {t k : Nat} {a v : Int} {H' : Heap} {cell : Cell} {C : String} {T : u_T} {N : Nat} (ht : zt h a = t) (h50 : t < 50) (hc : zCl[t]? = some (C, T, N)) (hk : k < N) (he : H'[g.2.2.1 a]? = some (cell.setSlot (g.1.2 t k) (zc g.2.2.1 (zk t k, v)))) (q2 : cell.cls = g.1.1 t) (q3 : cell.vm = .none) (q4 : ∀ j, j < N → cell.slots[g.1.2 t j]? = some (vp_V (zfs g h t a) j)) (hap : ∀ x z, x < N → z < N → x ≠ z → g.1.2 t x ≠ g.1.2 t z) : zcell g (zw h a k v) a H' := by
  unfold zcell zce
  rw [zt_zw, ht, if_pos (by omega), if_pos (by omega)]
  refine ⟨(C, T, N), hc, t_OB.to (V := updV (vp_V (zfs g h t a)) k (zc g.2.2.1 (zk t k, v))) ⟨_, he, q2, q3, t_set q4 hap hk _⟩ (fun j hj => ?_)⟩
  have hN := zN_of hc
  have hj2 : j < zN t := by rw [hN]; exact hj
  have e1 : (zfs g (zw h a k v) t a)[j]? = some (zc g.2.2.1 (zk t (j : Int), zd (zw h a k v) a (j : Int))) := zfs_get hj2
  have e2 : (zfs g h t a)[j]? = some (zc g.2.2.1 (zk t (j : Int), zd h a (j : Int))) := zfs_get hj2
  show updV _ k _ j = vp_V (zfs g (zw h a k v) t a) j
  unfold vp_V updV
  rw [List.getD_eq_getElem?_getD, e1, zd_zw]
  by_cases c : j = k
  · subst c; simp
  · have c2 : ¬ ((j : Int) = k) := by omega
    simp only [c, c2, if_false, and_false, Option.getD_some]
    rw [List.getD_eq_getElem?_getD, e2]; rfl
/-- what is final in its class -/
def zff (t k : Nat) : Bool := ((zCl.getD t (RX0, TX0, 0)).2.1 k).2.2.2
theorem zff_of {t k : Nat} {C : String} {T : u_T} {N : Nat} (h : zCl[t]? = some (C, T, N)) : zff t k = (T k).2.2.2 := by
  unfold zff
  rw [List.getD_eq_getElem?_getD, h]
  rfl
theorem zle.wO {b : Bool} {h : zH} {a v : Int} {t k : Nat} (st : b = true → zSt h) (ht : zt h a = t) (hb : (b = true ∧ (zff t k = false ∨ 4 ≤ t)) ∨ zn h < 175) : zle h (zw h a k v) := by
  refine zle.w (fun hn q hq he => ?_)
  rcases hb with ⟨hb, h2⟩ | hb
  · obtain ⟨f1, f2, f3, f4, f5⟩ := zFin_tag q hq
    have e1 := ((st hb).2.1 q.1 f1 f2).1
    have e2 : zt h q.1 = t := by rw [he.1]; exact ht
    have e3 : zstag q.1 = t := by omega
    have e4 : q.2.1.toNat = k := by rw [he.2]; rfl
    rcases h2 with h2 | h2
    · rw [e3, e4] at f5
      have : zff t k = true := f5
      rw [h2] at this; cases this
    · omega
  · omega
section
variable {b : Bool} {y : zM} {d pc : Nat} {ls st : List zA} {h : zH} {Q : Nat → Int → zH → Prop}
theorem zV_putX {idx k κ : Nat} {a v : Int} (hd : decode y.2.1 pc = .ok (.putfield idx, 3)) (t : Nat) (ht : zt h a = t) (h13 : t < 13) (hf : zFL y.1.cls idx t k) (hb : (b = true ∧ (zff t k = false ∨ 4 ≤ t)) ∨ zn h < 175) (hi : zff t k = false ∨ (y.1.name = "<init>" ∧ (zCl.getD t (RX0, TX0, 0)).2.1 k = (zCl.getD t (RX0, TX0, 0)).2.1 k ∧ ((zCl.getD t (RX0, TX0, 0)).2.1 k).1 = y.1.cls)) (hk : zk t k = κ) (hv : zfo (zTy t k) v) (kk : zV b y d (pc + 3) ls st (zw h a k v) Q) : zV b y d pc ls ((κ, v) :: zR a :: st) h Q := by
  subst hk
  refine zV.goW kk rfl rfl (fun a1 a2 a4 => ⟨zle.wO a2 ht hb, a1.w (by rw [ht]; exact zmh a4), zmt (zmt a4)⟩) (fun a1 a2 a4 g p l e R s m args below meth c G H locs LS cells slots Qm hR hS kk => ?_)
  obtain ⟨C, T, N, ref, h1, h2, h3, h4, h5⟩ := hf
  obtain ⟨C', T', N', g1, g2, g3, g4⟩ := zcf t h13
  cases h1.symm.trans g1
  obtain ⟨r, q0, cell, q1, q2, q3, q4⟩ := hR.obj a1 ht (by omega)
  cases q0.symm.trans h1
  have hsame : ∀ x, s.fieldFound? (T k).1 (T k).2.1 (T k).2.2.1 = some x → s.fieldFound? ref (T k).2.1 (T k).2.2.1 = some x := by
    rcases h4 with h4 | h4
    · rw [h4]; exact fun _ h => h
    · exact u_same (G.2.1 _ h4)
  have ha0 := (a1.ad (a := a) (by omega) (by omega)).1
  have hkk := G.2.2.1.1
  have hap : ∀ x z, x < N → z < N → x ≠ z → g.1.2 t x ≠ g.1.2 t z := fun x z hx hz hne => z_apart G.2.1 g2 hkk h1 g3 hz hx (g4 x hx z hz hne)
  obtain ⟨hS1, hfc, kC, hkC, hkind⟩ := hkk.1 t _ h1
  obtain ⟨cf, kf, fi, f, hi1, hsl⟩ := hS1 k h2
  have hst := (u_facts hfc hkC (u_lays G.2.1 g2 h2) hi1).1
  have hzk : zk t k = zkf (zTy t k) := zk_cls (by omega)
  obtain ⟨hn, hfit⟩ := zfo_fit (ad := g.2.2.1) hv
  rw [← hzk] at hn hfit
  have hlt : f.slot < cell.slots.size := by rw [hsl]; exact k2_hasslot (q4 k h2)
  have hlay := G.2.1 _ (g2 _ (u_in_lay h2))
  unfold u_lay at hlay
  show W _ _ _ _ _ _ _ _ _ _ _ _ _ _ _ (F0 m pc LS (zc g.2.2.1 (zk t k, v) :: zc g.2.2.1 (zR a) :: st.map (zc g.2.2.1)))
  rw [zc_r (show a ≠ 0 by omega)]
  have fin : ∀ H1 : Heap, H1[g.2.2.1 a]? = some (cell.setSlot f.slot (zc g.2.2.1 (zk t k, v))) → H1.size = H.size → (∀ q, q ≠ g.2.2.1 a → H1[q]? = H[q]?) → W p l e R s m args below meth c H1 (locs ++ [⟨g.2.2.1 a, f.slot⟩]) cells slots Qm (F0 m (pc + 3) LS (st.map (zc g.2.2.1))) := by
    intro H1 e1 e2 e3
    rw [hsl] at e1
    exact kk H1 _ (hR.put G.2.2.2.1 ha0 e2 e3 (zcell_pf ht (by omega) h1 h2 e1 q2 q3 q4 hap)) (hS.put e2 e3 (zfree_ad G.2.2.2.1 ha0))
  by_cases cfin : zff t k = false
  · rw [zff_of h1] at cfin
    rw [if_neg (by rw [cfin]; decide)] at hlay
    have h6 := u_store hfc hkC hkind hlay hi1 (g3 k h2) hn hfit
    rcases h3 with h3 | ⟨host, h3⟩
    · exact W.putK G.1.1 G.1.2.1 (f := f) ⟨G.1.2.2.2.2.2.2, G.2.1 _ h3, ⟨_, _, _, hsame _ hi1⟩, hst⟩ (by rw [q2]; exact h6) q1 q3 hlt rfl rfl hd fin
    · exact va_WputK G.1.1 G.1.2.1 (f := f) G.1.2.2.2.2.2.2 (va_Nw.use rfl (G.2.2.1.2.1 _ h3 rfl)) (hsame _ hi1) hst (by rw [q2]; exact h6) q1 q3 hlt rfl rfl hd fin
  · rcases hi with hi | ⟨hi, -, hi3⟩
    · exact absurd hi cfin
    rw [zff_of h1] at cfin
    have cfin : (T k).2.2.2 = true := by cases hh : (T k).2.2.2 <;> simp_all
    rw [if_pos cfin] at hlay
    have hdecl : (T k).1 = y.1.cls := by
      have e0 : zCl.getD t (RX0, TX0, 0) = (C, T, N) := by rw [List.getD_eq_getElem?_getD, h1]; rfl
      rw [e0] at hi3; exact hi3
    have hcf : m.cls = cf := by
      obtain ⟨_, _, _, o1, -⟩ := z_owner (Or.inr hlay) hi1
      rw [hdecl] at o1
      exact Option.some.inj (G.1.2.2.2.2.2.2.symm.trans o1)
    have h6 := u_fits hfc hkC hkind (Or.inr hlay) hi1 (g3 k h2) hn hfit
    rcases h3 with h3 | ⟨host, h3⟩
    · exact W.putFinK G.1.1 G.1.2.1 G.1.2.2.2.2.2.2 (G.2.1 _ h3) (hsame _ hi1) hst hcf (by rw [G.1.2.2.2.2.2.1]; exact hi) (by rw [q2]; exact h6) q1 q3 hlt rfl rfl hd fin
    · refine va_Wputf G.1.1 G.1.2.1 G.1.2.2.2.2.2.2 (va_Nw.use rfl (G.2.2.1.2.1 _ h3 rfl)) (hsame _ hi1) hst (Or.inr ⟨hcf, by rw [G.1.2.2.2.2.2.1]; exact hi⟩) q1 (by rw [q3]; exact fun h => by cases h) hlt h6.1 (by rw [q2, q3]; exact h6.2) rfl rfl hd ?_
      have hal : g.2.2.1 a < H.size := (Array.getElem?_eq_some_iff.mp q1).1
      exact fin _ (by simp [hal]) (by simp) (fun q hq => by rw [Array.getElem?_setIfInBounds_ne (fun z => hq z.symm)])
end
