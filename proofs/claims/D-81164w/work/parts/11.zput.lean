/-! Z: writes, ends -/
theorem zas_i {g : zG} {h : zH} {t a : Int} (h1 : t ≠ 53) (h2 : t < 60) : zas g h t a = ((zl h a).toNat, .inl fun (j : Nat) => Int32.ofInt (zd h a (j : Int))) := by
  unfold zas
  rw [if_neg h1, if_pos h2]
theorem zas_l {g : zG} {h : zH} {a : Int} : zas g h 53 a = ((zl h a).toNat, .inr (.inl fun (j : Nat) => Int64.ofInt (zd h a (j : Int)))) := rfl
/-- an int array's cell behind a store -/
theorem zcell_ast {g : zG} {h : zH} {t a i v : Int} {H' : Heap} (w : zwf h) (ht : zt h a = t) (h50 : 50 ≤ t) (h53 : t < 53) (hi : 0 ≤ i) (hil : i < zl h a) (he : H'[g.2.2.1 a]? = some ((arrV (g.2.1 t) (zl h a).toNat (fun (j : Nat) => .int (Int32.ofInt (zd h a (j : Int))))).setSlot i.toNat (.int (Int32.ofInt v)))) : zcell g (zw h a i v) a H' := by
  unfold zcell zce
  rw [zt_zw, ht, if_pos (by omega), if_neg (by omega), zas_i (by omega) (by omega), zl_zw]
  show H'[g.2.2.1 a]? = some (vp_cell _ _)
  rw [he, vp_cell_i, arrV_store]
  congr 2
  funext q
  by_cases hq : q = i.toNat
  · subst hq
    have e1 : ((i.toNat : Nat) : Int) = i := Int.toNat_of_nonneg hi
    simp [updV, zd_zw, e1]
  · have e2 : ¬ ((q : Int) = i) := by omega
    simp [updV, zd_zw, hq, e2]
theorem zcell_lst {g : zG} {h : zH} {a i v : Int} {H' : Heap} (w : zwf h) (ht : zt h a = 53) (hi : 0 ≤ i) (hil : i < zl h a) (he : H'[g.2.2.1 a]? = some ((arrV (g.2.1 53) (zl h a).toNat (fun (j : Nat) => .long (Int64.ofInt (zd h a (j : Int))))).setSlot i.toNat (.long (Int64.ofInt v)))) : zcell g (zw h a i v) a H' := by
  unfold zcell zce
  rw [zt_zw, ht, if_pos (by omega), if_neg (by omega), zas_l, zl_zw]
  show H'[g.2.2.1 a]? = some (vp_cell _ _)
  rw [he, vp_cell_l, arrV_store]
  congr 2
  funext q
  by_cases hq : q = i.toNat
  · subst hq
    have e1 : ((i.toNat : Nat) : Int) = i := Int.toNat_of_nonneg hi
    simp [updV, zd_zw, e1]
  · have e2 : ¬ ((q : Int) = i) := by omega
    simp [updV, zd_zw, hq, e2]
/-- a write to an array leaves what is final -/
theorem zle.wA {b : Bool} {h : zH} {a i v : Int} (st : b = true → zSt h) (hb : b = true ∨ zn h < 175) (ht : 4 ≤ zt h a) : zle h (zw h a i v) := by
  refine zle.w (fun hn q hq he => ?_)
  rcases hb with hb | hb
  · obtain ⟨f1, f2, f3, f4, f5⟩ := zFin_tag q hq
    have := ((st hb).2.1 q.1 f1 f2).1
    rw [he.1] at this
    rw [he.1] at f4
    omega
  · omega
section
variable {b : Bool} {y : zM} {d pc : Nat} {ls st : List zA} {h : zH} {Q : Nat → Int → zH → Prop}
theorem zV_iastoreX {a i v : Int} (hd : decode y.2.1 pc = .ok (.iastore, 1)) (hb : b = true ∨ zn h < 175) (ht : zt h a = 50) (h1 : 0 ≤ i) (h2 : i < zl h a) (kk : zV b y d (pc + 1) ls st (zw h a i v) Q) : zV b y d pc ls (zI v :: zI i :: zR a :: st) h Q := by
  refine zV.goW kk rfl rfl (fun a1 a2 a4 => ⟨zle.wA a2 hb (by omega), a1.w (by rw [ht]; exact zmh a4), zmt (zmt (zmt a4))⟩) (fun a1 a2 a4 g p l e R s m args below meth c G H locs LS cells slots Qm hR hS kk => ?_)
  have h6 := hR.arr a1 ht (by decide) (by decide)
  have hi := zmh (zmt a4)
  show W _ _ _ _ _ _ _ _ _ _ _ _ _ _ _ (F0 m pc LS (.int (Int32.ofInt v) :: .int (Int32.ofInt i) :: zc g.2.2.1 (zR a) :: st.map (zc g.2.2.1)))
  rw [zc_r (z_ne0r a1 (by omega) (by omega))]
  refine W.iast G.1.1 G.1.2.1 h6 (z_arrK G.2.2.1.1 0 rfl (zl h a).toNat (fun (j : Nat) => .int (Int32.ofInt (zd h a (j : Int))))) (fun q => by cases q) (by show ¬ (_ ∨ (arrV _ _ _).slots.size ≤ _); rw [arrV_size]; exact z_in h1 h2 hi) rfl rfl hd fun H1 e z oq => ?_
  have ha := (a1.ad (a := a) (by omega) (by omega)).1
  rw [z_cl h1 hi] at e
  exact kk H1 _ (hR.put G.2.2.2.1 ha z oq (zcell_ast a1 ht (by decide) (by decide) h1 h2 e)) (hS.put z oq (zfree_ad G.2.2.2.1 ha))
theorem zV_zastoreX {a i v : Int} (hd : decode y.2.1 pc = .ok (.bastore, 1)) (hb : b = true ∨ zn h < 175) (ht : zt h a = 52) (h1 : 0 ≤ i) (h2 : i < zl h a) (kk : zV b y d (pc + 1) ls st (zw h a i (zbit v)) Q) : zV b y d pc ls (zI v :: zI i :: zR a :: st) h Q := by
  refine zV.goW kk rfl rfl (fun a1 a2 a4 => ⟨zle.wA a2 hb (by omega), a1.w (by rw [ht]; exact r32_of _), zmt (zmt (zmt a4))⟩) (fun a1 a2 a4 g p l e R s m args below meth c G H locs LS cells slots Qm hR hS kk => ?_)
  have h6 := hR.arr a1 ht (by decide) (by decide)
  have hi := zmh (zmt a4)
  show W _ _ _ _ _ _ _ _ _ _ _ _ _ _ _ (F0 m pc LS (.int (Int32.ofInt v) :: .int (Int32.ofInt i) :: zc g.2.2.1 (zR a) :: st.map (zc g.2.2.1)))
  rw [zc_r (z_ne0r a1 (by omega) (by omega))]
  refine W.zast G.1.1 G.1.2.1 h6 (z_arrK G.2.2.1.1 2 rfl (zl h a).toNat (fun (j : Nat) => .int (Int32.ofInt (zd h a (j : Int))))) (fun q => by cases q) (by show ¬ (_ ∨ (arrV _ _ _).slots.size ≤ _); rw [arrV_size]; exact z_in h1 h2 hi) rfl rfl hd fun H1 e z oq => ?_
  have ha := (a1.ad (a := a) (by omega) (by omega)).1
  rw [z_cl h1 hi] at e
  exact kk H1 _ (hR.put G.2.2.2.1 ha z oq (zcell_ast a1 ht (by decide) (by decide) h1 h2 (by rw [e]; unfold zbit; rw [Int32.ofInt_toInt]; rfl))) (hS.put z oq (zfree_ad G.2.2.2.1 ha))
theorem zV_bastoreX {a i v : Int} (hd : decode y.2.1 pc = .ok (.bastore, 1)) (hb : b = true ∨ zn h < 175) (ht : zt h a = 51) (h1 : 0 ≤ i) (h2 : i < zl h a) (kk : zV b y d (pc + 1) ls st (zw h a i (zbyte v)) Q) : zV b y d pc ls (zI v :: zI i :: zR a :: st) h Q := by
  refine zV.goW kk rfl rfl (fun a1 a2 a4 => ⟨zle.wA a2 hb (by omega), a1.w (by rw [ht]; exact r32_of _), zmt (zmt (zmt a4))⟩) (fun a1 a2 a4 g p l e R s m args below meth c G H locs LS cells slots Qm hR hS kk => ?_)
  have h6 := hR.arr a1 ht (by decide) (by decide)
  have hi := zmh (zmt a4)
  show W _ _ _ _ _ _ _ _ _ _ _ _ _ _ _ (F0 m pc LS (.int (Int32.ofInt v) :: .int (Int32.ofInt i) :: zc g.2.2.1 (zR a) :: st.map (zc g.2.2.1)))
  rw [zc_r (z_ne0r a1 (by omega) (by omega))]
  refine W.bast G.1.1 G.1.2.1 h6 (z_arrK G.2.2.1.1 1 rfl (zl h a).toNat (fun (j : Nat) => .int (Int32.ofInt (zd h a (j : Int))))) (fun q => by cases q) (by show ¬ (_ ∨ (arrV _ _ _).slots.size ≤ _); rw [arrV_size]; exact z_in h1 h2 hi) rfl rfl hd fun H1 e z oq => ?_
  have ha := (a1.ad (a := a) (by omega) (by omega)).1
  rw [z_cl h1 hi] at e
  exact kk H1 _ (hR.put G.2.2.2.1 ha z oq (zcell_ast a1 ht (by decide) (by decide) h1 h2 (by rw [e]; unfold zbyte; rw [Int32.ofInt_toInt]; rfl))) (hS.put z oq (zfree_ad G.2.2.2.1 ha))
theorem zV_lastoreX {a i v : Int} (hd : decode y.2.1 pc = .ok (.lastore, 1)) (hb : b = true ∨ zn h < 175) (ht : zt h a = 53) (h1 : 0 ≤ i) (h2 : i < zl h a) (kk : zV b y d (pc + 1) ls st (zw h a i v) Q) : zV b y d pc ls (zJ v :: zI i :: zR a :: st) h Q := by
  refine zV.goW kk rfl rfl (fun a1 a2 a4 => ⟨zle.wA a2 hb (by omega), a1.w (by rw [ht]; exact zmh a4), zmt (zmt (zmt a4))⟩) (fun a1 a2 a4 g p l e R s m args below meth c G H locs LS cells slots Qm hR hS kk => ?_)
  have h6 := hR.arr a1 ht (by decide) (by decide)
  have hi := zmh (zmt a4)
  show W _ _ _ _ _ _ _ _ _ _ _ _ _ _ _ (F0 m pc LS (.long (Int64.ofInt v) :: .int (Int32.ofInt i) :: zc g.2.2.1 (zR a) :: st.map (zc g.2.2.1)))
  rw [zc_r (z_ne0r a1 (by omega) (by omega))]
  refine W.last G.1.1 G.1.2.1 h6 (z_arrK G.2.2.1.1 3 rfl (zl h a).toNat (fun (j : Nat) => .long (Int64.ofInt (zd h a (j : Int))))) (fun q => by cases q) (by show ¬ (_ ∨ (arrV _ _ _).slots.size ≤ _); rw [arrV_size]; exact z_in h1 h2 hi) rfl rfl hd fun H1 e z oq => ?_
  have ha := (a1.ad (a := a) (by omega) (by omega)).1
  rw [z_cl h1 hi] at e
  exact kk H1 _ (hR.put G.2.2.2.1 ha z oq (zcell_lst a1 ht h1 h2 e)) (hS.put z oq (zfree_ad G.2.2.2.1 ha))
end
