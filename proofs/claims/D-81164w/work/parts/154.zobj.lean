/-! Z: arrays of references, constructors -/
theorem zcell_aas {g : zG} {h : zH} {t a i v : Int} {H' : Heap} (ht : zt h a = t) (h60 : 60 ≤ t) (h70 : t < 70) (hi : 0 ≤ i) (he : H'[g.2.2.1 a]? = some ((arrV (g.2.1 t) (zl h a).toNat (fun (j : Nat) => va_rf (if zd h a (j : Int) = 0 then none else some (g.2.2.1 (zd h a (j : Int)))))).setSlot i.toNat (zc g.2.2.1 (zR v)))) : zcell g (zw h a i v) a H' := by
  unfold zcell zce
  rw [zt_zw, ht, if_pos (by omega), if_neg (by omega), zas_q h60, zl_zw]
  show H'[g.2.2.1 a]? = some (vp_cell _ _)
  rw [he, vp_cell_q, arrV_store]
  congr 2
  funext q
  by_cases hq : q = i.toNat
  · subst hq
    have e1 : ((i.toNat : Nat) : Int) = i := Int.toNat_of_nonneg hi
    simp only [updV, zd_zw, e1, if_true, and_self]
    exact z_rf.symm
  · have e2 : ¬ ((q : Int) = i) := by omega
    simp [updV, zd_zw, hq, e2]
/-- what a reference array takes: null, or a cell whose class fits -/
def zfitA (t : Int) (h : zH) (v : Int) : Prop := (t = 60 ∧ zt h v = 4) ∨ (t = 61 ∧ zt h v = 50) ∨ (t = 63 ∧ zt h v = 10) ∨ (t = 62 ∧ (zt h v = 5 ∨ zt h v = 6 ∨ zt h v = 7 ∨ zt h v = 8 ∨ zt h v = 12))
theorem z_asg (s : State) (c : ClassId) : s.vm.assignable c c = true := by
  show Vm.assignableAux s.vm (255 + 1) c c = true
  unfold Vm.assignableAux
  rw [beq_self_eq_true]; rfl
theorem z_elem {g : zG} {s : State} (hK : zKn g s) {h : zH} {H : Heap} (hR : zRep g h H) (w : zwf h) {t v : Int} (hf : zfitA t h v) (q5 : Cond.castable RX6 "ClauseCourt$Rule" ∈ lw_tbl) (q6 : Cond.castable RX7 "ClauseCourt$Rule" ∈ lw_tbl) (q7 : Cond.castable RX8 "ClauseCourt$Rule" ∈ lw_tbl) (q8 : Cond.castable RX9 "ClauseCourt$Rule" ∈ lw_tbl) (q12 : Cond.castable RX13 "ClauseCourt$Rule" ∈ lw_tbl) :
    ∃ (kA kv kc : Class) (comp : ClassId) (cv : Cell), s.vm.classes[g.2.1 t]? = some kA ∧ kA.kind = .array comp (zAT t) ∧ s.vm.classes[comp]? = some kc ∧ H[g.2.2.1 v]? = some cv ∧ cv.vm = .none ∧ s.vm.classes[cv.cls]? = some kv ∧ s.vm.assignable cv.cls comp = true := by
  have obj : ∀ (k : Nat), k < 13 → zt h v = k → ∃ (cv : Cell) (kv : Class), H[g.2.2.1 v]? = some cv ∧ cv.vm = .none ∧ s.vm.classes[cv.cls]? = some kv ∧ cv.cls = g.1.1 k := by
    intro k hk e
    obtain ⟨r, r1, cell, r2, r3, r4, -⟩ := hR.obj w e (by omega)
    obtain ⟨-, -, kC, hkC, -⟩ := hK.1.1 k r r1
    exact ⟨cell, kC, r2, r4, by rw [r3]; exact hkC, r3⟩
  have rule : ∀ (k : Nat) (C : String) (T : u_T) (N : Nat), k < 13 → zt h v = k → zCl[k]? = some (C, T, N) → Cond.castable C "ClauseCourt$Rule" ∈ lw_tbl → ∃ (kA kv kc : Class) (comp : ClassId) (cv : Cell), s.vm.classes[g.2.1 62]? = some kA ∧ kA.kind = .array comp (zAT 62) ∧ s.vm.classes[comp]? = some kc ∧ H[g.2.2.1 v]? = some cv ∧ cv.vm = .none ∧ s.vm.classes[cv.cls]? = some kv ∧ s.vm.assignable cv.cls comp = true := by
    intro k C T N hk e hc hq
    obtain ⟨cv, kv, v1, v2, v3, v4⟩ := obj k hk e
    obtain ⟨kA, comp, a1, a2, a3, -⟩ := (hK.1.2 6 _ rfl).2
    obtain ⟨c1, t1, b1, b2, b3⟩ := Cond.castable_spec (hK.2.1 _ hq rfl)
    cases a3.symm.trans b2
    have e1 : c1 = g.1.1 k := Option.some.inj (b1.symm.trans (hK.1.1 k _ hc).2.1)
    obtain ⟨kc, hkc, -⟩ := Vm.findClass_spec a3
    exact ⟨kA, kv, kc, comp, cv, a1, a2, hkc, v1, v2, v3, by rw [v4, ← e1]; exact b3⟩
  rcases hf with ⟨rfl, e⟩ | ⟨rfl, e⟩ | ⟨rfl, e⟩ | ⟨rfl, e | e | e | e | e⟩
  · obtain ⟨cv, kv, v1, v2, v3, v4⟩ := obj 4 (by decide) e
    obtain ⟨kA, comp, a1, a2, a3, -⟩ := (hK.1.2 4 _ rfl).2
    have e1 : comp = g.1.1 4 := Option.some.inj (a3.symm.trans (hK.1.1 4 _ rfl).2.1)
    exact ⟨kA, kv, kv, comp, cv, a1, a2, by rw [e1, ← v4]; exact v3, v1, v2, v3, by rw [v4, e1]; exact z_asg s _⟩
  · obtain ⟨kA, kI, a1, a2, a3⟩ := hK.2.2
    have h6 := hR.arr w e (by decide) (by decide)
    exact ⟨kA, kI, kI, _, _, a1, a2, a3, h6, rfl, a3, z_asg s _⟩
  · obtain ⟨cv, kv, v1, v2, v3, v4⟩ := obj 10 (by decide) e
    obtain ⟨kA, comp, a1, a2, a3, -⟩ := (hK.1.2 7 _ rfl).2
    have e1 : comp = g.1.1 10 := Option.some.inj (a3.symm.trans (hK.1.1 10 _ rfl).2.1)
    exact ⟨kA, kv, kv, comp, cv, a1, a2, by rw [e1, ← v4]; exact v3, v1, v2, v3, by rw [v4, e1]; exact z_asg s _⟩
  · exact rule 5 _ _ _ (by decide) e rfl q5
  · exact rule 6 _ _ _ (by decide) e rfl q6
  · exact rule 7 _ _ _ (by decide) e rfl q7
  · exact rule 8 _ _ _ (by decide) e rfl q8
  · exact rule 12 _ _ _ (by decide) e rfl q12
section
variable {b : Bool} {y : zM} {d pc idx : Nat} {ls st : List zA} {h : zH} {Q : Nat → Int → zH → Prop}
theorem zV_aastoreX {t a i v : Int} (hd : decode y.2.1 pc = .ok (.aastore, 1)) (hb : b = true ∨ zn h < 175) (ht : zt h a = t) (hf : zfitA t h v) (q5 : Cond.castable RX6 "ClauseCourt$Rule" ∈ lw_tbl) (q6 : Cond.castable RX7 "ClauseCourt$Rule" ∈ lw_tbl) (q7 : Cond.castable RX8 "ClauseCourt$Rule" ∈ lw_tbl) (q8 : Cond.castable RX9 "ClauseCourt$Rule" ∈ lw_tbl) (q12 : Cond.castable RX13 "ClauseCourt$Rule" ∈ lw_tbl) (h1 : 0 ≤ i) (h2 : i < zl h a) (kk : zV b y d (pc + 1) ls st (zw h a i v) Q) : zV b y d pc ls (zR v :: zI i :: zR a :: st) h Q := by
  have ht2 : 60 ≤ t ∧ t < 70 := by
    rcases hf with ⟨rfl, -⟩ | ⟨rfl, -⟩ | ⟨rfl, -⟩ | ⟨rfl, -⟩ <;> decide
  have hk2 : zk t i = 2 := by
    unfold zk
    rw [if_neg (by omega), if_pos ht2]
  refine zV.goW kk rfl rfl (fun a1 a2 a4 => ⟨zle.wA a2 hb (by omega), a1.w (by rw [ht, hk2]; exact zmh a4), zmt (zmt (zmt a4))⟩) (fun a1 a2 a4 g p l e R s m args below meth c G H locs LS cells slots Qm hR hS kk => ?_)
  have hv0 : v ≠ 0 := by
    have : 0 ≤ zt h v ∧ zt h v < 70 := by
      rcases hf with ⟨-, e⟩ | ⟨-, e⟩ | ⟨-, e⟩ | ⟨-, e | e | e | e | e⟩ <;> rw [e] <;> decide
    exact z_ne0r a1 this.1 this.2
  obtain ⟨kA, kv, kc, comp, cv, w1, w2, w3, w4, w5, w6, w7⟩ := z_elem G.2.2.1 hR a1 hf q5 q6 q7 q8 q12
  have h6 := hR.arr a1 ht (by omega) ht2.2
  rw [zas_q ht2.1] at h6
  have hi := zmh (zmt a4)
  have ha := (a1.ad (a := a) (by omega) (by omega)).1
  have hlt : i.toNat < (zl h a).toNat := by omega
  show W _ _ _ _ _ _ _ _ _ _ _ _ _ _ _ (F0 m pc LS (zc g.2.2.1 (zR v) :: .int (Int32.ofInt i) :: zc g.2.2.1 (zR a) :: st.map (zc g.2.2.1)))
  rw [zc_r (show a ≠ 0 by omega), zc_r hv0]
  refine W.aast G.1.1 G.1.2.1 h6 (fun q h => by cases h) (fun h => by cases h) w1 w2 (by rcases hf with ⟨rfl, -⟩ | ⟨rfl, -⟩ | ⟨rfl, -⟩ | ⟨rfl, -⟩ <;> rfl) w3 ⟨by rw [show (0 : Int32) = Int32.ofInt 0 from rfl, l32 hi r32_0]; exact Int.not_lt.mpr h1, by show _ < (arrV _ _ _).slots.size; rw [arrV_size, z_cl h1 hi]; exact hlt⟩ w4 (fun q h => by rw [w5] at h; cases h) w6 w7 rfl rfl hd fun H1 e z oq => ?_
  rw [z_cl h1 hi] at e
  exact kk H1 _ (hR.put G.2.2.2.1 ha z oq (zcell_aas ht ht2.1 ht2.2 h1 (by rw [zc_r hv0]; exact e))) (hS.put z oq (zfree_ad G.2.2.2.1 ha))
/-- null into int[][] -/
theorem z_aastN {p : Program} {l : Launch} {e : Env} {R : Room} {s : State} {m : MethodId} {args : Array Value} {below : List Frame} {meth : Method} {c : Code} {H : Heap} {locs : List Loc} {cells slots : Nat} {Qm : State → Prop} (hx : p.tables.exec = Jvm.exec) {cc : ByteArray} (hb : c.code = cc) {a : Addr} {cell : Cell} {j : Int32} (h1 : H[a]? = some cell) (h2 : s.isArrayOf cell (.array .int)) (h3 : cell.vm ≠ .unknown) (h4 : ¬ (j < 0 ∨ cell.slots.size ≤ j.toNatClampNeg)) {pc : Nat} {LS : Array Slot} {rest : List Value} (hd : decode cc pc = .ok (.aastore, 1))
    (kk : ∀ H' : Heap, H'[a]? = some (cell.setSlot j.toNatClampNeg .null) → H'.size = H.size → (∀ q, q ≠ a → H'[q]? = H[q]?) → W p l e R s m args below meth c H' (locs ++ [⟨a, j.toNatClampNeg⟩]) cells slots Qm (F0 m (pc + 1) LS rest)) : W p l e R s m args below meth c H locs cells slots Qm (F0 m pc LS (.null :: .int j :: .ref a :: rest)) := by
  intro T hT X
  subst hT
  have hi := State.isArrayOf_alike X.warmed.alike h2
  have hfit : T.fitsSlot cell.cls cell.vm j.toNatClampNeg .null = true := by
    obtain ⟨ho, k, hk, comp, hkind⟩ := hi
    cases hv : cell.vm <;> first | exact absurd hv (ho _) | simp [State.fitsSlot, State.slotType?, hk, hkind, fits]
  have hlt : a < T.heap.size := (Array.getElem?_eq_some_iff.mp h1).1
  obtain ⟨t', a1, b1⟩ := kk _ (heapAt_setCell_self _ hlt) (by rw [size_setCell]) (fun q hq => by rw [heapAt_setCell_ne _ (Ne.symm hq)]) (T.setCell a (cell.setSlot j.toNatClampNeg .null)) rfl (X.stored h1 _ _)
  refine ⟨t', ?_, b1⟩
  jvm_step X.here [hx, hb, hd]
  refine aastore.wp_of_null (c := cell) (t := .array .int) X.here.top rfl h1 hi h4 h3 (Nat.not_le.mp fun q => h4 (Or.inr q)) hfit ?_
  intro acts
  rw [afterInstr_ok]
  exact a1
theorem zV_aastN {a i : Int} (hd : decode y.2.1 pc = .ok (.aastore, 1)) (hb : b = true ∨ zn h < 175) (ht : zt h a = 61) (h1 : 0 ≤ i) (h2 : i < zl h a) (kk : zV b y d (pc + 1) ls st (zw h a i 0) Q) : zV b y d pc ls (zR 0 :: zI i :: zR a :: st) h Q := by
  refine zV.goW kk rfl rfl (fun a1 a2 a4 => ⟨zle.wA a2 hb (by omega), a1.w (by rw [ht]; exact zmh a4), zmt (zmt (zmt a4))⟩) (fun a1 a2 a4 g p l e R s m args below meth c G H locs LS cells slots Qm hR hS kk => ?_)
  have h6 := hR.arr a1 ht (by decide) (by decide)
  rw [zas_q (by decide)] at h6
  have hi := zmh (zmt a4)
  have ha := (a1.ad (a := a) (by omega) (by omega)).1
  show W _ _ _ _ _ _ _ _ _ _ _ _ _ _ _ (F0 m pc LS (.null :: .int (Int32.ofInt i) :: zc g.2.2.1 (zR a) :: st.map (zc g.2.2.1)))
  rw [zc_r (show a ≠ 0 by omega)]
  refine z_aastN G.1.1 G.1.2.1 h6 (z_arrK G.2.2.1.1 5 rfl (zl h a).toNat (fun (j : Nat) => va_rf (if zd h a (j : Int) = 0 then none else some (g.2.2.1 (zd h a (j : Int)))))) (fun q => by cases q) (by show ¬ (_ ∨ (arrV _ _ _).slots.size ≤ _); rw [arrV_size]; exact z_in h1 h2 hi) hd fun H1 e z oq => ?_
  rw [z_cl h1 hi] at e
  exact kk H1 _ (hR.put G.2.2.2.1 ha z oq (zcell_aas ht (by decide) (by decide) h1 e)) (hS.put z oq (zfree_ad G.2.2.2.1 ha))
end
/-- behind Object.<init> nothing has changed -/
theorem zV_objInit {b : Bool} {y : zM} {d pc idx : Nat} {ls st : List zA} {h : zH} {Q : Nat → Int → zH → Prop} {a : Int} (hd : decode y.2.1 pc = .ok (.invokespecial idx, 3)) (ha : a ≠ 0) (q1 : Cond.methodLink y.1.cls idx Lib.objectInit ∈ lw_all) (q2 : Cond.instanceMethod Lib.objectInit ∈ lw_all) (q3 : Cond.code Lib.objectInit ⟨#[0xb1]⟩ 1 none ∈ lw_all) (h1 : 1 ≤ d) (hr : (st.map fun v => if v.1 = 1 then 2 else 1).sum ≤ 8) (k : zV b y d (pc + 3) ls st h Q) : zV b y d pc ls (zR a :: st) h Q := by
  refine zV.goC k (fun a4 => zmt a4) (fun a4 g p l e R s m args below meth c G H locs LS cells slots Qm hL hc hs kk => ?_)
  show W _ _ _ _ _ _ _ _ _ _ _ _ _ _ _ (F0 m pc LS (zc g.2.2.1 (zR a) :: st.map (zc g.2.2.1)))
  rw [zc_r ha]
  refine W.objInit G.1.1 G.1.2.1 G.1.2.2.2.2.2.2 (G.2.1 _ q1) (G.2.1 _ q2) (G.2.1 _ q3) rfl (by rw [G.1.2.2.1]; exact hL) rfl hd (Nat.le_trans h1 G.2.2.2.2.1) ?_ kk
  show 2 * 0 + _ + 12 ≤ R.locals
  have := z_cats (ad := g.2.2.1) hr G.2.2.2.2.2.1 12 (by decide)
  omega
