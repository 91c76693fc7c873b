/-! Z: System.arraycopy -/
def zcp (h : zH) (src sp dst dp n : Int) : zH := (h.1, h.2.1, h.2.2.1, fun b j => if b = dst ∧ dp ≤ j ∧ j < dp + n then h.2.2.2 src (sp + (j - dp)) else h.2.2.2 b j)
theorem zd_zcp (h : zH) (src sp dst dp n b j : Int) : zd (zcp h src sp dst dp n) b j = if b = dst ∧ dp ≤ j ∧ j < dp + n then zd h src (sp + (j - dp)) else zd h b j := rfl
theorem zt_zcp (h : zH) (src sp dst dp n b : Int) : zt (zcp h src sp dst dp n) b = zt h b := rfl
theorem zl_zcp (h : zH) (src sp dst dp n b : Int) : zl (zcp h src sp dst dp n) b = zl h b := rfl
theorem zcp_wf {h : zH} (w : zwf h) {src sp dst dp n t : Int} (h1 : zt h src = t) (h2 : zt h dst = t) (ht : t = 50 ∨ t = 51) : zwf (zcp h src sp dst dp n) := by
  obtain ⟨p1, p2, p3, p4⟩ := w
  refine ⟨fun b j => ?_, p2, p3, p4⟩
  rw [zt_zcp, zd_zcp]
  by_cases e : b = dst ∧ dp ≤ j ∧ j < dp + n
  · rw [if_pos e, e.1, h2]
    have := p1 src (sp + (j - dp))
    rw [h1] at this
    rcases ht with rfl | rfl <;> exact this
  · rw [if_neg e]; exact p1 b j
theorem zcp_le {b : Bool} {h : zH} {src sp dst dp n : Int} (st : b = true → zSt h) (hb : b = true ∨ zn h < 175) (ht : 4 ≤ zt h dst) : zle h (zcp h src sp dst dp n) := by
  refine ⟨Int.le_refl _, Int.le_refl _, fun _ _ => ⟨rfl, rfl⟩, fun hn q hq => ?_⟩
  rw [zd_zcp, if_neg (fun he => ?_)]
  rcases hb with hb | hb
  · obtain ⟨f1, f2, f3, f4, f5⟩ := zFin_tag q hq
    have := ((st hb).2.1 q.1 f1 f2).1
    rw [he.1] at this
    rw [he.1] at f4
    omega
  · omega
theorem zcell_cpne {g : zG} {h : zH} {src sp dst dp n b : Int} {H H' : Heap} (hb : b ≠ dst) (hq : H'[g.2.2.1 b]? = H[g.2.2.1 b]?) (k : zcell g h b H) : zcell g (zcp h src sp dst dp n) b H' := by
  have e : ∀ j : Int, zd (zcp h src sp dst dp n) b j = zd h b j := fun j => by rw [zd_zcp, if_neg (fun q => hb q.1)]
  unfold zcell at k ⊢
  rw [zt_zcp]
  by_cases c : zt h b < 70
  · rw [if_pos c] at k ⊢
    unfold zce at k ⊢
    rw [zt_zcp]
    by_cases c2 : zt h b < 50
    · rw [if_pos c2] at k ⊢
      have : zfs g (zcp h src sp dst dp n) (zt h b) b = zfs g h (zt h b) b := by unfold zfs; simp only [e]
      rw [this]
      exact va_at.kept k hq
    · rw [if_neg c2] at k ⊢
      have : zas g (zcp h src sp dst dp n) (zt h b) b = zas g h (zt h b) b := by unfold zas; simp only [e, zl_zcp]
      rw [this]
      exact va_at.kept k hq
  · rw [if_neg c] at k ⊢
    obtain ⟨cell, k1, k2, k3⟩ := k
    exact ⟨cell, by rw [hq]; exact k1, k2, by rw [zt_zcp]; exact k3⟩
/-- as zV.goW, with the number of locals -/
theorem zV.goW2 {b : Bool} {y : zM} {d pc pc' : Nat} {ls st st' : List zA} {h h2 : zH} {Q : Nat → Int → zH → Prop} (k : zV b y d pc' ls st' h2 Q) (hn : zn h2 = zn h) (hs : zs h2 = zs h)
    (hok : zwf h → (b = true → zSt h) → (∀ v ∈ st, zok h v) → zle h h2 ∧ zwf h2 ∧ (∀ v ∈ st', zok h v))
    (hw : zwf h → (∀ v ∈ st, zok h v) → ∀ (g : zG) (p : Program) (l : Launch) (e : Env) (R : Room) (s : State) (m : MethodId) (args : Array Value) (below : List Frame) (meth : Method) (c : Code), zGood y d g p R s m args meth c →
      ∀ (H : Heap) (locs : List Loc) (LS : Array Slot) (cells slots : Nat) (Qm : State → Prop), LS.size = y.2.2.1 → zRep g h H → va_S (zfree g) s.heap H locs → (∀ (H' : Heap) (locs' : List Loc), zRep g h2 H' → va_S (zfree g) s.heap H' locs' → W p l e R s m args below meth c H' locs' cells slots Qm (F0 m pc' LS (st'.map (zc g.2.2.1)))) → W p l e R s m args below meth c H locs cells slots Qm (F0 m pc LS (st.map (zc g.2.2.1)))) : zV b y d pc ls st h Q := by
  intro a1 a2 a3 a4
  obtain ⟨o1, o2, o3⟩ := hok a1 a2 a4
  obtain ⟨t, o, h', q, q1, q2, q3, r⟩ := k o2 (fun hb => (a2 hb).le o1) (fun v hv => (a3 v hv).le (by rw [hn]; exact Int.le_refl _)) (fun v hv => (o3 v hv).le (by rw [hn]; exact Int.le_refl _))
  exact ⟨t, o, h', q, o1.tr q1, q2, q3, fun g p l e R s m args below meth c G H locs LS cells slots hR hS hL hc hsl => hw a1 a4 g p l e R s m args below meth c G H locs LS cells slots _ hL.1 hR hS (fun H' locs' hR' hS' => r g p l e R s m args below meth c G H' locs' LS cells slots hR' hS' hL (by rw [hn]; exact hc) (by rw [hs]; exact hsl))⟩
theorem z_ti {z : Int} (h0 : 0 ≤ z) (hr : r32 z) : ¬ Int32.ofInt z < 0 ∧ (Int32.ofInt z).toInt = z ∧ (Int32.ofInt z).toNatClampNeg = z.toNat := ⟨by rw [show (0 : Int32) = Int32.ofInt 0 from rfl, l32 hr r32_0]; omega, t32 hr, z_cl h0 hr⟩
section
variable {b : Bool} {y : zM} {d pc idx : Nat} {ls st : List zA} {h : zH} {Q : Nat → Int → zH → Prop}
theorem zV_copyX {src sp dst dp n t : Int} (k0 : Nat) {ty : FieldType} (hd : decode y.2.1 pc = .ok (.invokestatic idx, 3)) (hb : b = true ∨ zn h < 175) (q1 : Cond.methodLink y.1.cls idx arraycopyName ∈ lw_all) (q2 : Cond.native arraycopyName ∈ lw_all) (q3 : Cond.static arraycopyName ∈ lw_all) (q4 : Cond.initialized "java/lang/System" ∈ lw_all) (h1 : zt h src = t) (h2 : zt h dst = t) (ht : t = 50 ∨ t = 51) (hk0 : ∀ g : zG, (zTys g)[k0]? = some (g.2.1 t, ty)) (hprim : refKind ty = false) (hfit : ∀ i, 0 ≤ i → i < n → fits ty (.int (Int32.ofInt (zd h src (sp + i)))) = true) (hr : (st.map fun v => if v.1 = 1 then 2 else 1).sum ≤ 8) (h1d : 1 ≤ d) (c1 : 0 ≤ sp) (c2 : 0 ≤ dp) (c3 : 0 ≤ n) (c4 : sp + n ≤ zl h src) (c5 : dp + n ≤ zl h dst) (kk : ∀ h1 : zH, h1 = zcp h src sp dst dp n → zV b y d (pc + 3) ls st h1 Q) : zV b y d pc ls (zI n :: zI dp :: zR dst :: zI sp :: zR src :: st) h Q := by
  refine zV.goW2 (kk _ rfl) rfl rfl (fun a1 a2 a4 => ⟨zcp_le a2 hb (by omega), zcp_wf a1 h1 h2 ht, zmt (zmt (zmt (zmt (zmt a4))))⟩) ?_
  intro a1 a4 g p l e R s m args below meth c G H locs LS cells slots Qm hsz hR hS kk
  have rn : r32 n := zmh a4
  have rdp : r32 dp := zmh (zmt a4)
  have rsp : r32 sp := zmh (zmt (zmt (zmt a4)))
  have hs0 : src ≠ 0 := z_ne0r a1 (by omega) (by omega)
  have hd0 : dst ≠ 0 := z_ne0r a1 (by omega) (by omega)
  have hda := (a1.ad (a := dst) (by omega) (by omega)).1
  have ht5 : 50 ≤ t ∧ t < 53 := by omega
  have hc0 := hR.arr a1 h1 ht5.1 (by omega)
  have hc1 := hR.arr a1 h2 ht5.1 (by omega)
  rw [zas_i (by omega) (by omega)] at hc0 hc1
  obtain ⟨s1, s2, s3⟩ := z_ti c1 rsp
  obtain ⟨d1, d2, d3⟩ := z_ti c2 rdp
  obtain ⟨n1, n2, n3⟩ := z_ti c3 rn
  have lsrc := a1.2.2.1 src (by omega)
  have ldst := a1.2.2.1 dst (by omega)
  obtain ⟨-, kk0, hkk0, cm0, hkd0⟩ := z_arrK G.2.2.1.1 k0 (hk0 g) (zl h src).toNat (fun (j : Nat) => .int (Int32.ofInt (zd h src (j : Int))))
  obtain ⟨-, kk1, hkk1, cm1, hkd1⟩ := z_arrK G.2.2.1.1 k0 (hk0 g) (zl h dst).toNat (fun (j : Nat) => .int (Int32.ofInt (zd h dst (j : Int))))
  show W _ _ _ _ _ _ _ _ _ _ _ _ _ _ _ (F0 m pc LS (.int (Int32.ofInt n) :: .int (Int32.ofInt dp) :: zc g.2.2.1 (zR dst) :: .int (Int32.ofInt sp) :: zc g.2.2.1 (zR src) :: st.map (zc g.2.2.1)))
  rw [zc_r hs0, zc_r hd0]
  intro T hT X
  have rm := z_cats (ad := g.2.2.1) hr G.2.2.2.2.2.1 0 (by decide)
  obtain ⟨vm', X', step⟩ := X.arraycopy G.1.1 G.1.2.2.2.2.2.2 (G.2.1 _ q1) (G.2.1 _ q2) (G.2.1 _ q3) (G.2.1 _ q4) (src := g.2.2.1 src) (dst := g.2.2.1 dst) (cs := vp_cell (g.2.1 t) ((zl h src).toNat, .inl fun (j : Nat) => Int32.ofInt (zd h src (j : Int)))) (cd := vp_cell (g.2.1 t) ((zl h dst).toNat, .inl fun (j : Nat) => Int32.ofInt (zd h dst (j : Int)))) (srcPos := Int32.ofInt sp) (destPos := Int32.ofInt dp) (n := Int32.ofInt n) (by rw [hT]; exact hc0) (by rw [hT]; exact hc1)
    (fun _ h => by cases h) (fun _ h => by cases h) (fun h => by cases h) (fun h => by cases h) hkk0 hkk1 hkd0 hkd1 (by simp [hprim]) s1 d1 n1
    (by rw [s2, n2]; show ¬ _ > ((arrV _ (zl h src).toNat _).slots.size : Int); rw [arrV_size]; omega)
    (by rw [d2, n2]; show ¬ _ > ((arrV _ (zl h dst).toNat _).slots.size : Int); rw [arrV_size]; omega)
    (fun vm₁ _ i hi => by
      rw [n3] at hi
      have e0 : (vp_cell (g.2.1 t) ((zl h src).toNat, .inl fun (j : Nat) => Int32.ofInt (zd h src (j : Int)))).slots.getD ((Int32.ofInt sp).toNatClampNeg + i) .null = .int (Int32.ofInt (zd h src (sp + (i : Int)))) := by
        rw [s3]
        show (arrV _ (zl h src).toNat (fun (j : Nat) => .int (Int32.ofInt (zd h src (j : Int))))).slots.getD _ _ = _
        rw [Array.getD_eq_getD_getElem?, arrV_read _ _ (by omega)]
        show Value.int (Int32.ofInt (zd h src ((sp.toNat + i : Nat) : Int))) = _
        rw [show ((sp.toNat + i : Nat) : Int) = sp + (i : Int) by omega]
      refine ⟨?_, ?_⟩
      · rw [e0]
        exact hfit i (Int.natCast_nonneg _) (by omega)
      · rw [e0]
        exact trivial)
    (g := F0 m pc LS (.int (Int32.ofInt n) :: .int (Int32.ofInt dp) :: .ref (g.2.2.1 dst) :: .int (Int32.ofInt sp) :: .ref (g.2.2.1 src) :: st.map (zc g.2.2.1))) rfl (by rw [G.1.2.2.1]; exact hsz) (rest := st.map (zc g.2.2.1)) rfl (by rw [G.1.2.1]; exact hd) (Nat.le_trans h1d G.2.2.2.2.1) (by
      show 2 * 0 + _ + _ ≤ _
      have q := z_catsum (ad := g.2.2.1) hr
      have q9 : nativeFrameWords "java/lang/System" "arraycopy" 5 + 11 ≤ 100 := by decide +kernel
      have q8 : 10300 ≤ R.locals := Nat.le_trans (Nat.le_add_left _ _) G.2.2.2.2.2.1
      have q7 : 2 * 0 + 8 + 100 ≤ 10300 := by decide
      exact Nat.le_trans (Nat.add_le_add (Nat.add_le_add (Nat.le_refl _) q) q9) (Nat.le_trans q7 q8))
  have e1 : copied (vp_cell (g.2.1 t) ((zl h src).toNat, .inl fun (j : Nat) => Int32.ofInt (zd h src (j : Int)))) (vp_cell (g.2.1 t) ((zl h dst).toNat, .inl fun (j : Nat) => Int32.ofInt (zd h dst (j : Int)))) (Int32.ofInt sp) (Int32.ofInt dp) (Int32.ofInt n) = arrV (g.2.1 t) (zl h dst).toNat (fun (j : Nat) => .int (va_cpy (fun (j : Nat) => Int32.ofInt (zd h src (j : Int))) (fun (j : Nat) => Int32.ofInt (zd h dst (j : Int))) sp.toNat dp.toNat n.toNat j)) := by
    show (arrV (g.2.1 t) (zl h dst).toNat (fun (j : Nat) => .int (Int32.ofInt (zd h dst (j : Int))))).storeRun (Int32.ofInt dp).toNatClampNeg ((arrV (g.2.1 t) (zl h src).toNat (fun (j : Nat) => .int (Int32.ofInt (zd h src (j : Int))))).stretch (Int32.ofInt sp).toNatClampNeg (Int32.ofInt n).toNatClampNeg) = _
    rw [s3, d3, n3]
    exact va_copied (fun z => Value.int z) (g.2.1 t) (g.2.1 t) (fun (j : Nat) => Int32.ofInt (zd h src (j : Int))) (fun (j : Nat) => Int32.ofInt (zd h dst (j : Int))) (by omega)
  rw [e1] at X' step
  have hl : g.2.2.1 dst < H.size := (Array.getElem?_eq_some_iff.mp hc1).1
  generalize hN : arrV (g.2.1 t) (zl h dst).toNat (fun (j : Nat) => Value.int (va_cpy (fun (j : Nat) => Int32.ofInt (zd h src (j : Int))) (fun (j : Nat) => Int32.ofInt (zd h dst (j : Int))) sp.toNat dp.toNat n.toNat j)) = nc at X' step
  have hheap : ((T.setVm vm').setCell (g.2.2.1 dst) nc).heap = H.setIfInBounds (g.2.2.1 dst) nc := by rw [← hT]; rfl
  have oq : ∀ q : Nat, q ≠ g.2.2.1 dst → (H.setIfInBounds (g.2.2.1 dst) nc)[q]? = H[q]? := fun q hq => by simp [Array.getElem?_setIfInBounds, Ne.symm hq]
  have hself : (H.setIfInBounds (g.2.2.1 dst) nc)[g.2.2.1 dst]? = some nc := by simp [Array.getElem?_setIfInBounds, hl]
  have hrep : zRep g (zcp h src sp dst dp n) (H.setIfInBounds (g.2.2.1 dst) nc) := by
    refine ⟨by rw [Array.size_setIfInBounds]; exact hR.1, fun b1 b2 b3 => ?_⟩
    by_cases cb : b1 = dst
    · subst cb
      unfold zcell zce
      rw [zt_zcp, h2, if_pos (by omega), if_neg (by omega), zas_i (by omega) (by omega), zl_zcp]
      show _ = some (vp_cell _ _)
      rw [hself, ← hN, vp_cell_i]
      congr 2
      funext j
      rw [zd_zcp]
      unfold va_cpy
      by_cases cj : dp.toNat ≤ j ∧ j < dp.toNat + n.toNat
      · rw [if_pos cj, if_pos ⟨rfl, by omega, by omega⟩]
        have e9 : ((sp.toNat + (j - dp.toNat) : Nat) : Int) = sp + ((j : Int) - dp) := by omega
        first | (show Value.int (Int32.ofInt (zd h src ((sp.toNat + (j - dp.toNat) : Nat) : Int))) = _; rw [e9]) | (show Int32.ofInt (zd h src ((sp.toNat + (j - dp.toNat) : Nat) : Int)) = _; rw [e9])
      · rw [if_neg cj, if_neg (by omega)]
    · exact zcell_cpne cb (oq _ (fun q => cb (G.2.2.2.1.1 b1 dst (by omega) (by omega) q))) (hR.2 b1 b2 b3)
  obtain ⟨t9, a9, b9⟩ := kk _ _ hrep ⟨by rw [Array.size_setIfInBounds]; exact hS.1, fun q g1 g2 => by
      rw [oq q (fun e => g2 (by rw [e]; exact zfree_ad G.2.2.2.1 hda))]
      exact hS.2.1 q g1 g2, fun q hq => by
      rcases List.mem_append.mp hq with h | h
      · exact hS.2.2 q h
      · obtain ⟨z, -, hz⟩ := List.mem_map.mp h
        rw [← hz]
        exact zfree_ad G.2.2.2.1 hda⟩ _ hheap X'
  exact ⟨t9, step t9 a9, b9⟩
end
