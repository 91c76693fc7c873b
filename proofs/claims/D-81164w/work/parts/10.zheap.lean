/-! Z: rows of the heap -/
theorem z_owner {args : Array Value} {s : State} {cls owner name desc : String} {c' i : Nat} {k' : Class} {f : Field} (h : (Cond.lays cls owner name desc).before args s = true ∨ (Cond.laysFinal cls owner name desc).before args s = true) (hf : s.fieldFound? owner name desc = some (c', k', i, f)) : ∃ c d, s.vm.findClass cls = some c ∧ s.vm.findClass owner = some c' ∧ Jmm.declares? s.vm f.slot (c + 1) c = some d ∧ d.1.name = k'.name ∧ d.2.name = f.name := by
  rcases h with h | h
  all_goals
    simp only [Cond.before, Cond.holds, Cond.value, hf] at h
    cases hc : s.vm.findClass cls with
    | none => simp [hc] at h
    | some c =>
      simp only [hc] at h
      cases hk : s.vm.classes[c]? with
      | none => simp [hk] at h
      | some k =>
        simp only [hk, Option.map_some, beq_iff_eq, Option.some.injEq, Bool.and_eq_true, decide_eq_true_eq] at h
        obtain ⟨⟨⟨⟨⟨h1, h2⟩, h3⟩, h4⟩, h5⟩, h6⟩ := h
        cases hd : Jmm.declares? s.vm f.slot (c + 1) c with
        | none => simp [hd] at h6
        | some d =>
          simp only [hd, Option.any_some, Bool.and_eq_true, beq_iff_eq, decide_eq_true_eq] at h6
          exact ⟨c, d, rfl, h4, hd, h6.1.1, h6.1.2⟩
theorem z_apart {args : Array Value} {s : State} {C : String} {T : u_T} {N ci : Nat} {D : va_G} {tys : List (ClassId × FieldType)} (hts : ∀ w ∈ lw_all, w.before args s = true) (hin : ∀ w ∈ u_ws C T N, w ∈ lw_all) (hK : va_K D zCl tys s) (hc : zCl[ci]? = some (C, T, N)) {ty : Nat → FieldType} (hty : ∀ k, k < N → parseFieldDescriptor (T k).2.2.1 = some (ty k)) {k j : Nat} (hk : k < N) (hj : j < N) (hne : (T j).1 ≠ (T k).1 ∨ (T j).2.1 ≠ (T k).2.1) : D.2 ci j ≠ D.2 ci k := by
  obtain ⟨hS, -⟩ := hK.1 ci _ hc
  obtain ⟨ca, ka, ia, fa, hia, ea⟩ := hS j hj
  obtain ⟨cb, kb, ib, fb, hib, eb⟩ := hS k hk
  rw [← ea, ← eb]
  obtain ⟨c1, d1, g1, o1, q1, n1, m1⟩ := z_owner (u_lays hts hin hj) hia
  obtain ⟨c2, d2, g2, o2, q2, n2, m2⟩ := z_owner (u_lays hts hin hk) hib
  cases g1.symm.trans g2
  intro he
  rw [he] at q1
  cases q1.symm.trans q2
  rcases hne with h | h
  · apply h
    obtain ⟨x1, y1, z1⟩ := Vm.findClass_spec o1
    obtain ⟨x2, y2, z2⟩ := Vm.findClass_spec o2
    have e1 : s.vm.classes[ca]? = some ka := (State.fieldFound?_spec hia).1
    have e2 : s.vm.classes[cb]? = some kb := (State.fieldFound?_spec hib).1
    cases y1.symm.trans e1
    cases y2.symm.trans e2
    rw [← z1, ← z2, ← n1, ← n2]
  · apply h
    rw [← (State.fieldFound?_type hia (hty j hj)).1, ← (State.fieldFound?_type hib (hty k hk)).1, ← m1, ← m2]
/-- a link to a field: the class of the tag t lays it at k -/
def zFL (own : String) (idx t k : Nat) : Prop := ∃ (C : String) (T : u_T) (N : Nat) (ref : String), zCl[t]? = some (C, T, N) ∧ k < N ∧ ((Cond.fieldLink own idx ref (T k).2.1 (T k).2.2.1 ∈ lw_all) ∨ ∃ host, Cond.fieldLinkNest own idx ref (T k).2.1 (T k).2.2.1 host ∈ lw_tbl) ∧ (ref = (T k).1 ∨ Cond.sameField ref (T k).1 (T k).2.1 (T k).2.2.1 ∈ lw_all) ∧ (∀ w ∈ u_ws C T N, w ∈ lw_all)
theorem zRep.obj {g : zG} {h : zH} {H : Heap} (r : zRep g h H) (w : zwf h) {a : Int} {t : Nat} (ht : zt h a = t) (h50 : t < 50) : va_at g.1 zCl (g.2.2.1 a, .inr (t, zfs g h t a)) H := by
  obtain ⟨h1, h2⟩ := w.ad (a := a) (by omega) (by omega)
  have h3 := r.2 a h1 h2
  unfold zcell at h3
  rw [if_pos (by omega)] at h3
  unfold zce at h3
  rw [if_pos (by omega), ht] at h3
  exact h3
theorem zRep.arr {g : zG} {h : zH} {H : Heap} (r : zRep g h H) (w : zwf h) {a t : Int} (ht : zt h a = t) (h50 : 50 ≤ t) (h70 : t < 70) : va_at g.1 zCl (g.2.2.1 a, .inl (g.2.1 t, zas g h t a)) H := by
  obtain ⟨h1, h2⟩ := w.ad (a := a) (by omega) (by omega)
  have h3 := r.2 a h1 h2
  unfold zcell at h3
  rw [if_pos (by omega)] at h3
  unfold zce at h3
  rw [if_neg (by omega), ht] at h3
  exact h3
theorem zfs_get {g : zG} {h : zH} {t a : Int} {k : Nat} (hk : k < zN t.toNat) : (zfs g h t a)[k]? = some (zc g.2.2.1 (zk t (k : Int), zd h a (k : Int))) := by
  unfold zfs
  rw [List.getElem?_map, List.getElem?_range hk]
  rfl
theorem zN_of {t : Nat} {C : String} {T : u_T} {N : Nat} (h : zCl[t]? = some (C, T, N)) : zN t = N := by
  unfold zN
  rw [List.getD_eq_getElem?_getD, h]
  rfl
theorem z_one {g : zG} {q : Nat × va_E} {H : Heap} (h : va_at g.1 zCl q H) : va_P g.1 zCl [q] H := by
  intro k q' hq
  match k, hq with
  | 0, hq => cases hq; exact h
section
variable {b : Bool} {y : zM} {d pc : Nat} {ls st : List zA} {h : zH} {Q : Nat → Int → zH → Prop}
theorem zV_getX {idx k κ : Nat} {a : Int} (hd : decode y.2.1 pc = .ok (.getfield idx, 3)) (t : Nat) (ht : zt h a = t) (h50 : t < 50) (hf : zFL y.1.cls idx t k) (hk : zk t k = κ) (kk : zV b y d (pc + 3) ls ((κ, zd h a k) :: st) h Q) : zV b y d pc ls (zR a :: st) h Q := by
  subst hk
  refine zV.go kk (fun a1 _ a3 a4 => ⟨a3, zm1 (zmt a4) (by have := a1.1 a k; rw [ht] at this; exact this)⟩) (fun a1 _ _ a4 g p l e R s m args below meth c G H locs LS cells slots Qm hR hL kk => ?_)
  obtain ⟨C, T, N, ref, h1, h2, h3, h4, h5⟩ := hf
  have h6 := hR.obj a1 ht h50
  have hsame : ∀ x, s.fieldFound? (T k).1 (T k).2.1 (T k).2.2.1 = some x → s.fieldFound? ref (T k).2.1 (T k).2.2.1 = some x := by
    rcases h4 with h4 | h4
    · rw [h4]; exact fun _ h => h
    · exact u_same (G.2.1 _ h4)
  have ha : a ≠ 0 := by
    have := (a1.ad (a := a) (by omega) (by omega)).1
    omega
  show W _ _ _ _ _ _ _ _ _ _ _ _ _ _ _ (F0 m pc LS (zc g.2.2.1 (zR a) :: st.map (zc g.2.2.1)))
  rw [zc_r ha]
  have hv : (zfs g h t a)[k]? = some (zc g.2.2.1 (zk t k, zd h a k)) := zfs_get (by have := zN_of h1; show k < zN t; omega)
  rcases h3 with h3 | ⟨host, h3⟩
  · exact va_get G.1.1 G.1.2.1 G.2.1 h5 G.1.2.2.2.2.2.2 G.2.2.1.1 (z_one h6) 0 rfl h1 k h2 (G.2.1 _ h3) hsame hv hd (kk LS hL)
  · exact va_getN G.1.1 G.1.2.1 G.2.1 h5 G.1.2.2.2.2.2.2 G.2.2.1.1 (z_one h6) 0 rfl h1 k h2 (va_Nw.use rfl (G.2.2.1.2.1 _ h3 rfl)) hsame hv hd (kk LS hL)
end
/-- one instruction that writes -/
theorem zV.goW {b : Bool} {y : zM} {d pc pc' : Nat} {ls st st' : List zA} {h h2 : zH} {Q : Nat → Int → zH → Prop} (k : zV b y d pc' ls st' h2 Q) (hn : zn h2 = zn h) (hs : zs h2 = zs h)
    (hok : zwf h → (b = true → zSt h) → (∀ v ∈ st, zok h v) → zle h h2 ∧ zwf h2 ∧ (∀ v ∈ st', zok h v))
    (hw : zwf h → (b = true → zSt h) → (∀ v ∈ st, zok h v) → ∀ (g : zG) (p : Program) (l : Launch) (e : Env) (R : Room) (s : State) (m : MethodId) (args : Array Value) (below : List Frame) (meth : Method) (c : Code), zGood y d g p R s m args meth c →
      ∀ (H : Heap) (locs : List Loc) (LS : Array Slot) (cells slots : Nat) (Qm : State → Prop), zRep g h H → va_S (zfree g) s.heap H locs → (∀ (H' : Heap) (locs' : List Loc), zRep g h2 H' → va_S (zfree g) s.heap H' locs' → W p l e R s m args below meth c H' locs' cells slots Qm (F0 m pc' LS (st'.map (zc g.2.2.1)))) → W p l e R s m args below meth c H locs cells slots Qm (F0 m pc LS (st.map (zc g.2.2.1)))) : zV b y d pc ls st h Q := by
  intro a1 a2 a3 a4
  obtain ⟨o1, o2, o3⟩ := hok a1 a2 a4
  obtain ⟨t, o, h', q, q1, q2, q3, r⟩ := k o2 (fun hb => (a2 hb).le o1) (fun v hv => (a3 v hv).le (by rw [hn]; exact Int.le_refl _)) (fun v hv => (o3 v hv).le (by rw [hn]; exact Int.le_refl _))
  exact ⟨t, o, h', q, o1.tr q1, q2, q3, fun g p l e R s m args below meth c G H locs LS cells slots hR hS hL hc hsl => hw a1 a2 a4 g p l e R s m args below meth c G H locs LS cells slots _ hR hS (fun H' locs' hR' hS' => r g p l e R s m args below meth c G H' locs' LS cells slots hR' hS' hL (by rw [hn]; exact hc) (by rw [hs]; exact hsl))⟩
theorem zfs_ne {g : zG} {h : zH} {a b i v t : Int} (hb : b ≠ a) : zfs g (zw h a i v) t b = zfs g h t b := by
  unfold zfs
  congr 1
  funext k
  rw [zd_zw, if_neg (fun q => hb q.1)]
theorem zas_ne {g : zG} {h : zH} {a b i v t : Int} (hb : b ≠ a) : zas g (zw h a i v) t b = zas g h t b := by
  have e : ∀ j : Int, zd (zw h a i v) b j = zd h b j := fun j => by rw [zd_zw, if_neg (fun q => hb q.1)]
  unfold zas
  simp only [e, zl_zw]
theorem zcell_ne {g : zG} {h : zH} {a b i v : Int} {H H' : Heap} (hb : b ≠ a) (hq : H'[g.2.2.1 b]? = H[g.2.2.1 b]?) (k : zcell g h b H) : zcell g (zw h a i v) b H' := by
  unfold zcell at k ⊢
  rw [zt_zw]
  by_cases c : zt h b < 70
  · rw [if_pos c] at k ⊢
    unfold zce at k ⊢
    rw [zt_zw]
    by_cases c2 : zt h b < 50
    · rw [if_pos c2] at k ⊢
      rw [zfs_ne hb]
      exact va_at.kept k hq
    · rw [if_neg c2] at k ⊢
      rw [zas_ne hb]
      exact va_at.kept k hq
  · rw [if_neg c] at k ⊢
    obtain ⟨cell, k1, k2, k3⟩ := k
    exact ⟨cell, by rw [hq]; exact k1, k2, by rw [zt_zw]; exact k3⟩
theorem zRep.put {g : zG} {h : zH} {a i v : Int} {H H' : Heap} (r : zRep g h H) (hg : zgok g) (ha : 14 ≤ a) (hz : H'.size = H.size) (ho : ∀ q, q ≠ g.2.2.1 a → H'[q]? = H[q]?) (hc : zcell g (zw h a i v) a H') : zRep g (zw h a i v) H' := by
  refine ⟨by rw [hz, zn_zw]; exact r.1, fun b h1 h2 => ?_⟩
  by_cases c : b = a
  · rw [c]; exact hc
  · exact zcell_ne c (ho _ (fun q => c (hg.1 b a (by omega) (by omega) q))) (r.2 b h1 h2)
theorem zfree_ad {g : zG} (hg : zgok g) {a : Int} (ha : 14 ≤ a) : zfree g (g.2.2.1 a) := by
  show g.2.2.2 ≤ g.2.2.1 a
  rw [hg.2 a ha]
  exact Nat.le_add_right _ _
theorem z_in {i : Int} {n : Int} (h1 : 0 ≤ i) (h2 : i < n) (hi : r32 i) : vp_in (Int32.ofInt i) n.toNat := by
  rw [vp_in_iff, t32 hi]
  omega
theorem z_cl {i : Int} (h1 : 0 ≤ i) (hi : r32 i) : (Int32.ofInt i).toNatClampNeg = i.toNat := by
  show (Int32.ofInt i).toInt.toNat = _
  rw [t32 hi]
theorem z_arrK {g : zG} {s : State} (hK : va_K g.1 zCl (zTys g) s) {t : Int} (k : Nat) {ty : FieldType} (hk : (zTys g)[k]? = some (g.2.1 t, ty)) : ArrOfT s (g.2.1 t) ty := (hK.2 k _ hk).1
section
variable {b : Bool} {y : zM} {d pc : Nat} {ls st : List zA} {h : zH} {Q : Nat → Int → zH → Prop}
theorem z_ne0r (w : zwf h) {a : Int} (h1 : 0 ≤ zt h a) (h2 : zt h a < 70) : a ≠ 0 := by
  have := (w.ad (a := a) h1 h2).1
  omega
theorem zV_ialoadX {a i : Int} (hd : decode y.2.1 pc = .ok (.iaload, 1)) (ht : zt h a = 50) (h1 : 0 ≤ i) (h2 : i < zl h a) (kk : zV b y d (pc + 1) ls (zI (zd h a i) :: st) h Q) : zV b y d pc ls (zI i :: zR a :: st) h Q := by
  refine zV.go kk (fun a1 _ a3 a4 => ⟨a3, zm1 (zmt (zmt a4)) (by have := a1.1 a i; rw [ht] at this; exact this)⟩) (fun a1 _ _ a4 g p l e R s m args below meth c G H locs LS cells slots Qm hR hL kk => ?_)
  have h6 := hR.arr a1 ht (by decide) (by decide)
  show W _ _ _ _ _ _ _ _ _ _ _ _ _ _ _ (F0 m pc LS (.int (Int32.ofInt i) :: zc g.2.2.1 (zR a) :: st.map (zc g.2.2.1)))
  rw [zc_r (z_ne0r a1 (by omega) (by omega))]
  refine va_iald G.1.1 G.1.2.1 G.2.2.1.1 (z_one h6) 0 0 (f := fun (j : Nat) => Int32.ofInt (zd h a (j : Int))) rfl rfl (z_in h1 h2 (zmh a4)) hd (zW_top (kk LS hL) ?_)
  rw [z_cl h1 (zmh a4), Int.toNat_of_nonneg h1]; rfl
theorem zV_baloadX {a i : Int} (hd : decode y.2.1 pc = .ok (.baload, 1)) (ht : zt h a = 51 ∨ zt h a = 52) (h1 : 0 ≤ i) (h2 : i < zl h a) (kk : zV b y d (pc + 1) ls (zI (zd h a i) :: st) h Q) : zV b y d pc ls (zI i :: zR a :: st) h Q := by
  refine zV.go kk (fun a1 _ a3 a4 => ⟨a3, zm1 (zmt (zmt a4)) (by have := a1.1 a i; rcases ht with ht | ht <;> rw [ht] at this <;> exact this)⟩) (fun a1 _ _ a4 g p l e R s m args below meth c G H locs LS cells slots Qm hR hL kk => ?_)
  show W _ _ _ _ _ _ _ _ _ _ _ _ _ _ _ (F0 m pc LS (.int (Int32.ofInt i) :: zc g.2.2.1 (zR a) :: st.map (zc g.2.2.1)))
  rw [zc_r (z_ne0r a1 (by omega) (by omega))]
  rcases ht with ht | ht
  · have h6 := hR.arr a1 ht (by decide) (by decide)
    refine va_bald G.1.1 G.1.2.1 G.2.2.1.1 (z_one h6) 0 1 (f := fun (j : Nat) => Int32.ofInt (zd h a (j : Int))) rfl rfl (z_in h1 h2 (zmh a4)) hd (zW_top (kk LS hL) ?_)
    rw [z_cl h1 (zmh a4), Int.toNat_of_nonneg h1]; rfl
  · have h6 := hR.arr a1 ht (by decide) (by decide)
    refine va_zald G.1.1 G.1.2.1 G.2.2.1.1 (z_one h6) 0 2 (f := fun (j : Nat) => Int32.ofInt (zd h a (j : Int))) rfl rfl (z_in h1 h2 (zmh a4)) hd (zW_top (kk LS hL) ?_)
    rw [z_cl h1 (zmh a4), Int.toNat_of_nonneg h1]; rfl
theorem zV_laloadX {a i : Int} (hd : decode y.2.1 pc = .ok (.laload, 1)) (ht : zt h a = 53) (h1 : 0 ≤ i) (h2 : i < zl h a) (kk : zV b y d (pc + 1) ls (zJ (zd h a i) :: st) h Q) : zV b y d pc ls (zI i :: zR a :: st) h Q := by
  refine zV.go kk (fun a1 _ a3 a4 => ⟨a3, zm1 (zmt (zmt a4)) (by have := a1.1 a i; rw [ht] at this; exact this)⟩) (fun a1 _ _ a4 g p l e R s m args below meth c G H locs LS cells slots Qm hR hL kk => ?_)
  have h6 := hR.arr a1 ht (by decide) (by decide)
  show W _ _ _ _ _ _ _ _ _ _ _ _ _ _ _ (F0 m pc LS (.int (Int32.ofInt i) :: zc g.2.2.1 (zR a) :: st.map (zc g.2.2.1)))
  rw [zc_r (z_ne0r a1 (by omega) (by omega))]
  refine va_lald G.1.1 G.1.2.1 G.2.2.1.1 (z_one h6) 0 3 (f := fun (j : Nat) => Int64.ofInt (zd h a (j : Int))) rfl rfl (z_in h1 h2 (zmh a4)) hd (zW_top (kk LS hL) ?_)
  rw [z_cl h1 (zmh a4), Int.toNat_of_nonneg h1]; rfl
end
