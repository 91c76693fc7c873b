/-! Z: ends, entries, calls -/
section
variable {b : Bool} {y : zM} {d pc : Nat} {ls st : List zA} {h : zH} {Q : Nat → Int → zH → Prop}
theorem zV.end {x : Int} {st : List zA} (hq : Q 0 x h) (hok : (∀ v ∈ st, zok h v) → zok h (zrk y.2.2.2, x))
    (hw : ∀ (g : zG) (p : Program) (l : Launch) (e : Env) (R : Room) (s : State) (m : MethodId) (args : Array Value) (below : List Frame) (meth : Method) (c : Code), zGood y d g p R s m args meth c → ∀ (H : Heap) (locs : List Loc) (LS : Array Slot) (Qc : Array Value → State → Outcome → State → Prop), (∀ t : State, t.heap = H → s.WarmedH t.vm → Qc args s (.returned (zrv g y x)) t) → (∀ q ∈ locs, zfree g q.base) → W p l e R s m args below meth c H locs R.cells R.slots (MQ below Qc args s R.cells R.slots (zfree g)) (F0 m pc LS (st.map (zc g.2.2.1)))) : zV b y d pc ls st h Q := by
  intro a1 a2 a3 a4
  refine ⟨0, x, h, hq, zle.rf h, a1, fun _ => hok a4, fun g p l e R s m args below meth c G H locs LS cells slots hR hS hL hc hs => ?_⟩
  have e1 : cells = R.cells := by rw [hc]; simp
  have e2 : slots = R.slots := by rw [hs]; simp
  subst e1; subst e2
  exact hw g p l e R s m args below meth c G H locs LS _ (fun t ht hW => ⟨Or.inl ⟨rfl, rfl⟩, by rw [ht]; exact hR, hS.F ht⟩) hS.2.2
theorem zV_ireturn {ty : FieldType} {x : Int} (hd : decode y.2.1 pc = .ok (.ireturn, 1)) (hr : y.2.2.2 = some ty) (hk : zkf ty = 0) (hn : narrow ty (.int (Int32.ofInt x)) = .int (Int32.ofInt x)) (hq : Q 0 x h) : zV b y d pc ls [zI x] h Q := by
  refine zV.end hq (fun a4 => by rw [hr]; show zok h (zkf ty, x); rw [hk]; exact zmh a4) (fun g p l e R s m args below meth c G H locs LS Qc hQ hf => ?_)
  have hr2 : meth.sig.returnType = some ty := by rw [G.1.2.2.2.1]; exact hr
  refine W.zret (v := Int32.ofInt x) G.1.1 G.1.2.1 hr2 hn (fun t ht hW => ?_) hf hd G.1.2.2.2.2.1
  have := hQ t ht hW
  unfold zrv at this
  rw [hr] at this
  simp only [hk] at this
  exact this
theorem zV_lreturn {x : Int} (hd : decode y.2.1 pc = .ok (.lreturn, 1)) (hr : y.2.2.2 = some .long) (hq : Q 0 x h) : zV b y d pc ls [zJ x] h Q := by
  refine zV.end hq (fun a4 => by rw [hr]; exact zmh a4) (fun g p l e R s m args below meth c G H locs LS Qc hQ hf => ?_)
  have hr2 : meth.sig.returnType = some .long := by rw [G.1.2.2.2.1]; exact hr
  refine W.lret (v := Int64.ofInt x) G.1.1 G.1.2.1 hr2 (fun t ht hW => ?_) hf hd G.1.2.2.2.2.1
  have := hQ t ht hW
  unfold zrv at this
  rw [hr] at this
  exact this
theorem zV_areturn {ty : FieldType} {x : Int} (hd : decode y.2.1 pc = .ok (.areturn, 1)) (hr : y.2.2.2 = some ty) (hk : zkf ty = 2) (ht : (∃ n, ty = .object n) ∨ ∃ t, ty = .array t) (hq : Q 0 x h) : zV b y d pc ls [zR x] h Q := by
  refine zV.end hq (fun a4 => by rw [hr]; show zok h (zkf ty, x); rw [hk]; exact zmh a4) (fun g p l e R s m args below meth c G H locs LS Qc hQ hf => ?_)
  have hr2 : meth.sig.returnType = some ty := by rw [G.1.2.2.2.1]; exact hr
  refine W.aret (v := zc g.2.2.1 (zR x)) G.1.1 G.1.2.1 hr2 ht ?_ (fun t ht hW => ?_) hf hd G.1.2.2.2.2.1
  · by_cases c0 : x = 0
    · subst c0; exact Or.inl rfl
    · exact Or.inr ⟨_, zc_r c0⟩
  · have := hQ t ht hW
    unfold zrv at this
    rw [hr] at this
    simp only [hk] at this
    exact this
theorem zV_return (hd : decode y.2.1 pc = .ok (.return_, 1)) (hr : y.2.2.2 = none) (hq : Q 0 0 h) : zV b y d pc ls [] h Q := by
  refine zV.end hq (fun a4 => by rw [hr]; trivial) (fun g p l e R s m args below meth c G H locs LS Qc hQ hf => ?_)
  have hr2 : meth.sig.returnType = none := by rw [G.1.2.2.2.1]; exact hr
  refine W.vret G.1.1 G.1.2.1 hr2 (fun t ht hW => ?_) hf hd G.1.2.2.2.2.1
  have := hQ t ht hW
  unfold zrv at this
  rw [hr] at this
  exact this
theorem zV_alenX {a : Int} (hd : decode y.2.1 pc = .ok (.arraylength, 1)) (ht : zt h a = 50 ∨ zt h a = 51 ∨ zt h a = 52 ∨ zt h a = 53 ∨ zt h a = 60 ∨ zt h a = 61 ∨ zt h a = 62 ∨ zt h a = 63) (kk : zV b y d (pc + 1) ls (zI (zl h a) :: st) h Q) : zV b y d pc ls (zR a :: st) h Q := by
  refine zV.go kk (fun a1 _ a3 a4 => ⟨a3, zm1 (zmt a4) (by have := a1.2.2.1 a (by omega); exact ⟨by show -2147483648 ≤ zl h a; omega, this.2⟩)⟩) (fun a1 _ _ a4 g p l e R s m args below meth c G H locs LS cells slots Qm hR hL kk => ?_)
  show W _ _ _ _ _ _ _ _ _ _ _ _ _ _ _ (F0 m pc LS (zc g.2.2.1 (zR a) :: st.map (zc g.2.2.1)))
  rw [zc_r (z_ne0r a1 (by omega) (by omega))]
  have hl := a1.2.2.1 a (by omega)
  have e0 : ∀ t, Int32.ofNat (zas g h t a).1 = Int32.ofInt (zl h a) := fun t => by
    show Int32.ofNat (zl h a).toNat = _
    have : Int32.ofInt (((zl h a).toNat : Nat) : Int) = Int32.ofInt (zl h a) := by rw [Int.toNat_of_nonneg hl.1]
    rw [← this]; rfl
  rcases ht with ht | ht | ht | ht | ht | ht | ht | ht
  · exact va_alen G.1.1 G.1.2.1 G.2.2.1.1 (z_one (hR.arr a1 ht (by decide) (by decide))) 0 0 rfl rfl (e0 _) hd (kk LS hL)
  · exact va_alen G.1.1 G.1.2.1 G.2.2.1.1 (z_one (hR.arr a1 ht (by decide) (by decide))) 0 1 rfl rfl (e0 _) hd (kk LS hL)
  · exact va_alen G.1.1 G.1.2.1 G.2.2.1.1 (z_one (hR.arr a1 ht (by decide) (by decide))) 0 2 rfl rfl (e0 _) hd (kk LS hL)
  · exact va_alen G.1.1 G.1.2.1 G.2.2.1.1 (z_one (hR.arr a1 ht (by decide) (by decide))) 0 3 rfl rfl (e0 _) hd (kk LS hL)
  · exact va_alen G.1.1 G.1.2.1 G.2.2.1.1 (z_one (hR.arr a1 ht (by decide) (by decide))) 0 4 rfl rfl (e0 _) hd (kk LS hL)
  · exact va_alen G.1.1 G.1.2.1 G.2.2.1.1 (z_one (hR.arr a1 ht (by decide) (by decide))) 0 5 rfl rfl (e0 _) hd (kk LS hL)
  · exact va_alen G.1.1 G.1.2.1 G.2.2.1.1 (z_one (hR.arr a1 ht (by decide) (by decide))) 0 6 rfl rfl (e0 _) hd (kk LS hL)
  · exact va_alen G.1.1 G.1.2.1 G.2.2.1.1 (z_one (hR.arr a1 ht (by decide) (by decide))) 0 7 rfl rfl (e0 _) hd (kk LS hL)
end
/-- locals at an entry -/
def zent (as : List zA) (nL : Nat) : List zA := (as.flatMap fun v => if v.1 = 1 then [v, zU] else [v]) ++ List.replicate (nL - (as.flatMap fun v => if v.1 = 1 then [v, zU] else [v]).length) zU
theorem zent_len (ad : Int → Nat) (as : List zA) : (lg_sl (as.map (zc ad))).length = (as.flatMap fun v => if v.1 = 1 then [v, zU] else [v]).length := by
  induction as with
  | nil => rfl
  | cons v t ih =>
    unfold lg_sl at ih ⊢
    simp only [List.map_cons, List.flatMap_cons, List.length_append, ih, zcat]
    by_cases c : v.1 = 1
    · simp [c]
    · simp [c]
theorem zent_at (ad : Int → Nat) (rep : List zA) (hrep : ∀ v ∈ rep, v = zU) (as : List zA) : ∀ (i0 i : Nat) (v : zA), ((as.flatMap fun v => if v.1 = 1 then [v, zU] else [v]) ++ rep)[i]? = some v → v.1 < 3 → (i0 + i, zc ad v) ∈ lv_args i0 (as.map (zc ad)) := by
  induction as with
  | nil =>
    intro i0 i v h hv
    have := hrep v (List.mem_of_getElem? (by simpa using h))
    subst this
    exact absurd hv (by decide)
  | cons w t ih =>
    intro i0 i v h hv
    simp only [List.map_cons, List.flatMap_cons, List.append_assoc] at h ⊢
    unfold lv_args
    rw [zcat]
    by_cases c : w.1 = 1
    · rw [if_pos c, if_pos rfl]
      rw [if_pos c] at h
      match i, h with
      | 0, h => simp at h; subst h; exact List.mem_cons_self
      | 1, h => simp at h; subst h; exact absurd hv (by decide)
      | i + 2, h =>
        simp at h
        have := ih (i0 + 2) i v (by simpa using h) hv
        exact List.mem_cons_of_mem _ (by rw [show i0 + (i + 2) = i0 + 2 + i by omega]; exact this)
    · rw [if_neg c, if_neg (by decide)]
      rw [if_neg c] at h
      match i, h with
      | 0, h => simp at h; subst h; exact List.mem_cons_self
      | i + 1, h =>
        simp at h
        have := ih (i0 + 1) i v (by simpa using h) hv
        exact List.mem_cons_of_mem _ (by rw [show i0 + (i + 1) = i0 + 1 + i by omega]; exact this)
theorem zent_ok {h : zH} {as : List zA} {nL : Nat} (ha : ∀ v ∈ as, zok h v) : ∀ v ∈ zent as nL, zok h v := by
  intro v hv
  unfold zent at hv
  rcases List.mem_append.mp hv with hv | hv
  · obtain ⟨w, h1, h2⟩ := List.mem_flatMap.mp hv
    by_cases c : w.1 = 1
    · rw [if_pos c] at h2
      simp at h2
      rcases h2 with h2 | h2
      · rw [h2]; exact ha w h1
      · rw [h2]; trivial
    · rw [if_neg c] at h2
      simp at h2
      rw [h2]; exact ha w h1
  · rw [List.eq_of_mem_replicate hv]; trivial
/-- a contract out of the walk from the entry -/
theorem zC.of {b : Bool} {y : zM} {d : Nat} {as : List zA} {h : zH} {Q : Nat → Int → zH → Prop} (hy : plainName y.1.cls = true) (hfit : (zent as 0).length ≤ y.2.2.1) (k : zV b y d 0 (zent as y.2.2.1) [] h Q) : zC b y d as h Q := by
  intro a1 a2 a3
  obtain ⟨t, o, h', q, q1, q2, q3, r⟩ := k a1 a2 (zent_ok a3) (fun v hv => by cases hv)
  refine ⟨t, o, h', q, q1, q2, q3, fun g l hg => ?_⟩
  have body : ∀ p e s m args below meth c s₁, BodyLoose p l y.1 (headSpec (zws y) (zrm d h h')) y.2.1 y.2.2.1 y.2.2.2 e s m args below meth c s₁ → c.maxLocals = y.2.2.1 → va_Pc (as.map (zc g.2.2.1)) (fun U => zRep g h U.heap ∧ zKn g U) args s →
      W p l e (headSpec (zws y) (zrm d h h')).room s m args below meth c s.heap [] 0 0 (MQ below (zQc g y t o h') args s (zn h' - zn h).toNat (zs h' - zs h).toNat (zfree g)) (entryFrame m args y.2.2.1) := by
    intro p e s m args below meth c s₁ B hml hv
    obtain ⟨rfl, hR, hK⟩ := hv
    have hts0 := atoms_spec (ws := zws y) B.pre
    have hts : ∀ w ∈ lw_all, w.before _ s = true := fun w h => hts0 w (List.mem_cons_of_mem _ h)
    have hown : s.vm.findClass y.1.cls = some m.cls := findClass_of_methodNamed B.named
    have hex : c.exceptionTable.toList.map (fun q => (q.startPc, q.endPc, q.handlerPc, q.catchType)) = zhh y.1 := by
      have hc0 := hts0 _ List.mem_cons_self
      have hcode : meth.code = some c := (Stand.of_body B).code
      by_cases hh : zhh y.1 = []
      · rw [zcw_n hh] at hc0
        obtain ⟨meth2, c2, e1, e2, -, -, -, -, e3, -⟩ := Cond.code_spec B.named hc0
        cases B.method.symm.trans e1
        cases hcode.symm.trans e2
        rw [hh]
        have e4 : c.exceptionTable = #[] := by simpa using e3
        rw [e4]; rfl
      · rw [zcw_w hh] at hc0
        obtain ⟨m2, meth2, c2, e0, e1, e2, -, -, e3, -, -, -⟩ := Cond.codeWith_spec hc0
        cases B.named.symm.trans e0
        cases B.method.symm.trans e1
        cases hcode.symm.trans e2
        exact e3
    have hlen : (lg_sl (as.map (zc g.2.2.1))).length ≤ y.2.2.1 := by
      rw [zent_len]
      refine Nat.le_trans ?_ hfit
      unfold zent
      simp
    have hl := lv_entry (as.map (zc g.2.2.1)) (n := y.2.2.1) hlen
    rw [lg_entry_eq]
    refine r g p l e (zrm d h h') s m _ below meth c ⟨⟨B.exec, B.bytes, hml, B.returns, B.notSynchronized, (name_of_methodNamed B.named B.method).1, hown⟩, hts, hK, hg, Nat.le_refl _, Nat.le_refl _, ?_, hex⟩ s.heap [] _ 0 0 hR va_S.rf ?_ (by simp [zrm]) (by simp [zrm])
    · have h1 := hR.1
      omega
    · refine ⟨hl.1, hl.2.1, fun i v hi hv => hl.2.2 (i, zc g.2.2.1 v) ?_⟩
      unfold zent at hi
      have := zent_at g.2.2.1 _ (fun v hv => List.eq_of_mem_replicate hv) as 0 i v hi hv
      simpa using this
  by_cases hh : zhh y.1 = []
  · exact Met.ofW (cc := y.2.1) (maxL := y.2.2.1) (ret := y.2.2.2) hy (by show zcw y :: lw_all = _; rw [zcw_n hh]) body
  · exact va_MetW (cc := y.2.1) (maxL := y.2.2.1) (ret := y.2.2.2) (hh := zhh y.1) hy (by show zcw y :: lw_all = _; rw [zcw_w hh]) body
theorem zC.imp {b : Bool} {y : zM} {d : Nat} {as : List zA} {h : zH} {Q Q' : Nat → Int → zH → Prop} (k : zC b y d as h Q) (hq : ∀ t o h', Q t o h' → Q' t o h') : zC b y d as h Q' := by
  intro a1 a2 a3
  obtain ⟨t, o, h', q, r⟩ := k a1 a2 a3
  exact ⟨t, o, h', hq _ _ _ q, r⟩
/-- a call, out of its run -/
theorem zV.call {b : Bool} {y y' : zM} {d d' pc : Nat} {ls st as rest : List zA} {h : zH} {Q Qc : Nat → Int → zH → Prop} (hC : zC b y' d' as h Qc) (st' : Int → List zA) (hst' : ∀ (g : zG) (o : Int), (zrv g y' o).toList ++ rest.map (zc g.2.2.1) = (st' o).map (zc g.2.2.1))
    (hok : ∀ h1 o, (∀ v ∈ st, zok h1 v) → zok h1 (zrk y'.2.2.2, o) → ∀ v ∈ st' o, zok h1 v) (has : (∀ v ∈ st, zok h v) → ∀ v ∈ as, zok h v)
    (kk : ∀ o h1, Qc 0 o h1 → zle h h1 → zV b y d (pc + 3) ls (st' o) h1 Q) (hx : ∀ o h1, ¬ Qc 1 o h1) (h01 : ∀ t o h1, Qc t o h1 → t = 0 ∨ t = 1)
    (hrun : ∀ (t : Nat) (o : Int) (h1 : zH), zwf h → (∀ v ∈ st, zok h v) → ∀ (g : zG) (p : Program) (l : Launch) (e : Env) (R : Room) (s : State) (m : MethodId) (args : Array Value) (below : List Frame) (meth : Method) (c : Code), zGood y d g p R s m args meth c →
      ∀ (H : Heap) (locs : List Loc) (LS : Array Slot) (cells slots : Nat), zRep g h H → LS.size = y.2.2.1 → Met l y'.1 (zws y') (zrm d' h h1) (va_Pc (as.map (zc g.2.2.1)) (fun U => zRep g h U.heap ∧ zKn g U)) (zQc g y' t o h1) (zn h1 - zn h).toNat (zs h1 - zs h).toNat (zfree g) → cells + (zn h1 - zn h).toNat ≤ R.cells ∧ slots + (zs h1 - zs h).toNat ≤ R.slots →
      ∃ av, va_Run p l e R s m args below meth c H locs cells slots (zn h1 - zn h).toNat (zs h1 - zs h).toNat (F0 m pc LS (st.map (zc g.2.2.1))) (rest.map (zc g.2.2.1)) (zQc g y' t o h1 av) (zfree g)) : zV b y d pc ls st h Q := by
  intro a1 a2 a3 a4
  obtain ⟨t, o, h1, q, q1, q2, q3, r⟩ := hC a1 a2 (has a4)
  have ht : t = 0 := by
    rcases h01 _ _ _ q with e | e
    · exact e
    · subst e; exact absurd q (hx _ _)
  subst ht
  obtain ⟨t', o', h', p0, p1, p2, p3, r'⟩ := kk o h1 q q1 q2 (fun hb => (a2 hb).le q1) (fun v hv => (a3 v hv).le q1.1) (hok h1 o (fun v hv => (a4 v hv).le q1.1) (q3 rfl))
  refine ⟨t', o', h', p0, q1.tr p1, p2, p3, fun g p l e R s m args below meth c G H locs LS cells slots hR hS hL hc hs => ?_⟩
  have n1 := q1.1
  have n2 := q1.2.1
  have n3 := p1.1
  have n4 := p1.2.1
  obtain ⟨av, hr⟩ := hrun 0 o h1 a1 a4 g p l e R s m args below meth c G H locs LS cells slots hR hL.1 (r g l G.2.2.2.1) ⟨by omega, by omega⟩
  intro T hT X
  obtain ⟨v, st₀, u, T', L, e0, X', hL', e1, e2, ⟨hv, hR', hz, hk⟩, go⟩ := hr T hT X
  rcases hv with ⟨-, hv⟩ | ⟨hv, -⟩
  · cases hv
    rw [e0] at hz hk
    have hS' : va_S (zfree g) s.heap T'.heap (locs ++ L) := ⟨Nat.le_trans hS.1 (by rw [e1]; exact hz), fun x h1 h2 => by rw [e1, hk x (Nat.lt_of_lt_of_le h1 hS.1) h2]; exact hS.2.1 x h1 h2, fun x hx => by
      rcases List.mem_append.mp hx with h | h
      · exact hS.2.2 x h
      · exact hL' x h⟩
    obtain ⟨t2, b1, b2⟩ := r' g p l e R s m args below meth c G T'.heap (locs ++ L) LS _ _ (by rw [e1]; exact hR') hS' hL (by rw [hc]; omega) (by rw [hs]; omega) T' rfl X'
    refine ⟨t2, go t2 ?_, b2⟩
    show Steps p.tables e below (T'.setTop (F0 m (pc + 3) LS ((zrv g y' o).toList ++ rest.map (zc g.2.2.1)))) t2
    rw [hst' g o]
    exact b1
  · cases hv
