/-! Z: the calls -/
set_option maxRecDepth 100000 in
theorem z_lo {d d' m R : Nat} (h1 : d' + 1 ≤ d) (h2 : m ≤ 45) (h3 : 64 * d + 10300 ≤ R) : 8 + (m + 11) + (64 * d' + 10300) ≤ R := by omega
theorem z_blind {g : zG} {h : zH} {av : List Value} : FrameBlind (va_Pc av (fun U => zRep g h U.heap ∧ zKn g U)) := by
  intro a U f mk q
  obtain ⟨q0, q1, q2⟩ := q
  exact ⟨q0, q1, zKn.same (s := U) rfl q2⟩
theorem z_recv {g : zG} {h : zH} {H : Heap} {s : State} (hR : zRep g h H) (w : zwf h) (hK : zKn g s) {a : Int} {t : Nat} (ht : zt h a = t) (h13 : t < 50) {C : String} {T : u_T} {N : Nat} (hc : zCl[t]? = some (C, T, N)) : ∃ cellB : Cell, H[g.2.2.1 a]? = some cellB ∧ cellB.vm.isStatics = false ∧ s.vm.findClass C = some cellB.cls :=
  va_recv (q0 := 0) (ci := t) hK.1 (z_one (hR.obj w ht h13)) hc rfl
theorem z_catsum {ad : Int → Nat} {rest : List zA} (h : (rest.map fun v => if v.1 = 1 then 2 else 1).sum ≤ 8) : ((rest.map (zc ad)).map fun v => v.category).sum ≤ 8 := by
  rw [List.map_map]
  have e : ((fun v : Value => v.category) ∘ zc ad) = fun v => if v.1 = 1 then 2 else 1 := by funext v; exact zcat ad v
  rw [e]; exact h
/-- sizes of a call: depth, locals, arguments -/
def zcs (y y' : zM) (d d' n : Nat) (rest : List zA) : Prop := (y'.1.cls ≠ "java/lang/invoke/MethodHandle" ∧ y'.1.cls ≠ "java/lang/invoke/VarHandle" ∧ (parseMethodDescriptor y'.1.desc).map (fun d => d.parameters.length) = some n) ∧ d' + 1 ≤ d ∧ y'.2.2.1 ≤ 45 ∧ (rest.map fun v => if v.1 = 1 then 2 else 1).sum ≤ 8
theorem zst_v {y' : zM} {rest : List zA} (hr : y'.2.2.2 = none) (g : zG) (o : Int) : (zrv g y' o).toList ++ rest.map (zc g.2.2.1) = rest.map (zc g.2.2.1) := by
  unfold zrv; rw [hr]; rfl
theorem zst_k {y' : zM} {rest : List zA} {ty : FieldType} {κ : Nat} (hr : y'.2.2.2 = some ty) (hk : zkf ty = κ) (g : zG) (o : Int) : (zrv g y' o).toList ++ rest.map (zc g.2.2.1) = ((κ, o) :: rest).map (zc g.2.2.1) := by
  unfold zrv; rw [hr]; subst hk; rfl
/-- a virtual call of a method with handlers, out of the machine's own step and the callee's way back -/
theorem z_callVW {p : Program} {l : Launch} {e : Env} {R : Room} {s : State} {m : MethodId} {args : Array Value} {below : List Frame} {meth : Method} {c : Code} {T : State} {locs : List Loc} {cells slots : Nat} (X : Stand p l e R s m args below meth c T locs cells slots) (hx : p.tables.exec = Jvm.exec) {own C : String} {index : Nat} {y : MethodName} {bytes : ByteArray} {maxL : Nat} {ret : Option FieldType} {hh : List (Nat × Nat × Nat × Nat)}
    (hown : s.vm.findClass own = some m.cls) (hl : (Cond.methodLink own index y).before args s = true) (hi : (Cond.instanceMethod y).before args s = true) (hs : (Cond.selects C y y).before args s = true) (hc : (Cond.codeWith y bytes maxL ret hh).before args s = true) (hy : y.cls ≠ "java/lang/invoke/MethodHandle" ∧ y.cls ≠ "java/lang/invoke/VarHandle")
    {Pre : Pt → Array Value → Prop} {Post : Pt → Array Value → Option Value → Pt → Prop} (hK : Back l R p e below s args y 3 8 Pre Post) {a : Addr} {cell : Cell} (h1 : T.heap[a]? = some cell) (h2 : cell.vm.isStatics = false) (h3 : s.vm.findClass C = some cell.cls) {g : JFrame} (hg : g.method = m) (hz : g.locals.size = c.maxLocals) {As rest : List Value} (hn : ∀ sig, parseMethodDescriptor y.desc = some sig → As.length = sig.parameters.length) (hst : g.stack = As.reverse ++ .ref a :: rest) (hW : 2 * g.monitorRoom + (rest.map fun v => v.category).sum ≤ 8) (hd : decode c.code g.pc = .ok (.invokevirtual index, 3)) (hp : ∀ vm₁, s.WarmedH vm₁ → Pre ⟨T.setVm vm₁, locs, cells, slots⟩ (Value.ref a :: As).toArray) :
    ∃ (v : Option Value) (vm₁ : Vm) (B : Pt), s.WarmedH vm₁ ∧ Stand p l e R s m args below meth c B.U B.locs B.cells B.slots ∧ Post ⟨T.setVm vm₁, locs, cells, slots⟩ (Value.ref a :: As).toArray v B ∧ ∀ u, Steps p.tables e below (B.U.setTop { g with pc := g.pc + 3, stack := v.toList ++ rest }) u → Steps p.tables e below (T.setTop g) u := by
  obtain ⟨k, M, n1, n2, n3, n4⟩ := Cond.instanceMethod_spec hi
  obtain ⟨k', M', cM, o1, o2, -, -, -, -, -, -, o3⟩ := Cond.codeWith_spec hc
  cases n1.symm.trans o1
  cases n2.symm.trans o2
  obtain ⟨c2, r2, m2, s1, s2, s3, s4, kP, s5, s6⟩ := Cond.selects_spec hs
  cases h3.symm.trans s1
  cases (State.methodFound?_of_named n1 hy).symm.trans s2
  cases n1.symm.trans s3
  have sel : selectMethod e.platform s.vm cell.cls k = .method k := by rw [Launch.admits_selectMethod X.admits]; exact s4
  obtain ⟨vm₁, X₁, go⟩ := X.invokevirtual hx hown hl n1 n2 n3 s5 s6 hy (a := a) (cell := cell) h1 (fun z h => by rw [h] at h2; cases h2) sel n2 n4 s5 s6 (g := g) hg (argsL := As) (rest := rest) (hn _ o3) hst hd
  obtain ⟨v, B, X', post, steps⟩ := hK m meth c ⟨T.setVm vm₁, locs, cells, slots⟩ { g with stack := rest } (.invokevirtual index) k (Value.ref a :: As).toArray X₁ hg hz hd hW (X₁.named n1) (hp vm₁ X₁.warmed)
  exact ⟨v, vm₁, B, X₁.warmed, X', post, fun u hu => go _ fun acts => by rw [doInvoke_state]; exact steps.trans hu⟩
theorem zcw_good {y : zM} (q : zcw y ∈ lw_all) : GoodIn lw_all (zws y) := fun w hw => by
  rcases List.mem_cons.mp hw with e | e
  · rw [e]; exact lw_self _ q
  · exact lw_self _ e
section
variable {b : Bool} {y y' : zM} {d d' pc idx : Nat} {ls st As rest : List zA} {h : zH} {Q Qc : Nat → Int → zH → Prop}
theorem z_rdec {y' : zM} {κ : Nat} {ty : FieldType} (hr : y'.2.2.2 = some ty) (hk : zkf ty = κ) {h1 : zH} {o : Int} (q : zok h1 (zrk y'.2.2.2, o)) : zok h1 (κ, o) := by
  rw [hr] at q; subst hk; exact q
/-- what a run of a virtual call asks -/
theorem z_runV {a : Int} {t : Nat} {C : String} {T : u_T} {N : Nat} (hd : decode y.2.1 pc = .ok (.invokevirtual idx, 3)) (ht : zt h a = t) (h13 : t < 50) (hc : zCl[t]? = some (C, T, N)) (hC : y'.1.cls = C)
    (q1 : Cond.methodLink y.1.cls idx y'.1 ∈ lw_all ∨ (zhh y'.1 = [] ∧ ∃ host, Cond.methodLinkNest y.1.cls idx y'.1 host ∈ lw_tbl)) (q2 : Cond.instanceMethod y'.1 ∈ lw_all) (q3 : Cond.selects C y'.1 y'.1 ∈ lw_all) (q4 : Cond.initialized C ∈ lw_all) (q5 : zcw y' ∈ lw_all) (hz : zcs y y' d d' As.length rest) (hst : st = As.reverse ++ zR a :: rest) :
    ∀ (tt : Nat) (o : Int) (h1 : zH), zwf h → (∀ v ∈ st, zok h v) → ∀ (g : zG) (p : Program) (l : Launch) (e : Env) (R : Room) (s : State) (m : MethodId) (args : Array Value) (below : List Frame) (meth : Method) (c : Code), zGood y d g p R s m args meth c →
      ∀ (H : Heap) (locs : List Loc) (LS : Array Slot) (cells slots : Nat), zRep g h H → LS.size = y.2.2.1 → Met l y'.1 (zws y') (zrm d' h h1) (va_Pc ((zR a :: As).map (zc g.2.2.1)) (fun U => zRep g h U.heap ∧ zKn g U)) (zQc g y' tt o h1) (zn h1 - zn h).toNat (zs h1 - zs h).toNat (zfree g) → cells + (zn h1 - zn h).toNat ≤ R.cells ∧ slots + (zs h1 - zs h).toNat ≤ R.slots →
      ∃ av, va_Run p l e R s m args below meth c H locs cells slots (zn h1 - zn h).toNat (zs h1 - zs h).toNat (F0 m pc LS (st.map (zc g.2.2.1))) (rest.map (zc g.2.2.1)) (zQc g y' tt o h1 av) (zfree g) := by
  intro tt o h1 w _ g p l e R s m args below meth c G H locs LS cells slots hR hsz hM hfit
  obtain ⟨⟨z1, z2, z3⟩, z4, z5, z6⟩ := hz
  have ha := z_ne0r w (show 0 ≤ zt h a by omega) (by omega)
  have fr : (zrm d' h h1).frames + 1 ≤ R.frames := Nat.le_trans z4 G.2.2.2.2.1
  have lo : 8 + (y'.2.2.1 + 11) + (zrm d' h h1).locals ≤ R.locals := by
    exact z_lo z4 z5 G.2.2.2.2.2.1
  have hp : PreV s H C (g.2.2.1 a) (va_Pc ((zR a :: As).map (zc g.2.2.1)) (fun U => zRep g h U.heap ∧ zKn g U)) (As.map (zc g.2.2.1)) := by
    refine ⟨z_blind, z_recv hR w G.2.2.1 ht h13 hc, fun U hU hW => ⟨?_, by rw [hU]; exact hR, zKn.warm hW G.2.2.1⟩⟩
    show (Value.ref (g.2.2.1 a) :: As.map (zc g.2.2.1)).toArray = (zc g.2.2.1 (zR a) :: As.map (zc g.2.2.1)).toArray
    rw [zc_r ha]
  have hstk : (F0 m pc LS (st.map (zc g.2.2.1))).stack = (As.map (zc g.2.2.1)).reverse ++ Value.ref (g.2.2.1 a) :: rest.map (zc g.2.2.1) := by
    show st.map (zc g.2.2.1) = _
    rw [hst]
    simp [zc_r ha]
  refine ⟨(Value.ref (g.2.2.1 a) :: As.map (zc g.2.2.1)).toArray, ?_⟩
  by_cases hh : zhh y'.1 = []
  · have q5' : Cond.code y'.1 y'.2.1 y'.2.2.1 y'.2.2.2 ∈ lw_all := by rw [← zcw_n hh]; exact q5
    have hw : zws y' = ws_ y'.1 y'.2.1 y'.2.2.1 y'.2.2.2 := by show zcw y' :: lw_all = _; rw [zcw_n hh]
    rw [hw] at hM
    rcases q1 with q1 | ⟨-, host, q1⟩
    · exact va_runV ⟨G.1.1, G.1.2.1, G.1.2.2.1, G.1.2.2.2.2.2.2, G.2.1⟩ hM (cwV (C := C) (bytes := y'.2.1) (maxL := y'.2.2.1) (ret := y'.2.2.2) As.length G.2.1 (lw_V q1 q2 q3 q4 q5') rfl rfl rfl ⟨hC, z1, z2, z3⟩ ⟨fr, lo⟩) hp rfl (by simp) hsz hstk (lv_room (z_catsum z6)) hd hfit
    · exact va_runVN (host := host) ⟨G.1.1, G.1.2.1, G.1.2.2.1, G.1.2.2.2.2.2.2, G.2.1⟩ hM ⟨va_cnB (bytes := y'.2.1) (maxL := y'.2.2.1) (ret := y'.2.2.2) As.length G.2.1 (lw_meth q5') rfl rfl rfl (G.2.2.1.2.1 _ q1 rfl) (G.2.1 _ (by rw [hC]; exact q4)) ⟨z1, z2, z3⟩ ⟨fr, lo⟩, G.2.1 _ q2, G.2.1 _ q3⟩ hp rfl (by simp) hsz hstk (lv_room (z_catsum z6)) hd hfit
  · rcases q1 with q1 | ⟨h0, -⟩
    · have hcb : ∀ w ∈ zws y', ∀ (a' : Array Value) (U : State), s.WarmedH U.vm → w.before a' U = true := pay_in G.2.1 (zcw_good q5)
      have hK := va_backW (W := 8) (len := 3) (R := R) (p := p) (e := e) (below := below) (s := s) (sargs := args) (bytes := y'.2.1) (maxL := y'.2.2.1) (ret := y'.2.2.2) (hh := zhh y'.1) hM z_blind rfl rfl fr lo hcb (by rw [← zcw_w hh]; exact List.mem_cons_self) (fun a' U hW => word_at hW (Or.inl rfl) (G.2.1 _ (by rw [hC]; exact q4)))
      obtain ⟨hp1, ⟨cellB, r1, r2, r3⟩, hp3⟩ := hp
      have hlen : ∀ sig, parseMethodDescriptor y'.1.desc = some sig → (As.map (zc g.2.2.1)).length = sig.parameters.length := fun sig hs => by
        rw [hs] at z3
        simp only [Option.map_some, Option.some.injEq] at z3
        rw [List.length_map]; exact z3.symm
      intro T hT X
      obtain ⟨v, vm₁, ⟨U', l2, c2, s2⟩, hW₁, X', ⟨g', mk, u, L, e1, e2, hq, e3, hL, e4, e5⟩, go⟩ := z_callVW X G.1.1 (bytes := y'.2.1) (maxL := y'.2.2.1) (ret := y'.2.2.2) (hh := zhh y'.1) G.1.2.2.2.2.2.2 (G.2.1 _ q1) (G.2.1 _ q2) (G.2.1 _ q3) (by rw [← zcw_w hh]; exact G.2.1 _ q5) ⟨z1, z2⟩ hK (by rw [hT]; exact r1) r2 r3 rfl (hsz.trans G.1.2.2.1.symm) hlen hstk (lv_room (z_catsum z6)) (by rw [G.1.2.1]; exact hd) (fun vm₁ hW₁ => ⟨hfit.1, hfit.2, hp3 (T.setVm vm₁) hT hW₁⟩)
      dsimp only [Pt.U, Pt.locs, Pt.cells, Pt.slots] at X' e1 e2 e3 e4 e5 go
      subst e3; subst e4; subst e5
      exact ⟨v, (T.setVm vm₁).calling g' mk _, u, U', L, hT, X', hL, e1, e2, hq, go⟩
    · exact absurd h0 hh
/-- static -/
theorem z_runS (hh : zhh y'.1 = []) (hd : decode y.2.1 pc = .ok (.invokestatic idx, 3)) (q1 : Cond.methodLink y.1.cls idx y'.1 ∈ lw_all ∨ (zhh y'.1 = [] ∧ ∃ host, Cond.methodLinkNest y.1.cls idx y'.1 host ∈ lw_tbl)) (q2 : Cond.static y'.1 ∈ lw_all) (q4 : Cond.initialized y'.1.cls ∈ lw_all) (q5 : zcw y' ∈ lw_all) (hz : zcs y y' d d' As.length rest) (hst : st = As.reverse ++ rest) :
    ∀ (tt : Nat) (o : Int) (h1 : zH), zwf h → (∀ v ∈ st, zok h v) → ∀ (g : zG) (p : Program) (l : Launch) (e : Env) (R : Room) (s : State) (m : MethodId) (args : Array Value) (below : List Frame) (meth : Method) (c : Code), zGood y d g p R s m args meth c →
      ∀ (H : Heap) (locs : List Loc) (LS : Array Slot) (cells slots : Nat), zRep g h H → LS.size = y.2.2.1 → Met l y'.1 (zws y') (zrm d' h h1) (va_Pc (As.map (zc g.2.2.1)) (fun U => zRep g h U.heap ∧ zKn g U)) (zQc g y' tt o h1) (zn h1 - zn h).toNat (zs h1 - zs h).toNat (zfree g) → cells + (zn h1 - zn h).toNat ≤ R.cells ∧ slots + (zs h1 - zs h).toNat ≤ R.slots →
      ∃ av, va_Run p l e R s m args below meth c H locs cells slots (zn h1 - zn h).toNat (zs h1 - zs h).toNat (F0 m pc LS (st.map (zc g.2.2.1))) (rest.map (zc g.2.2.1)) (zQc g y' tt o h1 av) (zfree g) := by
  intro tt o h1 w _ g p l e R s m args below meth c G H locs LS cells slots hR hsz hM hfit
  obtain ⟨⟨z1, z2, z3⟩, z4, z5, z6⟩ := hz
  have fr : (zrm d' h h1).frames + 1 ≤ R.frames := Nat.le_trans z4 G.2.2.2.2.1
  have lo : 8 + (y'.2.2.1 + 11) + (zrm d' h h1).locals ≤ R.locals := by
    exact z_lo z4 z5 G.2.2.2.2.2.1
  have hp : PreS s H (va_Pc (As.map (zc g.2.2.1)) (fun U => zRep g h U.heap ∧ zKn g U)) (As.map (zc g.2.2.1)) := ⟨z_blind, fun U hU hW => ⟨rfl, by rw [hU]; exact hR, zKn.warm hW G.2.2.1⟩⟩
  have hstk : (F0 m pc LS (st.map (zc g.2.2.1))).stack = (As.map (zc g.2.2.1)).reverse ++ rest.map (zc g.2.2.1) := by
    show st.map (zc g.2.2.1) = _
    rw [hst]
    simp
  refine ⟨(As.map (zc g.2.2.1)).toArray, ?_⟩
  have q5' : Cond.code y'.1 y'.2.1 y'.2.2.1 y'.2.2.2 ∈ lw_all := by rw [← zcw_n hh]; exact q5
  have hw : zws y' = ws_ y'.1 y'.2.1 y'.2.2.1 y'.2.2.2 := by show zcw y' :: lw_all = _; rw [zcw_n hh]
  rw [hw] at hM
  rcases q1 with q1 | ⟨-, host, q1⟩
  · exact va_runS ⟨G.1.1, G.1.2.1, G.1.2.2.1, G.1.2.2.2.2.2.2, G.2.1⟩ hM (va_cwS (bytes := y'.2.1) (maxL := y'.2.2.1) (ret := y'.2.2.2) As.length G.2.1 (lw_S q1 q2 q4 q5') rfl rfl rfl ⟨z1, z2, z3⟩ ⟨fr, lo⟩) hp rfl (by simp) hsz hstk (lv_room (z_catsum z6)) hd hfit
  · exact va_runSN (host := host) ⟨G.1.1, G.1.2.1, G.1.2.2.1, G.1.2.2.2.2.2.2, G.2.1⟩ hM ⟨va_cnB (bytes := y'.2.1) (maxL := y'.2.2.1) (ret := y'.2.2.2) As.length G.2.1 (lw_meth q5') rfl rfl rfl (G.2.2.1.2.1 _ q1 rfl) (G.2.1 _ q4) ⟨z1, z2, z3⟩ ⟨fr, lo⟩, G.2.1 _ q2, trivial⟩ hp rfl (by simp) hsz hstk (lv_room (z_catsum z6)) hd hfit
end
section
variable {b : Bool} {y y' : zM} {d d' pc idx : Nat} {ls st As rest : List zA} {h : zH} {Q Qc : Nat → Int → zH → Prop}
theorem zmA {h : zH} {l1 l2 : List zA} (hs : ∀ v ∈ l1.reverse ++ l2, zok h v) : (∀ v ∈ l1, zok h v) ∧ (∀ v ∈ l2, zok h v) := ⟨fun v hv => hs v (List.mem_append_left _ (List.mem_reverse.mpr hv)), fun v hv => hs v (List.mem_append_right _ hv)⟩
/-- only returns -/
def zQ0 (P : Int → zH → Prop) : Nat → Int → zH → Prop := fun t o h => t = 0 ∧ P o h
variable {P : Int → zH → Prop}
theorem zV_callV_k {a : Int} {t κ : Nat} {C : String} {T : u_T} {N : Nat} {ty : FieldType} (hd : decode y.2.1 pc = .ok (.invokevirtual idx, 3)) (hC : zC b y' d' (zR a :: As) h (zQ0 P)) (ht : zt h a = t) (h13 : t < 50) (hc : zCl[t]? = some (C, T, N)) (hC' : y'.1.cls = C)
    (q1 : Cond.methodLink y.1.cls idx y'.1 ∈ lw_all ∨ (zhh y'.1 = [] ∧ ∃ host, Cond.methodLinkNest y.1.cls idx y'.1 host ∈ lw_tbl)) (q2 : Cond.instanceMethod y'.1 ∈ lw_all) (q3 : Cond.selects C y'.1 y'.1 ∈ lw_all) (q4 : Cond.initialized C ∈ lw_all) (q5 : zcw y' ∈ lw_all) (hz : zcs y y' d d' As.length rest) (hst : st = As.reverse ++ zR a :: rest)
    (hr : y'.2.2.2 = some ty) (hk : zkf ty = κ) (kk : ∀ o h1, P o h1 → zle h h1 → zV b y d (pc + 3) ls ((κ, o) :: rest) h1 Q) : zV b y d pc ls st h Q :=
  zV.call hC (fun o => (κ, o) :: rest) (zst_k hr hk) (fun h1 o a4 q => zm1 (zmt (by rw [hst] at a4; exact (zmA a4).2)) (z_rdec hr hk q)) (fun a4 => by rw [hst] at a4; exact zm1 (zmA a4).1 (zmh (zmA a4).2)) (fun o h1 q => kk o h1 q.2) (fun o h1 q => absurd q.1 (by decide)) (fun t o h1 q => Or.inl q.1) (z_runV hd ht h13 hc hC' q1 q2 q3 q4 q5 hz hst)
theorem zV_callV_v {a : Int} {t : Nat} {C : String} {T : u_T} {N : Nat} (hd : decode y.2.1 pc = .ok (.invokevirtual idx, 3)) (hC : zC b y' d' (zR a :: As) h (zQ0 P)) (ht : zt h a = t) (h13 : t < 50) (hc : zCl[t]? = some (C, T, N)) (hC' : y'.1.cls = C)
    (q1 : Cond.methodLink y.1.cls idx y'.1 ∈ lw_all ∨ (zhh y'.1 = [] ∧ ∃ host, Cond.methodLinkNest y.1.cls idx y'.1 host ∈ lw_tbl)) (q2 : Cond.instanceMethod y'.1 ∈ lw_all) (q3 : Cond.selects C y'.1 y'.1 ∈ lw_all) (q4 : Cond.initialized C ∈ lw_all) (q5 : zcw y' ∈ lw_all) (hz : zcs y y' d d' As.length rest) (hst : st = As.reverse ++ zR a :: rest)
    (hr : y'.2.2.2 = none) (kk : ∀ o h1, P o h1 → zle h h1 → zV b y d (pc + 3) ls rest h1 Q) : zV b y d pc ls st h Q :=
  zV.call hC (fun _ => rest) (zst_v hr) (fun h1 o a4 q => zmt (by rw [hst] at a4; exact (zmA a4).2)) (fun a4 => by rw [hst] at a4; exact zm1 (zmA a4).1 (zmh (zmA a4).2)) (fun o h1 q => kk o h1 q.2) (fun o h1 q => absurd q.1 (by decide)) (fun t o h1 q => Or.inl q.1) (z_runV hd ht h13 hc hC' q1 q2 q3 q4 q5 hz hst)
theorem zV_callS_k {κ : Nat} {ty : FieldType} (hd : decode y.2.1 pc = .ok (.invokestatic idx, 3)) (hC : zC b y' d' As h (zQ0 P)) (q1 : Cond.methodLink y.1.cls idx y'.1 ∈ lw_all ∨ (zhh y'.1 = [] ∧ ∃ host, Cond.methodLinkNest y.1.cls idx y'.1 host ∈ lw_tbl)) (q2 : Cond.static y'.1 ∈ lw_all) (q4 : Cond.initialized y'.1.cls ∈ lw_all) (q5 : zcw y' ∈ lw_all) (hz : zcs y y' d d' As.length rest) (hst : st = As.reverse ++ rest) (hh : zhh y'.1 = [])
    (hr : y'.2.2.2 = some ty) (hk : zkf ty = κ) (kk : ∀ o h1, P o h1 → zle h h1 → zV b y d (pc + 3) ls ((κ, o) :: rest) h1 Q) : zV b y d pc ls st h Q :=
  zV.call hC (fun o => (κ, o) :: rest) (zst_k hr hk) (fun h1 o a4 q => zm1 (by rw [hst] at a4; exact (zmA a4).2) (z_rdec hr hk q)) (fun a4 => by rw [hst] at a4; exact (zmA a4).1) (fun o h1 q => kk o h1 q.2) (fun o h1 q => absurd q.1 (by decide)) (fun t o h1 q => Or.inl q.1) (z_runS hh hd q1 q2 q4 q5 hz hst)
theorem zV_callS_v (hd : decode y.2.1 pc = .ok (.invokestatic idx, 3)) (hC : zC b y' d' As h (zQ0 P)) (q1 : Cond.methodLink y.1.cls idx y'.1 ∈ lw_all ∨ (zhh y'.1 = [] ∧ ∃ host, Cond.methodLinkNest y.1.cls idx y'.1 host ∈ lw_tbl)) (q2 : Cond.static y'.1 ∈ lw_all) (q4 : Cond.initialized y'.1.cls ∈ lw_all) (q5 : zcw y' ∈ lw_all) (hz : zcs y y' d d' As.length rest) (hst : st = As.reverse ++ rest) (hh : zhh y'.1 = [])
    (hr : y'.2.2.2 = none) (kk : ∀ o h1, P o h1 → zle h h1 → zV b y d (pc + 3) ls rest h1 Q) : zV b y d pc ls st h Q :=
  zV.call hC (fun _ => rest) (zst_v hr) (fun h1 o a4 q => by rw [hst] at a4; exact (zmA a4).2) (fun a4 => by rw [hst] at a4; exact (zmA a4).1) (fun o h1 q => kk o h1 q.2) (fun o h1 q => absurd q.1 (by decide)) (fun t o h1 q => Or.inl q.1) (z_runS hh hd q1 q2 q4 q5 hz hst)
end
