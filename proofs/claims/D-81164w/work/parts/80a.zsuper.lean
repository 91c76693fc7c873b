/-! Z: super calls -/
def zSU (own : String) (idx : Nat) (xc : String) (y' : zM) (n : Nat) : Prop := zhh y'.1 = [] ∧ y'.2.2.1 ≤ 45 ∧ Cond.methodLink own idx ⟨xc, y'.1.name, y'.1.desc⟩ ∈ lw_all ∧ Cond.sameMethod xc y'.1.cls y'.1.name y'.1.desc ∈ lw_all ∧ Cond.superclass own xc ∈ lw_all ∧ (xc = y'.1.cls ∨ Cond.superclass xc y'.1.cls ∈ lw_all) ∧ Cond.instanceMethod y'.1 ∈ lw_all ∧ Cond.initialized y'.1.cls ∈ lw_all ∧ zcw y' ∈ lw_all ∧ (y'.1.name ≠ "<init>" ∧ (parseMethodDescriptor y'.1.desc).map (fun d => d.parameters.length) = some n)
theorem z_callSU {p : Program} {l : Launch} {e : Env} {R : Room} {s : State} {m : MethodId} {args : Array Value} {below : List Frame} {meth : Method} {c : Code} {T : State} {locs : List Loc} {cells slots : Nat} (X : Stand p l e R s m args below meth c T locs cells slots) (hexec : p.tables.exec = Jvm.exec) {own xc : String} {index : Nat} {y : MethodName} {bytes : ByteArray} {maxL : Nat} {ret : Option FieldType}
    (hown : s.vm.findClass own = some m.cls) (hlink : (Cond.methodLink own index ⟨xc, y.name, y.desc⟩).before args s = true) (hsame : (Cond.sameMethod xc y.cls y.name y.desc).before args s = true) (hsup : (Cond.superclass own xc).before args s = true) (hsup2 : xc = y.cls ∨ (Cond.superclass xc y.cls).before args s = true)
    (hinst : (Cond.instanceMethod y).before args s = true) (hcode : (Cond.code y bytes maxL ret).before args s = true) (hno : y.name ≠ "<init>")
    {W : Nat} {Pre : Pt → Array Value → Prop} {Post : Pt → Array Value → Option Value → Pt → Prop} (hK : Back l R p e below s args y 3 W Pre Post)
    {b : Addr} {cellB : Cell} {kB : Class} (hcell : T.heap[b]? = some cellB) (hobj : cellB.vm.isStatics = false) (hkB : s.vm.classes[cellB.cls]? = some kB)
    {g : JFrame} (hg : g.method = m) (hsize : g.locals.size = c.maxLocals) {argsL rest : List Value} (hlen : ∀ sig, parseMethodDescriptor y.desc = some sig → argsL.length = sig.parameters.length)
    (hstack : g.stack = argsL.reverse ++ .ref b :: rest) (hW : 2 * g.monitorRoom + (rest.map fun v => v.category).sum ≤ W) (hdg : decode c.code g.pc = .ok (.invokespecial index, 3))
    (hpre : ∀ vm₁, s.WarmedH vm₁ → Pre ⟨T.setVm vm₁, locs, cells, slots⟩ (Value.ref b :: argsL).toArray) :
    ∃ (v : Option Value) (vm₁ : Vm) (B : Pt), s.WarmedH vm₁ ∧ Stand p l e R s m args below meth c B.U B.locs B.cells B.slots ∧ Post ⟨T.setVm vm₁, locs, cells, slots⟩ (Value.ref b :: argsL).toArray v B ∧
      ∀ target, Steps p.tables e below (B.U.setTop { g with pc := g.pc + 3, stack := v.toList ++ rest }) target → Steps p.tables e below (T.setTop g) target := by
  obtain ⟨mk, methM, hnamed, hmethM, hstM, habM⟩ := Cond.instanceMethod_spec hinst
  obtain ⟨methM', cM, hmethM', -, -, -, -, -, -, hsigM⟩ := Cond.code_spec hnamed hcode
  cases hmethM.symm.trans hmethM'
  obtain ⟨ps, dk, kp, hps, hdk, hkp, hsuper, -, -, hnid⟩ := Cond.superclass_spec hown hsup
  have hn : s.methodNamed? ⟨y.cls, y.name, y.desc⟩ = some mk := hnamed
  have hsub : s.vm.isSubclass ps mk.cls = true := by
    have hcl := findClass_of_methodNamed hnamed
    rcases hsup2 with hx | hx
    · have hpm : ps = mk.cls := Option.some.inj (hps.symm.trans (by rw [hx]; exact hcl))
      rw [hpm]; simp [Vm.isSubclass, Vm.isSubclassAux]
    · obtain ⟨p2, k2, kp2, g1, g2, g3, g4, -⟩ := Cond.superclass_spec hps hx
      have hpm : p2 = mk.cls := Option.some.inj (g1.symm.trans hcl)
      subst hpm
      have hpos : 0 < s.vm.classes.size := Nat.lt_of_le_of_lt (Nat.zero_le _) (Array.getElem?_eq_some_iff.mp g2).1
      obtain ⟨z, hz⟩ := Nat.exists_eq_succ_of_ne_zero (Nat.ne_of_gt hpos)
      simp [Vm.isSubclass, Vm.isSubclassAux, g2, g4, hz]
  obtain ⟨vm₁, X₁, hstep₁⟩ := X.invokespecialUp hexec hown hlink hsame hn hmethM hstM habM hno hdk hnid hps hsuper hsub (a := b) (cell := cellB) hcell
    (fun z h => by rw [h] at hobj; cases hobj) hkB (g := g) hg (argsL := argsL) (rest := rest) (hlen _ hsigM) hstack hdg
  obtain ⟨v, B, X', hpost, hsteps⟩ := hK m meth c ⟨T.setVm vm₁, locs, cells, slots⟩ { g with stack := rest } (.invokespecial index) mk (Value.ref b :: argsL).toArray X₁ hg hsize hdg hW (X₁.named hnamed) (hpre vm₁ X₁.warmed)
  exact ⟨v, vm₁, B, X₁.warmed, X', hpost, fun target h => hstep₁ _ (by rw [doInvoke_state]; exact hsteps.trans h)⟩
theorem z_runSU0 {p : Program} {l : Launch} {e : Env} {R : Room} {s : State} {m : MethodId} {args : Array Value} {below : List Frame} {meth : Method} {c : Code} {H : Heap} {locs : List Loc} {cells slots : Nat} {y : MethodName} {bytes cc : ByteArray} {maxL nL mc ms n index : Nat} {ret : Option FieldType} {ws : List Cond} {rm : Room} {Pc : Array Value → State → Prop} {Qc : Array Value → State → Outcome → State → Prop} {free : Addr → Prop} {Ts : List Cond} {own xc C : String} {cC : ClassId} {b : Addr} {As rest : List Value} {g : JFrame}
    (hat : ClassAt s C cC) (S : CallFix p m c cc nL s args Ts own) (hM : Met l y ws rm Pc Qc mc ms free)
    (cw : (rm.cells = mc ∧ rm.slots = ms ∧ rm.frames + 1 ≤ R.frames ∧ 8 + (maxL + 11) + rm.locals ≤ R.locals ∧ (∀ w ∈ ws, ∀ (a' : Array Value) (U : State), s.WarmedH U.vm → w.before a' U = true) ∧ Cond.code y bytes maxL ret ∈ ws) ∧ (Cond.methodLink own index ⟨xc, y.name, y.desc⟩).before args s = true ∧ (Cond.sameMethod xc y.cls y.name y.desc).before args s = true ∧ (Cond.superclass own xc).before args s = true ∧ (xc = y.cls ∨ (Cond.superclass xc y.cls).before args s = true) ∧ (Cond.instanceMethod y).before args s = true ∧ (Cond.initialized y.cls).before args s = true ∧ (Cond.code y bytes maxL ret).before args s = true ∧ y.name ≠ "<init>" ∧ (∀ sig, parseMethodDescriptor y.desc = some sig → n = sig.parameters.length))
    (hp : PreV s H C b Pc As)
    (hg : g.method = m) (hn : As.length = n) (hsize : g.locals.size = nL) (hstack : g.stack = As.reverse ++ .ref b :: rest) (hW : 2 * g.monitorRoom + (rest.map fun v => v.category).sum ≤ 8) (hdg : decode cc g.pc = .ok (.invokespecial index, 3)) (hf : cells + mc ≤ R.cells ∧ slots + ms ≤ R.slots) :
    va_Run p l e R s m args below meth c H locs cells slots mc ms g rest (Qc (Value.ref b :: As).toArray) (free) := by
  obtain ⟨⟨hrc, hrs, hfr, hlo, hws, hcw⟩, hl1, hl2, hl3, hl3', hl4, hini, hcode, hno, hlen⟩ := cw
  have hK : Back l R p e below s args y 3 8 (PreOf R mc ms Pc) (PostOf Qc mc ms free) := back_of (bytes := bytes) (maxL := maxL) (ret := ret) hM hp.1 hrc hrs hfr hlo hws hcw (fun a' U hW => word_at hW (Or.inl (by first | rfl | simp [Cond.onTables, Cond.keeps, Cond.steady])) hini)
  obtain ⟨hx, hb, hml, ho, -⟩ := S
  obtain ⟨-, ⟨cellB, hcB, hoB, hclB⟩, hPc⟩ := hp
  obtain ⟨hfc, kB, hkB, -⟩ := hat
  cases hfc.symm.trans hclB
  intro T hT X
  obtain ⟨v, vm₁, ⟨U', l2, c2, s2⟩, hW₁, X', ⟨g', mk, t, L, e1, e2, hq, h1, hL, h2, h3⟩, st⟩ := z_callSU X hx (bytes := bytes) (maxL := maxL) (ret := ret) ho hl1 hl2 hl3 hl3' hl4 hcode hno hK (by rw [hT]; exact hcB) hoB hkB hg (hsize.trans hml.symm) (argsL := As) (rest := rest) (fun sig h => hn.trans (hlen sig h)) hstack hW (by rw [hb]; exact hdg)
    (fun vm₁ hW₁ => ⟨hf.1, hf.2, hPc (T.setVm vm₁) hT hW₁⟩)
  dsimp only [Pt.U, Pt.locs, Pt.cells, Pt.slots] at X' e1 e2 h1 h2 h3 st
  subst h1; subst h2; subst h3
  exact ⟨v, (T.setVm vm₁).calling g' mk (Value.ref b :: As).toArray, t, U', L, hT, X', hL, e1, e2, hq, st⟩
section
variable {y y' : zM} {d d' pc idx : Nat} {ls st As rest : List zA} {h : zH} {Q : Nat → Int → zH → Prop} {P : Int → zH → Prop}
theorem z_runSU {a : Int} (ts : List Nat) (hts : ∀ t ∈ ts, t < 13) (hd : decode y.2.1 pc = .ok (.invokespecial idx, 3)) (ob : ∃ t ∈ ts, zt h a = ((t : Nat) : Int)) {xc : String} (ul : zSU y.1.cls idx xc y' As.length) (hdd : d' + 1 ≤ d) (hsum : (rest.map fun v => if v.1 = 1 then 2 else 1).sum ≤ 8) (hst : st = As.reverse ++ zR a :: rest) :
    ∀ (tt : Nat) (o : Int) (h1 : zH), zwf h → (∀ v ∈ st, zok h v) → ∀ (g : zG) (p : Program) (l : Launch) (e : Env) (R : Room) (s : State) (m : MethodId) (args : Array Value) (below : List Frame) (meth : Method) (c : Code), zGood y d g p R s m args meth c →
      ∀ (H : Heap) (locs : List Loc) (LS : Array Slot) (cells slots : Nat), zRep g h H → LS.size = y.2.2.1 → Met l y'.1 (zws y') (zrm d' h h1) (va_Pc ((zR a :: As).map (zc g.2.2.1)) (fun U => zRep g h U.heap ∧ zKn g U)) (zQc g y' tt o h1) (zn h1 - zn h).toNat (zs h1 - zs h).toNat (zfree g) → cells + (zn h1 - zn h).toNat ≤ R.cells ∧ slots + (zs h1 - zs h).toNat ≤ R.slots →
      ∃ av, va_Run p l e R s m args below meth c H locs cells slots (zn h1 - zn h).toNat (zs h1 - zs h).toNat (F0 m pc LS (st.map (zc g.2.2.1))) (rest.map (zc g.2.2.1)) (zQc g y' tt o h1 av) (zfree g) := by
  intro tt o h1 w _ g p l e R s m args below meth c G H locs LS cells slots hR hsz hM hfit
  obtain ⟨t, htt, ht⟩ := ob
  have h13 := hts t htt
  obtain ⟨C, T, N, hc, -⟩ := zcf t h13
  obtain ⟨hh, z5, q1, q2, q3, q3b, q4, q5, q6, z2, z3⟩ := ul
  have ha := z_ne0r w (show 0 ≤ zt h a by omega) (by omega)
  have fr : (zrm d' h h1).frames + 1 ≤ R.frames := Nat.le_trans hdd G.2.2.2.2.1
  have lo : 8 + (y'.2.2.1 + 11) + (zrm d' h h1).locals ≤ R.locals := z_lo hdd z5 G.2.2.2.2.2.1
  have hp : PreV s H C (g.2.2.1 a) (va_Pc ((zR a :: As).map (zc g.2.2.1)) (fun U => zRep g h U.heap ∧ zKn g U)) (As.map (zc g.2.2.1)) := by
    refine ⟨z_blind, z_recv hR w G.2.2.1 ht (by omega) hc, fun U hU hW => ⟨?_, by rw [hU]; exact hR, zKn.warm hW G.2.2.1⟩⟩
    show (Value.ref (g.2.2.1 a) :: As.map (zc g.2.2.1)).toArray = (zc g.2.2.1 (zR a) :: As.map (zc g.2.2.1)).toArray
    rw [zc_r ha]
  have hstk : (F0 m pc LS (st.map (zc g.2.2.1))).stack = (As.map (zc g.2.2.1)).reverse ++ Value.ref (g.2.2.1 a) :: rest.map (zc g.2.2.1) := by
    show st.map (zc g.2.2.1) = _
    rw [hst]
    simp [zc_r ha]
  have q6' : Cond.code y'.1 y'.2.1 y'.2.2.1 y'.2.2.2 ∈ lw_all := by rw [← zcw_n hh]; exact q6
  have hw : zws y' = ws_ y'.1 y'.2.1 y'.2.2.1 y'.2.2.2 := by show zcw y' :: lw_all = _; rw [zcw_n hh]
  rw [hw] at hM
  refine ⟨(Value.ref (g.2.2.1 a) :: As.map (zc g.2.2.1)).toArray, ?_⟩
  have hG : GoodIn lw_all (ws_ y'.1 y'.2.1 y'.2.2.1 y'.2.2.2) := lw_meth q6'
  refine z_runSU0 (n := As.length) (bytes := y'.2.1) (maxL := y'.2.2.1) (ret := y'.2.2.2) (G.2.2.1.1.1 t _ hc).2 ⟨G.1.1, G.1.2.1, G.1.2.2.1, G.1.2.2.2.2.2.2, G.2.1⟩ hM ⟨⟨rfl, rfl, fr, lo, pay_in G.2.1 hG, List.mem_cons_self⟩, G.2.1 _ q1, G.2.1 _ q2, G.2.1 _ q3, q3b.elim Or.inl (fun q => Or.inr (G.2.1 _ q)), G.2.1 _ q4, G.2.1 _ q5, G.2.1 _ q6', z2, fun sig h => ?_⟩ hp rfl (by simp) hsz hstk (lv_room (z_catsum hsum)) hd hfit
  rw [h] at z3
  exact (Option.some.inj z3).symm
theorem zV_cSUk {a : Int} {κ : Nat} {ty : FieldType} (ts : List Nat) (hts : ∀ t ∈ ts, t < 13) (hd : decode y.2.1 pc = .ok (.invokespecial idx, 3)) (ob : ∃ t ∈ ts, zt h a = ((t : Nat) : Int)) (hC : zC true y' d' (zR a :: As) h (zQ0 P)) {xc : String} (ul : zSU y.1.cls idx xc y' As.length) (hdd : d' + 1 ≤ d) (hsum : (rest.map fun v => if v.1 = 1 then 2 else 1).sum ≤ 8) (hst : st = As.reverse ++ zR a :: rest) (hr : y'.2.2.2 = some ty) (hk : zkf ty = κ) (kk : ∀ o h1, P o h1 → zV true y d (pc + 3) ls ((κ, o) :: rest) h1 Q) : zV true y d pc ls st h Q :=
  zV.call hC (fun o => (κ, o) :: rest) (zst_k hr hk) (fun h1 o a4 q => zm1 (zmt (by rw [hst] at a4; exact (zmA a4).2)) (z_rdec hr hk q)) (fun a4 => by rw [hst] at a4; exact zm1 (zmA a4).1 (zmh (zmA a4).2)) (fun o h1 q _ => kk o h1 q.2) (fun o h1 q => absurd q.1 (by decide)) (fun t o h1 q => Or.inl q.1) (z_runSU ts hts hd ob ul hdd hsum hst)
theorem zV_cSUv {a : Int} (ts : List Nat) (hts : ∀ t ∈ ts, t < 13) (hd : decode y.2.1 pc = .ok (.invokespecial idx, 3)) (ob : ∃ t ∈ ts, zt h a = ((t : Nat) : Int)) (hC : zC true y' d' (zR a :: As) h (zQ0 P)) {xc : String} (ul : zSU y.1.cls idx xc y' As.length) (hdd : d' + 1 ≤ d) (hsum : (rest.map fun v => if v.1 = 1 then 2 else 1).sum ≤ 8) (hst : st = As.reverse ++ zR a :: rest) (hr : y'.2.2.2 = none) (kk : ∀ o h1, P o h1 → zV true y d (pc + 3) ls rest h1 Q) : zV true y d pc ls st h Q :=
  zV.call hC (fun _ => rest) (zst_v hr) (fun h1 o a4 q => zmt (by rw [hst] at a4; exact (zmA a4).2)) (fun a4 => by rw [hst] at a4; exact zm1 (zmA a4).1 (zmh (zmA a4).2)) (fun o h1 q _ => kk o h1 q.2) (fun o h1 q => absurd q.1 (by decide)) (fun t o h1 q => Or.inl q.1) (z_runSU ts hts hd ob ul hdd hsum hst)
end
