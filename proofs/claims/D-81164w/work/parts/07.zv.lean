/-! Z: the machine over the abstract heap -/
/-- classes' numbers and slots; array classes by tags; addresses; the first new address -/
abbrev zG : Type := va_G × (Int → ClassId) × (Int → Nat) × Nat
def zc (ad : Int → Nat) (v : zA) : Value := match v.1 with
  | 0 => .int (Int32.ofInt v.2)
  | 1 => .long (Int64.ofInt v.2)
  | _ => if v.2 = 0 then .null else .ref (ad v.2)
theorem zc_i (ad : Int → Nat) (x : Int) : zc ad (zI x) = .int (Int32.ofInt x) := rfl
theorem zc_l (ad : Int → Nat) (x : Int) : zc ad (zJ x) = .long (Int64.ofInt x) := rfl
theorem zc_r {ad : Int → Nat} {x : Int} (h : x ≠ 0) : zc ad (zR x) = .ref (ad x) := by show (if x = 0 then Value.null else .ref (ad x)) = _; rw [if_neg h]
theorem zc_0 {ad : Int → Nat} : zc ad (zR 0) = .null := rfl
/-- an object's fields -/
def zfs (g : zG) (h : zH) (t a : Int) : List Value := (List.range (zN t.toNat)).map fun (k : Nat) => zc g.2.2.1 (zk t (k : Int), zd h a (k : Int))
/-- an array's contents -/
def zas (g : zG) (h : zH) (t a : Int) : vp_A := ((zl h a).toNat, if t = 53 then .inr (.inl fun (j : Nat) => Int64.ofInt (zd h a (j : Int))) else if t < 60 then .inl fun (j : Nat) => Int32.ofInt (zd h a (j : Int)) else .inr (.inr (.inr (.inr fun (j : Nat) => if zd h a (j : Int) = 0 then none else some (g.2.2.1 (zd h a (j : Int)))))))
def zce (g : zG) (h : zH) (a : Int) : va_E := if zt h a < 50 then .inr ((zt h a).toNat, zfs g h (zt h a) a) else .inl (g.2.1 (zt h a), zas g h (zt h a) a)
def zgok (g : zG) : Prop := (∀ a b, 1 ≤ a → 1 ≤ b → g.2.2.1 a = g.2.2.1 b → a = b) ∧ (∀ a, 14 ≤ a → g.2.2.1 a = g.2.2.2 + (a - 14).toNat)
/-- a cell of which nothing is read: its class -/
def zOp (g : zG) (h : zH) (a : Int) (H : Heap) : Prop := ∃ cell : Cell, H[g.2.2.1 a]? = some cell ∧ cell.vm.isStatics = false ∧ cell.cls = g.2.1 (zt h a)
def zcell (g : zG) (h : zH) (a : Int) (H : Heap) : Prop := if zt h a < 70 then va_at g.1 zCl (g.2.2.1 a, zce g h a) H else zOp g h a H
def zRep (g : zG) (h : zH) (H : Heap) : Prop := H.size = g.2.2.2 + (zn h - 14).toNat ∧ ∀ a, 14 ≤ a → a < zn h → zcell g h a H
def zTys (g : zG) : List (ClassId × FieldType) := [(g.2.1 50, .int), (g.2.1 51, .byte), (g.2.1 52, .boolean), (g.2.1 53, .long), (g.2.1 60, .object "ClauseCourt$Name"), (g.2.1 61, .array .int), (g.2.1 62, .object "ClauseCourt$Rule"), (g.2.1 63, .object "ClauseCourt$Part")]
def zNest (w : Cond) : Bool := match w with
  | .fieldLinkNest _ _ _ _ _ _ => true
  | .methodLinkNest _ _ _ _ => true
  | .castable _ _ => true
  | .declares _ => true
  | .arrayOver (.object _) => true
  | _ => false
/-- int[][]: its class is over that of int[] -/
def zA61 (g : zG) (U : State) : Prop := ∃ (kA kI : Class), U.vm.classes[g.2.1 61]? = some kA ∧ kA.kind = .array (g.2.1 50) (.array .int) ∧ U.vm.classes[g.2.1 50]? = some kI
theorem zA61.moved {g : zG} {u U : State} (hvm : u.vm.Alike U.vm) (h : zA61 g u) : zA61 g U := by
  obtain ⟨kA, kI, h1, h2, h3⟩ := h
  obtain ⟨k', hk', he⟩ := hvm.2.2 _ _ h1
  obtain ⟨k2, hk2, -⟩ := hvm.2.2 _ _ h3
  exact ⟨k', k2, hk', by rw [he]; exact h2, hk2⟩
/-- what the tables say, and goes along -/
def zKn (g : zG) (U : State) : Prop := va_K g.1 zCl (zTys g) U ∧ (∀ w ∈ lw_tbl, zNest w = true → va_Nw w U) ∧ zA61 g U
theorem zKn.warm {g : zG} {s U : State} (hW : s.WarmedH U.vm) (h : zKn g s) : zKn g U := by
  refine ⟨va_K.moved hW.alike h.1, fun w hw hn => ?_, h.2.2.moved hW.alike⟩
  have h1 := h.2.1 w hw hn
  cases w <;> first | (exact va_Nw.warmF hW h1) | (exact va_Nw.warmM hW h1) | (exact va_Nw.warmC hW h1) | (exact va_Nw.warmD hW h1) | (cases hn) | (rename_i ty; cases ty <;> first | (exact va_AO.moved hW.alike h1) | (cases hn))
theorem zKn.same {g : zG} {s U : State} (hv : s.vm = U.vm) (h : zKn g s) : zKn g U := by
  have ha : s.vm.Alike U.vm := by rw [hv]; exact Vm.Alike.refl _
  refine ⟨va_K.moved ha h.1, fun w hw hn => ?_, h.2.2.moved ha⟩
  have h1 := h.2.1 w hw hn
  cases w <;> first | (exact va_Nw.same rfl hv h1) | (cases hn) | (rename_i ty; cases ty <;> first | (exact va_AO.moved ha h1) | (cases hn))
def zfree (g : zG) : Nat → Prop := fun q => g.2.2.2 ≤ q
/-- a method: its name, its code, its locals, its answer -/
abbrev zM : Type := MethodName × ByteArray × Nat × Option FieldType
def zrk (r : Option FieldType) : Nat := match r with
  | none => 3
  | some ty => zkf ty
def zrv (g : zG) (y : zM) (o : Int) : Option Value := match y.2.2.2 with
  | none => none
  | some ty => some (zc g.2.2.1 (zkf ty, o))
/-- the methods with handlers -/
def zHL : List (MethodName × List (Nat × Nat × Nat × Nat)) := [(⟨"ClauseCourt", "row", "(II)I"⟩, [(21, 31, 32, 136)]), (⟨"ClauseCourt", "put", "(III)I"⟩, [(15, 25, 26, 138), (15, 25, 36, 140)]), (⟨"ClauseCourt", "get", "(II)J"⟩, [(20, 45, 46, 138), (20, 45, 60, 140)]), (⟨"ClauseCourt", "copy", "(IIIII)I"⟩, [(22, 44, 45, 138), (22, 44, 55, 140)]), (⟨"ClauseCourt", "cut", "(II)I"⟩, [(21, 46, 47, 136), (21, 46, 56, 138), (21, 46, 65, 140)]), (⟨"ClauseCourt", "come", "(IIIZ)I"⟩, [(27, 53, 54, 138), (27, 53, 64, 140)]), (⟨"ClauseCourt", "told", "()I"⟩, [(35, 110, 111, 277), (35, 110, 125, 138), (35, 110, 134, 140)]), (⟨"ClauseCourt", "as", "(II)I"⟩, [(28, 49, 50, 294)]), (⟨"ClauseCourt", "assume", "(I)I"⟩, [(0, 56, 106, 138), (57, 73, 106, 138), (74, 105, 106, 138), (0, 56, 115, 140), (57, 73, 115, 140), (74, 105, 115, 140)]), (⟨"ClauseCourt", "claim", "(I)I"⟩, [(15, 100, 166, 138), (101, 165, 166, 138), (15, 100, 175, 140), (101, 165, 175, 140)]), (⟨"ClauseCourt", "follows", "(I)Z"⟩, [(30, 116, 126, 0), (126, 128, 126, 0)]), (⟨"ClauseCourt$Engine", "search", "(I)I"⟩, [(9, 45, 390, 0), (79, 102, 390, 0), (136, 158, 390, 0), (192, 222, 390, 0), (256, 282, 390, 0), (316, 326, 390, 0), (360, 392, 390, 0)])]
def zhh (y : MethodName) : List (Nat × Nat × Nat × Nat) := ((zHL.find? fun q => decide (q.1 = y)).map (·.2)).getD []
/-- a method's own code word -/
def zcw (y : zM) : Cond := if zhh y.1 = [] then Cond.code y.1 y.2.1 y.2.2.1 y.2.2.2 else Cond.codeWith y.1 y.2.1 y.2.2.1 y.2.2.2 (zhh y.1)
theorem zcw_n {y : zM} (h : zhh y.1 = []) : zcw y = Cond.code y.1 y.2.1 y.2.2.1 y.2.2.2 := if_pos h
theorem zcw_w {y : zM} (h : ¬ zhh y.1 = []) : zcw y = Cond.codeWith y.1 y.2.1 y.2.2.1 y.2.2.2 (zhh y.1) := if_neg h
theorem zcw_in {y : zM} (h : zhh y.1 = []) (q : Cond.code y.1 y.2.1 y.2.2.1 y.2.2.2 ∈ lw_all) : zcw y ∈ lw_all := by rw [zcw_n h]; exact q
theorem zcw_inW {y : zM} {hh : List (Nat × Nat × Nat × Nat)} (h : zhh y.1 = hh) (h2 : hh ≠ []) (q : Cond.codeWith y.1 y.2.1 y.2.2.1 y.2.2.2 hh ∈ lw_all) : zcw y ∈ lw_all := by
  subst h
  rw [zcw_w h2]; exact q
abbrev zws (y : zM) : List Cond := zcw y :: lw_all
def zrm (d : Nat) (h h' : zH) : Room := { frames := d, cells := (zn h' - zn h).toNat, slots := (zs h' - zs h).toNat, locals := 64 * d + 10300 }
def zQc (g : zG) (y : zM) (t : Nat) (o : Int) (h' : zH) : Array Value → State → Outcome → State → Prop := fun _ st oc u => ((t = 0 ∧ oc = .returned (zrv g y o)) ∨ (t = 1 ∧ oc = .threw (g.2.2.1 o))) ∧ zRep g h' u.heap ∧ va_F (zfree g) st u
/-- the locals by their places -/
def zLs (g : zG) (ls : List zA) (nL : Nat) (LS : Array Slot) : Prop := LS.size = nL ∧ lv_wf LS ∧ ∀ (i : Nat) (v : zA), ls[i]? = some v → v.1 < 3 → LS[i]? = some (.val (zc g.2.2.1 v))
def zGood (y : zM) (d : Nat) (g : zG) (p : Program) (R : Room) (s : State) (m : MethodId) (args : Array Value) (meth : Method) (c : Code) : Prop :=
  (p.tables.exec = Jvm.exec ∧ c.code = y.2.1 ∧ c.maxLocals = y.2.2.1 ∧ meth.sig.returnType = y.2.2.2 ∧ meth.locks = false ∧ meth.name = y.1.name ∧ s.vm.findClass y.1.cls = some m.cls) ∧ (∀ w ∈ lw_all, w.before args s = true) ∧ zKn g s ∧ zgok g ∧ d ≤ R.frames ∧ 64 * d + 10300 ≤ R.locals ∧ g.2.2.2 ≤ s.heap.size ∧ c.exceptionTable.toList.map (fun q => (q.startPc, q.endPc, q.handlerPc, q.catchType)) = zhh y.1
/-- from here the method comes to its end, with Q -/
def zV (b : Bool) (y : zM) (d pc : Nat) (ls st : List zA) (h : zH) (Q : Nat → Int → zH → Prop) : Prop :=
  zwf h → (b = true → zSt h) → (∀ v ∈ ls, zok h v) → (∀ v ∈ st, zok h v) → ∃ (t : Nat) (o : Int) (h' : zH), Q t o h' ∧ zle h h' ∧ zwf h' ∧ (t = 0 → zok h' (zrk y.2.2.2, o)) ∧
    ∀ (g : zG) (p : Program) (l : Launch) (e : Env) (R : Room) (s : State) (m : MethodId) (args : Array Value) (below : List Frame) (meth : Method) (c : Code), zGood y d g p R s m args meth c →
      ∀ (H : Heap) (locs : List Loc) (LS : Array Slot) (cells slots : Nat), zRep g h H → va_S (zfree g) s.heap H locs → zLs g ls y.2.2.1 LS → R.cells = cells + (zn h' - zn h).toNat → R.slots = slots + (zs h' - zs h).toNat →
        W p l e R s m args below meth c H locs cells slots (MQ below (zQc g y t o h') args s R.cells R.slots (zfree g)) (F0 m pc LS (st.map (zc g.2.2.1)))
/-- a method's contract -/
def zC (b : Bool) (y : zM) (d : Nat) (as : List zA) (h : zH) (Q : Nat → Int → zH → Prop) : Prop :=
  zwf h → (b = true → zSt h) → (∀ v ∈ as, zok h v) → ∃ (t : Nat) (o : Int) (h' : zH), Q t o h' ∧ zle h h' ∧ zwf h' ∧ (t = 0 → zok h' (zrk y.2.2.2, o)) ∧
    ∀ (g : zG) (l : Launch), zgok g → Met l y.1 (zws y) (zrm d h h') (va_Pc (as.map (zc g.2.2.1)) (fun U => zRep g h U.heap ∧ zKn g U)) (zQc g y t o h') (zn h' - zn h).toNat (zs h' - zs h).toNat (zfree g)
/-- fewer: a consequence -/
theorem zV.imp {b : Bool} {y : zM} {d pc : Nat} {ls st : List zA} {h : zH} {Q Q' : Nat → Int → zH → Prop} (k : zV b y d pc ls st h Q) (hq : ∀ t o h', Q t o h' → Q' t o h') : zV b y d pc ls st h Q' := by
  intro a1 a2 a3 a4
  obtain ⟨t, o, h', q, r⟩ := k a1 a2 a3 a4
  exact ⟨t, o, h', hq _ _ _ q, r⟩
/-- the heap is in order, where a proof asks it -/
theorem zV.wf {b : Bool} {y : zM} {d pc : Nat} {ls st : List zA} {h : zH} {Q : Nat → Int → zH → Prop} (k : zwf h → (b = true → zSt h) → zV b y d pc ls st h Q) : zV b y d pc ls st h Q := fun a1 a2 => k a1 a2 a1 a2
/-- one instruction that leaves the heap -/
theorem zV.go {b : Bool} {y : zM} {d pc pc' : Nat} {ls ls' st st' : List zA} {h : zH} {Q : Nat → Int → zH → Prop} (k : zV b y d pc' ls' st' h Q)
    (hok : zwf h → (b = true → zSt h) → (∀ v ∈ ls, zok h v) → (∀ v ∈ st, zok h v) → (∀ v ∈ ls', zok h v) ∧ (∀ v ∈ st', zok h v))
    (hw : zwf h → (b = true → zSt h) → (∀ v ∈ ls, zok h v) → (∀ v ∈ st, zok h v) → ∀ (g : zG) (p : Program) (l : Launch) (e : Env) (R : Room) (s : State) (m : MethodId) (args : Array Value) (below : List Frame) (meth : Method) (c : Code), zGood y d g p R s m args meth c →
      ∀ (H : Heap) (locs : List Loc) (LS : Array Slot) (cells slots : Nat) (Qm : State → Prop), zRep g h H → zLs g ls y.2.2.1 LS → (∀ LS', zLs g ls' y.2.2.1 LS' → W p l e R s m args below meth c H locs cells slots Qm (F0 m pc' LS' (st'.map (zc g.2.2.1)))) → W p l e R s m args below meth c H locs cells slots Qm (F0 m pc LS (st.map (zc g.2.2.1)))) : zV b y d pc ls st h Q := by
  intro a1 a2 a3 a4
  obtain ⟨o1, o2⟩ := hok a1 a2 a3 a4
  obtain ⟨t, o, h', q, q1, q2, q3, r⟩ := k a1 a2 o1 o2
  exact ⟨t, o, h', q, q1, q2, q3, fun g p l e R s m args below meth c G H locs LS cells slots hR hS hL hc hs => hw a1 a2 a3 a4 g p l e R s m args below meth c G H locs LS cells slots _ hR hL (fun LS' hL' => r g p l e R s m args below meth c G H locs LS' cells slots hR hS hL' hc hs)⟩
theorem zW_top {p : Program} {l : Launch} {e : Env} {R : Room} {s : State} {m : MethodId} {args : Array Value} {below : List Frame} {meth : Method} {c : Code} {H : Heap} {locs : List Loc} {cells slots : Nat} {Q : State → Prop} {pc : Nat} {LS : Array Slot} {v v' : Value} {rest : List Value} (h : W p l e R s m args below meth c H locs cells slots Q (F0 m pc LS (v :: rest))) (e' : v = v') : W p l e R s m args below meth c H locs cells slots Q (F0 m pc LS (v' :: rest)) := by subst e'; exact h
theorem zm1 {h : zH} {v : zA} {st : List zA} (hs : ∀ w ∈ st, zok h w) (hv : zok h v) : ∀ w ∈ v :: st, zok h w := by
  intro w hw
  rcases List.mem_cons.mp hw with e | e
  · rw [e]; exact hv
  · exact hs w e
theorem zmt {h : zH} {v : zA} {st : List zA} (hs : ∀ w ∈ v :: st, zok h w) : ∀ w ∈ st, zok h w := fun w hw => hs w (List.mem_cons_of_mem _ hw)
theorem zmh {h : zH} {v : zA} {st : List zA} (hs : ∀ w ∈ v :: st, zok h w) : zok h v := hs v List.mem_cons_self
