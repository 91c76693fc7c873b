/-! Z: virtual calls of inherited, overriding and abstract methods -/
/-- the reference x (declared by owner) at own's entry idx; for an object of the class of tag t the method y' is run -/
def zUL (own : String) (idx : Nat) (x : MethodName) (owner : String) (t : Nat) (y' : zM) (n : Nat) : Prop := ∃ (C : String) (T : u_T) (N : Nat), zCl[t]? = some (C, T, N) ∧ t < 50 ∧ zhh y'.1 = [] ∧ y'.2.2.1 ≤ 45 ∧ Cond.methodLink own idx x ∈ lw_all ∧ Cond.sameMethod x.cls owner x.name x.desc ∈ lw_all ∧ Cond.selects C x y'.1 ∈ lw_all ∧ Cond.instanceMethod y'.1 ∈ lw_all ∧ Cond.initialized y'.1.cls ∈ lw_all ∧ zcw y' ∈ lw_all ∧ (Cond.declares ⟨owner, x.name, x.desc⟩ ∈ lw_tbl ∨ (Cond.instanceMethod ⟨owner, x.name, x.desc⟩ ∈ lw_all ∧ ∃ b0 m0 r0, Cond.code ⟨owner, x.name, x.desc⟩ b0 m0 r0 ∈ lw_all)) ∧ (owner ≠ "java/lang/invoke/MethodHandle" ∧ owner ≠ "java/lang/invoke/VarHandle" ∧ (parseMethodDescriptor x.desc).map (fun d => d.parameters.length) = some n)
section
variable {y y' : zM} {d d' pc idx : Nat} {ls st As rest : List zA} {h : zH} {Q : Nat → Int → zH → Prop} {P : Int → zH → Prop}
theorem z_runU {a : Int} {t : Nat} {x : MethodName} {owner : String} (hd : decode y.2.1 pc = .ok (.invokevirtual idx, 3)) (ht : zt h a = t) (ul : zUL y.1.cls idx x owner t y' As.length) (hdd : d' + 1 ≤ d) (hsum : (rest.map fun v => if v.1 = 1 then 2 else 1).sum ≤ 8) (hst : st = As.reverse ++ zR a :: rest) :
    ∀ (tt : Nat) (o : Int) (h1 : zH), zwf h → (∀ v ∈ st, zok h v) → ∀ (g : zG) (p : Program) (l : Launch) (e : Env) (R : Room) (s : State) (m : MethodId) (args : Array Value) (below : List Frame) (meth : Method) (c : Code), zGood y d g p R s m args meth c →
      ∀ (H : Heap) (locs : List Loc) (LS : Array Slot) (cells slots : Nat), zRep g h H → LS.size = y.2.2.1 → Met l y'.1 (zws y') (zrm d' h h1) (va_Pc ((zR a :: As).map (zc g.2.2.1)) (fun U => zRep g h U.heap ∧ zKn g U)) (zQc g y' tt o h1) (zn h1 - zn h).toNat (zs h1 - zs h).toNat (zfree g) → cells + (zn h1 - zn h).toNat ≤ R.cells ∧ slots + (zs h1 - zs h).toNat ≤ R.slots →
      ∃ av, va_Run p l e R s m args below meth c H locs cells slots (zn h1 - zn h).toNat (zs h1 - zs h).toNat (F0 m pc LS (st.map (zc g.2.2.1))) (rest.map (zc g.2.2.1)) (zQc g y' tt o h1 av) (zfree g) := by
  intro tt o h1 w _ g p l e R s m args below meth c G H locs LS cells slots hR hsz hM hfit
  obtain ⟨C, T, N, hc, h50, hh, z5, q1, q2, q3, q4, q5, q6, q7, z1, z2, z3⟩ := ul
  have ha := z_ne0r w (show 0 ≤ zt h a by omega) (by omega)
  have fr : (zrm d' h h1).frames + 1 ≤ R.frames := Nat.le_trans hdd G.2.2.2.2.1
  have lo : 8 + (y'.2.2.1 + 11) + (zrm d' h h1).locals ≤ R.locals := z_lo hdd z5 G.2.2.2.2.2.1
  have hp : PreV s H C (g.2.2.1 a) (va_Pc ((zR a :: As).map (zc g.2.2.1)) (fun U => zRep g h U.heap ∧ zKn g U)) (As.map (zc g.2.2.1)) := by
    refine ⟨z_blind, z_recv hR w G.2.2.1 ht h50 hc, fun U hU hW => ⟨?_, by rw [hU]; exact hR, zKn.warm hW G.2.2.1⟩⟩
    show (Value.ref (g.2.2.1 a) :: As.map (zc g.2.2.1)).toArray = (zc g.2.2.1 (zR a) :: As.map (zc g.2.2.1)).toArray
    rw [zc_r ha]
  have hstk : (F0 m pc LS (st.map (zc g.2.2.1))).stack = (As.map (zc g.2.2.1)).reverse ++ Value.ref (g.2.2.1 a) :: rest.map (zc g.2.2.1) := by
    show st.map (zc g.2.2.1) = _
    rw [hst]
    simp [zc_r ha]
  have q6' : Cond.code y'.1 y'.2.1 y'.2.2.1 y'.2.2.2 ∈ lw_all := by rw [← zcw_n hh]; exact q6
  have hw : zws y' = ws_ y'.1 y'.2.1 y'.2.2.1 y'.2.2.2 := by show zcw y' :: lw_all = _; rw [zcw_n hh]
  rw [hw] at hM
  refine ⟨(Value.ref (g.2.2.1 a) :: As.map (zc g.2.2.1)).toArray, ?_⟩
  have cw : va_CU R s args y.1.cls C owner idx x y'.1 y'.2.1 y'.2.2.1 y'.2.2.2 (ws_ y'.1 y'.2.1 y'.2.2.1 y'.2.2.2) (zrm d' h h1) (zn h1 - zn h).toNat (zs h1 - zs h).toNat As.length := by
    rcases q7 with q7 | ⟨q7, b0, m0, r0, q8⟩
    · refine va_cwA As.length G.2.1 (lw_app ?_ (lw_meth q6')) rfl rfl rfl (G.2.2.1.2.1 _ q7 rfl) ⟨z1, z2, z3⟩ ⟨fr, lo⟩
      intro w hw
      simp only [List.mem_cons, List.not_mem_nil, or_false] at hw
      rcases hw with e | e | e | e | e <;> rw [e]
      · exact q1
      · exact q2
      · exact q3
      · exact q4
      · exact q5
    · refine va_cwO As.length G.2.1 (lw_app ?_ (lw_meth q6')) rfl rfl rfl q8 ⟨z1, z2, z3⟩ ⟨fr, lo⟩
      intro w hw
      simp only [List.mem_cons, List.not_mem_nil, or_false] at hw
      rcases hw with e | e | e | e | e | e <;> rw [e]
      · exact q1
      · exact q2
      · exact q7
      · exact q3
      · exact q4
      · exact q5
  exact va_runU ⟨G.1.1, G.1.2.1, G.1.2.2.1, G.1.2.2.2.2.2.2, G.2.1⟩ hM cw hp rfl (by simp) hsz hstk (lv_room (z_catsum hsum)) hd hfit
theorem zV_cUk {a : Int} {t κ : Nat} {x : MethodName} {owner : String} {ty : FieldType} (hd : decode y.2.1 pc = .ok (.invokevirtual idx, 3)) (ob : zt h a = t) (hC : zC true y' d' (zR a :: As) h (zQ0 P)) (ul : zUL y.1.cls idx x owner t y' As.length) (hdd : d' + 1 ≤ d) (hsum : (rest.map fun v => if v.1 = 1 then 2 else 1).sum ≤ 8) (hst : st = As.reverse ++ zR a :: rest) (hr : y'.2.2.2 = some ty) (hk : zkf ty = κ) (kk : ∀ o h1, P o h1 → zV true y d (pc + 3) ls ((κ, o) :: rest) h1 Q) : zV true y d pc ls st h Q :=
  zV.call hC (fun o => (κ, o) :: rest) (zst_k hr hk) (fun h1 o a4 q => zm1 (zmt (by rw [hst] at a4; exact (zmA a4).2)) (z_rdec hr hk q)) (fun a4 => by rw [hst] at a4; exact zm1 (zmA a4).1 (zmh (zmA a4).2)) (fun o h1 q _ => kk o h1 q.2) (fun o h1 q => absurd q.1 (by decide)) (fun t o h1 q => Or.inl q.1) (z_runU hd ob ul hdd hsum hst)
theorem zV_cUv {a : Int} {t : Nat} {x : MethodName} {owner : String} (hd : decode y.2.1 pc = .ok (.invokevirtual idx, 3)) (ob : zt h a = t) (hC : zC true y' d' (zR a :: As) h (zQ0 P)) (ul : zUL y.1.cls idx x owner t y' As.length) (hdd : d' + 1 ≤ d) (hsum : (rest.map fun v => if v.1 = 1 then 2 else 1).sum ≤ 8) (hst : st = As.reverse ++ zR a :: rest) (hr : y'.2.2.2 = none) (kk : ∀ o h1, P o h1 → zV true y d (pc + 3) ls rest h1 Q) : zV true y d pc ls st h Q :=
  zV.call hC (fun _ => rest) (zst_v hr) (fun h1 o a4 q => zmt (by rw [hst] at a4; exact (zmA a4).2)) (fun a4 => by rw [hst] at a4; exact zm1 (zmA a4).1 (zmh (zmA a4).2)) (fun o h1 q _ => kk o h1 q.2) (fun o h1 q => absurd q.1 (by decide)) (fun t o h1 q => Or.inl q.1) (z_runU hd ob ul hdd hsum hst)
end
