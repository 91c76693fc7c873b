/-! Z: calls of constructors -/
/-- a constructor, as the tables have it -/
def zMC (y : zM) (n : Nat) : Prop := zhh y.1 = [] ∧ y.1.name = "<init>" ∧ y.2.2.2 = none ∧ (Cond.instanceMethod y.1 ∈ lw_all ∧ Cond.initialized y.1.cls ∈ lw_all ∧ zcw y ∈ lw_all) ∧ (y.1.cls ≠ "java/lang/invoke/MethodHandle" ∧ y.1.cls ≠ "java/lang/invoke/VarHandle" ∧ (parseMethodDescriptor y.1.desc).map (fun d => d.parameters.length) = some n) ∧ y.2.2.1 ≤ 45
section
variable {b : Bool} {y y' : zM} {d d' pc idx : Nat} {ls st As rest : List zA} {h : zH} {Q : Nat → Int → zH → Prop} {P : Int → zH → Prop}
theorem z_runI {a : Int} (ha : a ≠ 0) (mi : zMC y' As.length) (hd : decode y.2.1 pc = .ok (.invokespecial idx, 3)) (ml : zML y.1.cls idx y') (hdd : d' + 1 ≤ d) (hsum : (rest.map fun v => if v.1 = 1 then 2 else 1).sum ≤ 8) (hst : st = As.reverse ++ zR a :: rest) :
    ∀ (tt : Nat) (o : Int) (h1 : zH), zwf h → (∀ v ∈ st, zok h v) → ∀ (g : zG) (p : Program) (l : Launch) (e : Env) (R : Room) (s : State) (m : MethodId) (args : Array Value) (below : List Frame) (meth : Method) (c : Code), zGood y d g p R s m args meth c →
      ∀ (H : Heap) (locs : List Loc) (LS : Array Slot) (cells slots : Nat), zRep g h H → LS.size = y.2.2.1 → Met l y'.1 (zws y') (zrm d' h h1) (va_Pc ((zR a :: As).map (zc g.2.2.1)) (fun U => zRep g h U.heap ∧ zKn g U)) (zQc g y' tt o h1) (zn h1 - zn h).toNat (zs h1 - zs h).toNat (zfree g) → cells + (zn h1 - zn h).toNat ≤ R.cells ∧ slots + (zs h1 - zs h).toNat ≤ R.slots →
      ∃ av, va_Run p l e R s m args below meth c H locs cells slots (zn h1 - zn h).toNat (zs h1 - zs h).toNat (F0 m pc LS (st.map (zc g.2.2.1))) (rest.map (zc g.2.2.1)) (zQc g y' tt o h1 av) (zfree g) := by
  intro tt o h1 w _ g p l e R s m args below meth c G H locs LS cells slots hR hsz hM hfit
  obtain ⟨hh, hnm, hret, ⟨q2, q4, q5⟩, ⟨z1, z2, z3⟩, z5⟩ := mi
  have fr : (zrm d' h h1).frames + 1 ≤ R.frames := Nat.le_trans hdd G.2.2.2.2.1
  have lo : 8 + (y'.2.2.1 + 11) + (zrm d' h h1).locals ≤ R.locals := z_lo hdd z5 G.2.2.2.2.2.1
  have hp : PreS s H (va_Pc ((zR a :: As).map (zc g.2.2.1)) (fun U => zRep g h U.heap ∧ zKn g U)) (.ref (g.2.2.1 a) :: As.map (zc g.2.2.1)) := by
    refine ⟨z_blind, fun U hU hW => ⟨?_, by rw [hU]; exact hR, zKn.warm hW G.2.2.1⟩⟩
    show (Value.ref (g.2.2.1 a) :: As.map (zc g.2.2.1)).toArray = (zc g.2.2.1 (zR a) :: As.map (zc g.2.2.1)).toArray
    rw [zc_r ha]
  have hstk : (F0 m pc LS (st.map (zc g.2.2.1))).stack = (As.map (zc g.2.2.1)).reverse ++ Value.ref (g.2.2.1 a) :: rest.map (zc g.2.2.1) := by
    show st.map (zc g.2.2.1) = _
    rw [hst]
    simp [zc_r ha]
  have q5' : Cond.code y'.1 y'.2.1 y'.2.2.1 none ∈ lw_all := by rw [← hret, ← zcw_n hh]; exact q5
  have hw : zws y' = ws_ y'.1 y'.2.1 y'.2.2.1 none := by show zcw y' :: lw_all = _; rw [zcw_n hh, hret]
  rw [hw] at hM
  refine ⟨(Value.ref (g.2.2.1 a) :: As.map (zc g.2.2.1)).toArray, ?_⟩
  rcases ml with q1 | ⟨-, host, q1⟩
  · exact va_runI ⟨G.1.1, G.1.2.1, G.1.2.2.1, G.1.2.2.2.2.2.2, G.2.1⟩ hM (cwI (bytes := y'.2.1) (maxL := y'.2.2.1) As.length G.2.1 (lw_meth q5') rfl rfl rfl (G.2.1 _ q4) (G.2.1 _ q1) (G.2.1 _ q2) hnm ⟨z1, z2, z3⟩ ⟨fr, lo⟩) hp rfl (by simp) hsz hstk (lv_room (z_catsum hsum)) hd hfit
  · exact va_runIN (host := host) ⟨G.1.1, G.1.2.1, G.1.2.2.1, G.1.2.2.2.2.2.2, G.2.1⟩ hM ⟨va_cnB (bytes := y'.2.1) (maxL := y'.2.2.1) (ret := none) As.length G.2.1 (lw_meth q5') rfl rfl rfl (G.2.2.1.2.1 _ q1 rfl) (G.2.1 _ q4) ⟨z1, z2, z3⟩ ⟨fr, lo⟩, hnm, G.2.1 _ q2⟩ hp rfl (by simp) hsz hstk (lv_room (z_catsum hsum)) hd hfit
theorem zV_cI {a : Int} (hd : decode y.2.1 pc = .ok (.invokespecial idx, 3)) (ha : a ≠ 0) (hC : zC b y' d' (zR a :: As) h (zQ0 P)) (mi : zMC y' As.length) (ml : zML y.1.cls idx y') (hdd : d' + 1 ≤ d) (hsum : (rest.map fun v => if v.1 = 1 then 2 else 1).sum ≤ 8) (hst : st = As.reverse ++ zR a :: rest) (kk : ∀ o h1, P o h1 → zV b y d (pc + 3) ls rest h1 Q) : zV b y d pc ls st h Q :=
  zV.call hC (fun _ => rest) (zst_v mi.2.2.1) (fun h1 o a4 q => zmt (by rw [hst] at a4; exact (zmA a4).2)) (fun a4 => by rw [hst] at a4; exact zm1 (zmA a4).1 (zmh (zmA a4).2)) (fun o h1 q _ => kk o h1 q.2) (fun o h1 q => absurd q.1 (by decide)) (fun t o h1 q => Or.inl q.1) (z_runI ha mi hd ml hdd hsum hst)
end
