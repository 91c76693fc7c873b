/-! Z: Math's four -/
def zabs (x : Int) : Int := if 0 ≤ x then x else w32 (0 - x)
def zmax (x z : Int) : Int := if x < z then z else x
def zmin (x z : Int) : Int := if z < x then z else x
def zmaxl (x z : Int) : Int := if z < x then x else z
section
variable {b : Bool} {y : zM} {d pc idx : Nat} {ls st : List zA} {h : zH} {Q : Nat → Int → zH → Prop}
/-- as zV.go, with the room -/
theorem zV.goC {b : Bool} {y : zM} {d pc pc' : Nat} {ls st st' : List zA} {h : zH} {Q : Nat → Int → zH → Prop} (k : zV b y d pc' ls st' h Q)
    (hok : (∀ v ∈ st, zok h v) → (∀ v ∈ st', zok h v))
    (hw : (∀ v ∈ st, zok h v) → ∀ (g : zG) (p : Program) (l : Launch) (e : Env) (R : Room) (s : State) (m : MethodId) (args : Array Value) (below : List Frame) (meth : Method) (c : Code), zGood y d g p R s m args meth c →
      ∀ (H : Heap) (locs : List Loc) (LS : Array Slot) (cells slots : Nat) (Qm : State → Prop), LS.size = y.2.2.1 → cells ≤ R.cells → slots ≤ R.slots → W p l e R s m args below meth c H locs cells slots Qm (F0 m pc' LS (st'.map (zc g.2.2.1))) → W p l e R s m args below meth c H locs cells slots Qm (F0 m pc LS (st.map (zc g.2.2.1)))) : zV b y d pc ls st h Q := by
  intro a1 a2 a3 a4
  obtain ⟨t, o, h', q, q1, q2, q3, r⟩ := k a1 a2 a3 (hok a4)
  exact ⟨t, o, h', q, q1, q2, q3, fun g p l e R s m args below meth c G H locs LS cells slots hR hS hL hc hs => hw a4 g p l e R s m args below meth c G H locs LS cells slots _ hL.1 (by omega) (by omega) (r g p l e R s m args below meth c G H locs LS cells slots hR hS hL hc hs)⟩
theorem z_if {c : Prop} {c' : Prop} [Decidable c] [Decidable c'] {a b : Int} {x y : Int32} (hc : c ↔ c') (ha : Int32.ofInt a = x) (hb : Int32.ofInt b = y) : Int32.ofInt (if c then a else b) = if c' then x else y := by
  by_cases k : c
  · rw [if_pos k, if_pos (hc.mp k)]; exact ha
  · rw [if_neg k, if_neg (fun q => k (hc.mpr q))]; exact hb
theorem z_if64 {c : Prop} {c' : Prop} [Decidable c] [Decidable c'] {a b : Int} {x y : Int64} (hc : c ↔ c') (ha : Int64.ofInt a = x) (hb : Int64.ofInt b = y) : Int64.ofInt (if c then a else b) = if c' then x else y := by
  by_cases k : c
  · rw [if_pos k, if_pos (hc.mp k)]; exact ha
  · rw [if_neg k, if_neg (fun q => k (hc.mpr q))]; exact hb
theorem z_cats {ad : Int → Nat} {rest : List zA} {R : Nat} (hr : (rest.map fun v => if v.1 = 1 then 2 else 1).sum ≤ 8) {d : Nat} (h : 64 * d + 10300 ≤ R) (n : Nat) (hn : n ≤ 15) : ((rest.map (zc ad)).map fun v => v.category).sum + n ≤ R := by
  have := z_catsum (ad := ad) hr
  have h2 : 8 + 15 ≤ 10300 := by decide
  have h3 : 10300 ≤ 64 * d + 10300 := Nat.le_add_left _ _
  exact Nat.le_trans (Nat.add_le_add this hn) (Nat.le_trans h2 (Nat.le_trans h3 h))
theorem zV_mabs {x : Int} (hd : decode y.2.1 pc = .ok (.invokestatic idx, 3)) (q1 : Cond.methodLink y.1.cls idx Lib.Math.abs.name ∈ lw_all) (q2 : Cond.static Lib.Math.abs.name ∈ lw_all) (q3 : Cond.initialized "java/lang/Math" ∈ lw_all) (q4 : Cond.code Lib.Math.abs.name Lib.Math.abs.code 1 (some .int) ∈ lw_all) (hr : (st.map fun v => if v.1 = 1 then 2 else 1).sum ≤ 8) (h1 : 1 ≤ d) (k : zV b y d (pc + 3) ls (zI (zabs x) :: st) h Q) : zV b y d pc ls (zI x :: st) h Q := by
  refine zV.goC k (fun a4 => zm1 (zmt a4) ?_) (fun a4 g p l e R s m args below meth c G H locs LS cells slots Qm hL hc hs kk => ?_)
  · show r32 (if 0 ≤ x then x else w32 (0 - x))
    split
    · exact zmh a4
    · exact w32_r _
  · refine va_mabs G.1.1 G.1.2.1 (by rw [hL]; exact G.1.2.2.1) G.1.2.2.2.2.2.2 (G.2.1 _ q1) (G.2.1 _ q2) (G.2.1 _ q3) (G.2.1 _ q4) (Nat.le_trans h1 G.2.2.2.2.1) (z_cats hr G.2.2.2.2.2.1 _ (by decide)) hc hs hd (zW_top kk (congrArg Value.int ?_))
    exact z_if (le32 r32_0 (zmh a4)).symm rfl (by rw [o32, Int32.ofInt_sub]; rfl)
theorem zV_mmax {x z : Int} (hd : decode y.2.1 pc = .ok (.invokestatic idx, 3)) (q1 : Cond.methodLink y.1.cls idx Lib.Math.max.name ∈ lw_all) (q2 : Cond.static Lib.Math.max.name ∈ lw_all) (q3 : Cond.initialized "java/lang/Math" ∈ lw_all) (q4 : Cond.code Lib.Math.max.name Lib.Math.max.code 2 (some .int) ∈ lw_all) (hr : (st.map fun v => if v.1 = 1 then 2 else 1).sum ≤ 8) (h1 : 1 ≤ d) (k : zV b y d (pc + 3) ls (zI (zmax x z) :: st) h Q) : zV b y d pc ls (zI z :: zI x :: st) h Q := by
  refine zV.goC k (fun a4 => zm1 (zmt (zmt a4)) ?_) (fun a4 g p l e R s m args below meth c G H locs LS cells slots Qm hL hc hs kk => ?_)
  · show r32 (if x < z then z else x)
    split
    · exact zmh a4
    · exact zmh (zmt a4)
  · refine va_mmax G.1.1 G.1.2.1 (by rw [hL]; exact G.1.2.2.1) G.1.2.2.2.2.2.2 (G.2.1 _ q1) (G.2.1 _ q2) (G.2.1 _ q3) (G.2.1 _ q4) (Nat.le_trans h1 G.2.2.2.2.1) (z_cats hr G.2.2.2.2.2.1 _ (by decide)) hc hs hd (zW_top kk (congrArg Value.int ?_))
    exact z_if (l32 (zmh (zmt a4)) (zmh a4)).symm rfl rfl
theorem zV_mmin {x z : Int} (hd : decode y.2.1 pc = .ok (.invokestatic idx, 3)) (q1 : Cond.methodLink y.1.cls idx Lib.Math.min.name ∈ lw_all) (q2 : Cond.static Lib.Math.min.name ∈ lw_all) (q3 : Cond.initialized "java/lang/Math" ∈ lw_all) (q4 : Cond.code Lib.Math.min.name Lib.Math.min.code 2 (some .int) ∈ lw_all) (hr : (st.map fun v => if v.1 = 1 then 2 else 1).sum ≤ 8) (h1 : 1 ≤ d) (k : zV b y d (pc + 3) ls (zI (zmin x z) :: st) h Q) : zV b y d pc ls (zI z :: zI x :: st) h Q := by
  refine zV.goC k (fun a4 => zm1 (zmt (zmt a4)) ?_) (fun a4 g p l e R s m args below meth c G H locs LS cells slots Qm hL hc hs kk => ?_)
  · show r32 (if z < x then z else x)
    split
    · exact zmh a4
    · exact zmh (zmt a4)
  · refine va_mmin G.1.1 G.1.2.1 (by rw [hL]; exact G.1.2.2.1) G.1.2.2.2.2.2.2 (G.2.1 _ q1) (G.2.1 _ q2) (G.2.1 _ q3) (G.2.1 _ q4) (Nat.le_trans h1 G.2.2.2.2.1) (z_cats hr G.2.2.2.2.2.1 _ (by decide)) hc hs hd (zW_top kk (congrArg Value.int ?_))
    first | exact z_if (l32 (zmh a4) (zmh (zmt a4))).symm rfl rfl | exact (z_if (l32 (zmh a4) (zmh (zmt a4))).symm rfl rfl).trans (by congr)
theorem zV_mmaxl {x z : Int} (hd : decode y.2.1 pc = .ok (.invokestatic idx, 3)) (q1 : Cond.methodLink y.1.cls idx Lib.MathLoose.max_long.x ∈ lw_all) (q2 : Cond.static Lib.MathLoose.max_long.x ∈ lw_all) (q3 : Cond.initialized "java/lang/Math" ∈ lw_all) (q4 : Cond.code Lib.MathLoose.max_long.x Lib.MathLoose.max_long.code 4 (some .long) ∈ lw_all) (hr : (st.map fun v => if v.1 = 1 then 2 else 1).sum ≤ 8) (h1 : 1 ≤ d) (k : zV b y d (pc + 3) ls (zJ (zmaxl x z) :: st) h Q) : zV b y d pc ls (zJ z :: zJ x :: st) h Q := by
  refine zV.goC k (fun a4 => zm1 (zmt (zmt a4)) ?_) (fun a4 g p l e R s m args below meth c G H locs LS cells slots Qm hL hc hs kk => ?_)
  · show r64 (if z < x then x else z)
    split
    · exact zmh (zmt a4)
    · exact zmh a4
  · refine va_mmax_long G.1.1 G.1.2.1 (by rw [hL]; exact G.1.2.2.1) G.1.2.2.2.2.2.2 (G.2.1 _ q1) (G.2.1 _ q2) (G.2.1 _ q3) (G.2.1 _ q4) (Nat.le_trans h1 G.2.2.2.2.1) (z_cats hr G.2.2.2.2.2.1 _ (by decide)) hc hs hd (zW_top kk (congrArg Value.long ?_))
    exact z_if64 (l64 (zmh a4) (zmh (zmt a4))).symm rfl rfl
theorem zV_ldc2c {i : Nat} {x : Int} {c : Int64} (hd : decode y.2.1 pc = .ok (.ldc2_w i, 3)) (hcx : c = Int64.ofInt x) (hc : Cond.constantLong y.1.cls i c ∈ lw_all) (hx : r64 x) (k : zV b y d (pc + 3) ls (zJ x :: st) h Q) : zV b y d pc ls st h Q := by
  subst hcx
  exact zV_ldc2 hd hc hx k
theorem zV_ldcc {i : Nat} {x : Int} {c : Int32} (hd : decode y.2.1 pc = .ok (.ldc i, 2)) (hcx : c = Int32.ofInt x) (hc : Cond.constant y.1.cls i c ∈ lw_all) (hx : r32 x) (k : zV b y d (pc + 2) ls (zI x :: st) h Q) : zV b y d pc ls st h Q := by
  subst hcx
  exact zV_ldc hd hc hx k
theorem zV_ldcwc {i : Nat} {x : Int} {c : Int32} (hd : decode y.2.1 pc = .ok (.ldc_w i, 3)) (hcx : c = Int32.ofInt x) (hc : Cond.constant y.1.cls i c ∈ lw_all) (hx : r32 x) (k : zV b y d (pc + 3) ls (zI x :: st) h Q) : zV b y d pc ls st h Q := by
  subst hcx
  exact zV_ldcw hd hc hx k
end
