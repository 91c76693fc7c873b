/-! Z: rows: bits, conversions, the stack, branches, constants, ends -/
/-- a branch on c -/
theorem zV.br {b : Bool} {y : zM} {d pc pt pf : Nat} {ls st st' : List zA} {h : zH} {Q : Nat → Int → zH → Prop} {c : Prop} (kt : c → zV b y d pt ls st' h Q) (kf : ¬ c → zV b y d pf ls st' h Q)
    (hok : (∀ v ∈ st, zok h v) → (∀ v ∈ st', zok h v))
    (hw : zwf h → (∀ v ∈ st, zok h v) → ∀ (g : zG) (p : Program) (l : Launch) (e : Env) (R : Room) (s : State) (m : MethodId) (args : Array Value) (below : List Frame) (meth : Method) (cd : Code), zGood y d g p R s m args meth cd →
      ∀ (H : Heap) (locs : List Loc) (LS : Array Slot) (cells slots : Nat) (Qm : State → Prop), (c → W p l e R s m args below meth cd H locs cells slots Qm (F0 m pt LS (st'.map (zc g.2.2.1)))) → (¬ c → W p l e R s m args below meth cd H locs cells slots Qm (F0 m pf LS (st'.map (zc g.2.2.1)))) → zgok g → W p l e R s m args below meth cd H locs cells slots Qm (F0 m pc LS (st.map (zc g.2.2.1)))) : zV b y d pc ls st h Q := by
  by_cases hc : c
  · exact zV.go (kt hc) (fun _ _ a3 a4 => ⟨a3, hok a4⟩) (fun a1 _ _ a4 g p l e R s m args below meth cd G H locs LS cells slots Qm _ hL kk => hw a1 a4 g p l e R s m args below meth cd G H locs LS cells slots Qm (fun _ => kk LS hL) (fun hn => absurd hc hn) G.2.2.2.1)
  · exact zV.go (kf hc) (fun _ _ a3 a4 => ⟨a3, hok a4⟩) (fun a1 _ _ a4 g p l e R s m args below meth cd G H locs LS cells slots Qm _ hL kk => hw a1 a4 g p l e R s m args below meth cd G H locs LS cells slots Qm (fun hn => absurd hn hc) (fun _ => kk LS hL) G.2.2.2.1)
theorem r32_0 : r32 0 := ⟨by decide, by decide⟩
section
variable {b : Bool} {y : zM} {d pc : Nat} {ls st : List zA} {h : zH} {Q : Nat → Int → zH → Prop}
theorem zV_iand {x z : Int} (hd : decode y.2.1 pc = .ok (.iand, 1)) (k : zV b y d (pc + 1) ls (zI (zand x z) :: st) h Q) : zV b y d pc ls (zI z :: zI x :: st) h Q :=
  zV.go k (fun _ _ a3 a4 => ⟨a3, zm1 (zmt (zmt a4)) (r32_of _)⟩) (fun _ _ _ _ g p l e R s m args below meth c G H locs LS cells slots Qm _ hL kk => lv_iand G.1.1 G.1.2.1 hd (zW_top (kk LS hL) (congrArg Value.int (Int32.ofInt_toInt _))))
theorem zV_ior {x z : Int} (hd : decode y.2.1 pc = .ok (.ior, 1)) (k : zV b y d (pc + 1) ls (zI (zor x z) :: st) h Q) : zV b y d pc ls (zI z :: zI x :: st) h Q :=
  zV.go k (fun _ _ a3 a4 => ⟨a3, zm1 (zmt (zmt a4)) (r32_of _)⟩) (fun _ _ _ _ g p l e R s m args below meth c G H locs LS cells slots Qm _ hL kk => lv_ior G.1.1 G.1.2.1 hd (zW_top (kk LS hL) (congrArg Value.int (Int32.ofInt_toInt _))))
theorem zV_ixor {x z : Int} (hd : decode y.2.1 pc = .ok (.ixor, 1)) (k : zV b y d (pc + 1) ls (zI (zxor x z) :: st) h Q) : zV b y d pc ls (zI z :: zI x :: st) h Q :=
  zV.go k (fun _ _ a3 a4 => ⟨a3, zm1 (zmt (zmt a4)) (r32_of _)⟩) (fun _ _ _ _ g p l e R s m args below meth c G H locs LS cells slots Qm _ hL kk => lv_ixor G.1.1 G.1.2.1 hd (zW_top (kk LS hL) (congrArg Value.int (Int32.ofInt_toInt _))))
theorem zV_ishl {x z : Int} (hd : decode y.2.1 pc = .ok (.ishl, 1)) (k : zV b y d (pc + 1) ls (zI (zshl x z) :: st) h Q) : zV b y d pc ls (zI z :: zI x :: st) h Q :=
  zV.go k (fun _ _ a3 a4 => ⟨a3, zm1 (zmt (zmt a4)) (r32_of _)⟩) (fun _ _ _ _ g p l e R s m args below meth c G H locs LS cells slots Qm _ hL kk => lv_ishl G.1.1 G.1.2.1 hd (zW_top (kk LS hL) (congrArg Value.int (Int32.ofInt_toInt _))))
theorem zV_ishr {x z : Int} (hd : decode y.2.1 pc = .ok (.ishr, 1)) (k : zV b y d (pc + 1) ls (zI (zshr x z) :: st) h Q) : zV b y d pc ls (zI z :: zI x :: st) h Q :=
  zV.go k (fun _ _ a3 a4 => ⟨a3, zm1 (zmt (zmt a4)) (r32_of _)⟩) (fun _ _ _ _ g p l e R s m args below meth c G H locs LS cells slots Qm _ hL kk => lv_ishr G.1.1 G.1.2.1 hd (zW_top (kk LS hL) (congrArg Value.int (Int32.ofInt_toInt _))))
theorem zV_iushr {x z : Int} (hd : decode y.2.1 pc = .ok (.iushr, 1)) (k : zV b y d (pc + 1) ls (zI (zushr x z) :: st) h Q) : zV b y d pc ls (zI z :: zI x :: st) h Q :=
  zV.go k (fun _ _ a3 a4 => ⟨a3, zm1 (zmt (zmt a4)) (r32_of _)⟩) (fun _ _ _ _ g p l e R s m args below meth c G H locs LS cells slots Qm _ hL kk => lv_iushr G.1.1 G.1.2.1 hd (Int32.ofInt_toInt _).symm (kk LS hL))
theorem zV_land {x z : Int} (hd : decode y.2.1 pc = .ok (.land, 1)) (k : zV b y d (pc + 1) ls (zJ (zland x z) :: st) h Q) : zV b y d pc ls (zJ z :: zJ x :: st) h Q :=
  zV.go k (fun _ _ a3 a4 => ⟨a3, zm1 (zmt (zmt a4)) (r64_of _)⟩) (fun _ _ _ _ g p l e R s m args below meth c G H locs LS cells slots Qm _ hL kk => lv_land G.1.1 G.1.2.1 hd (zW_top (kk LS hL) (congrArg Value.long (Int64.ofInt_toInt _))))
theorem zV_lor {x z : Int} (hd : decode y.2.1 pc = .ok (.lor, 1)) (k : zV b y d (pc + 1) ls (zJ (zlor x z) :: st) h Q) : zV b y d pc ls (zJ z :: zJ x :: st) h Q :=
  zV.go k (fun _ _ a3 a4 => ⟨a3, zm1 (zmt (zmt a4)) (r64_of _)⟩) (fun _ _ _ _ g p l e R s m args below meth c G H locs LS cells slots Qm _ hL kk => lv_lor G.1.1 G.1.2.1 hd (zW_top (kk LS hL) (congrArg Value.long (Int64.ofInt_toInt _))))
theorem zV_lxor {x z : Int} (hd : decode y.2.1 pc = .ok (.lxor, 1)) (k : zV b y d (pc + 1) ls (zJ (zlxor x z) :: st) h Q) : zV b y d pc ls (zJ z :: zJ x :: st) h Q :=
  zV.go k (fun _ _ a3 a4 => ⟨a3, zm1 (zmt (zmt a4)) (r64_of _)⟩) (fun _ _ _ _ g p l e R s m args below meth c G H locs LS cells slots Qm _ hL kk => lv_lxor G.1.1 G.1.2.1 hd (zW_top (kk LS hL) (congrArg Value.long (Int64.ofInt_toInt _))))
theorem zV_ladd {x z : Int} (hd : decode y.2.1 pc = .ok (.ladd, 1)) (k : zV b y d (pc + 1) ls (zJ (w64 (x + z)) :: st) h Q) : zV b y d pc ls (zJ z :: zJ x :: st) h Q :=
  zV.go k (fun _ _ a3 a4 => ⟨a3, zm1 (zmt (zmt a4)) (w64_r _)⟩) (fun _ _ _ _ g p l e R s m args below meth c G H locs LS cells slots Qm _ hL kk => lv_ladd G.1.1 G.1.2.1 hd (zW_top (kk LS hL) (by rw [zc_l, o64, Int64.ofInt_add])))
theorem zV_lsub {x z : Int} (hd : decode y.2.1 pc = .ok (.lsub, 1)) (k : zV b y d (pc + 1) ls (zJ (w64 (x - z)) :: st) h Q) : zV b y d pc ls (zJ z :: zJ x :: st) h Q :=
  zV.go k (fun _ _ a3 a4 => ⟨a3, zm1 (zmt (zmt a4)) (w64_r _)⟩) (fun _ _ _ _ g p l e R s m args below meth c G H locs LS cells slots Qm _ hL kk => lv_lsub G.1.1 G.1.2.1 hd (zW_top (kk LS hL) (by rw [zc_l, o64, Int64.ofInt_sub])))
theorem zV_lmul {x z : Int} (hd : decode y.2.1 pc = .ok (.lmul, 1)) (k : zV b y d (pc + 1) ls (zJ (w64 (x * z)) :: st) h Q) : zV b y d pc ls (zJ z :: zJ x :: st) h Q :=
  zV.go k (fun _ _ a3 a4 => ⟨a3, zm1 (zmt (zmt a4)) (w64_r _)⟩) (fun _ _ _ _ g p l e R s m args below meth c G H locs LS cells slots Qm _ hL kk => lv_lmul G.1.1 G.1.2.1 hd (zW_top (kk LS hL) (by rw [zc_l, o64, Int64.ofInt_mul])))
theorem zV_lshl {x z : Int} (hd : decode y.2.1 pc = .ok (.lshl, 1)) (k : zV b y d (pc + 1) ls (zJ (zlshl x z) :: st) h Q) : zV b y d pc ls (zI z :: zJ x :: st) h Q :=
  zV.go k (fun _ _ a3 a4 => ⟨a3, zm1 (zmt (zmt a4)) (r64_of _)⟩) (fun _ _ _ _ g p l e R s m args below meth c G H locs LS cells slots Qm _ hL kk => lv_lshl G.1.1 G.1.2.1 hd (Int64.ofInt_toInt _).symm (kk LS hL))
theorem zV_lshr {x z : Int} (hd : decode y.2.1 pc = .ok (.lshr, 1)) (k : zV b y d (pc + 1) ls (zJ (zlshr x z) :: st) h Q) : zV b y d pc ls (zI z :: zJ x :: st) h Q :=
  zV.go k (fun _ _ a3 a4 => ⟨a3, zm1 (zmt (zmt a4)) (r64_of _)⟩) (fun _ _ _ _ g p l e R s m args below meth c G H locs LS cells slots Qm _ hL kk => lv_lshr G.1.1 G.1.2.1 hd (Int64.ofInt_toInt _).symm (kk LS hL))
theorem zV_lushr {x z : Int} (hd : decode y.2.1 pc = .ok (.lushr, 1)) (k : zV b y d (pc + 1) ls (zJ (zlushr x z) :: st) h Q) : zV b y d pc ls (zI z :: zJ x :: st) h Q :=
  zV.go k (fun _ _ a3 a4 => ⟨a3, zm1 (zmt (zmt a4)) (r64_of _)⟩) (fun _ _ _ _ g p l e R s m args below meth c G H locs LS cells slots Qm _ hL kk => lv_lushr G.1.1 G.1.2.1 hd (Int64.ofInt_toInt _).symm (kk LS hL))
theorem z_div {x z : Int} (hx : r32 x) (hz : r32 z) (h0 : z ≠ 0) : Int32.ofInt (w32 (x.tdiv z)) = Int32.ofInt x / Int32.ofInt z := by
  rw [← Int32.toInt_inj, Int32.toInt_div, o32, t32 hx, t32 hz, Int32.toInt_ofInt]
theorem z_ldiv {x z : Int} (hx : r64 x) (hz : r64 z) (h0 : z ≠ 0) : Int64.ofInt (w64 (x.tdiv z)) = Int64.ofInt x / Int64.ofInt z := by
  rw [← Int64.toInt_inj, Int64.toInt_div, o64, t64 hx, t64 hz, Int64.toInt_ofInt]
theorem z_ne0 {z : Int} (hz : r32 z) (h0 : z ≠ 0) : ¬ Int32.ofInt z = 0 := fun h => h0 ((e32 hz r32_0).mp h)
theorem z_ne0l {z : Int} (hz : r64 z) (h0 : z ≠ 0) : ¬ Int64.ofInt z = 0 := fun h => h0 ((e64 hz ⟨by decide, by decide⟩).mp h)
theorem z_rem {x z : Int} (hx : r32 x) (hz : r32 z) (h0 : z ≠ 0) : Int32.ofInt (x.tmod z) = Int32.ofInt x - Int32.ofInt x / Int32.ofInt z * Int32.ofInt z := by
  have e1 : Int32.ofInt x / Int32.ofInt z = Int32.ofInt (x.tdiv z) := by rw [← z_div hx hz h0, o32]
  rw [e1, ← Int32.ofInt_mul, ← Int32.ofInt_sub]
  congr 1
  have := Int.tmod_add_tdiv_mul x z
  omega
theorem z_tmod_r {x z : Int} (hx : r32 x) (h0 : z ≠ 0) : r32 (x.tmod z) := by
  have h1 := Int.natAbs_tmod x z
  have h2 : (x.tmod z).natAbs ≤ x.natAbs := by rw [h1]; exact Nat.mod_le _ _
  obtain ⟨a, b⟩ := hx
  have h3 : 0 ≤ x → 0 ≤ x.tmod z := fun h => Int.tmod_nonneg z h
  have h4 : x ≤ 0 → x.tmod z ≤ 0 := fun h => by
    have := Int.tmod_nonneg z (show 0 ≤ -x by omega)
    rw [Int.neg_tmod] at this
    omega
  refine ⟨?_, ?_⟩ <;> omega
theorem zV_idiv {x z : Int} (hd : decode y.2.1 pc = .ok (.idiv, 1)) (h0 : z ≠ 0) (k : zV b y d (pc + 1) ls (zI (w32 (x.tdiv z)) :: st) h Q) : zV b y d pc ls (zI z :: zI x :: st) h Q :=
  zV.go k (fun _ _ a3 a4 => ⟨a3, zm1 (zmt (zmt a4)) (w32_r _)⟩) (fun _ _ _ a4 g p l e R s m args below meth c G H locs LS cells slots Qm _ hL kk => lv_idiv G.1.1 G.1.2.1 hd (z_ne0 (zmh a4) h0) (zW_top (kk LS hL) (congrArg Value.int (z_div (zmh (zmt a4)) (zmh a4) h0))))
theorem zV_ldiv {x z : Int} (hd : decode y.2.1 pc = .ok (.ldiv, 1)) (h0 : z ≠ 0) (k : zV b y d (pc + 1) ls (zJ (w64 (x.tdiv z)) :: st) h Q) : zV b y d pc ls (zJ z :: zJ x :: st) h Q :=
  zV.go k (fun _ _ a3 a4 => ⟨a3, zm1 (zmt (zmt a4)) (w64_r _)⟩) (fun _ _ _ a4 g p l e R s m args below meth c G H locs LS cells slots Qm _ hL kk => lv_ldiv G.1.1 G.1.2.1 hd (z_ne0l (zmh a4) h0) (zW_top (kk LS hL) (congrArg Value.long (z_ldiv (zmh (zmt a4)) (zmh a4) h0))))
theorem zV_irem {x z : Int} (hd : decode y.2.1 pc = .ok (.irem, 1)) (h0 : z ≠ 0) (k : zV b y d (pc + 1) ls (zI (x.tmod z) :: st) h Q) : zV b y d pc ls (zI z :: zI x :: st) h Q :=
  zV.go k (fun _ _ a3 a4 => ⟨a3, zm1 (zmt (zmt a4)) (z_tmod_r (zmh (zmt a4)) h0)⟩) (fun _ _ _ a4 g p l e R s m args below meth c G H locs LS cells slots Qm _ hL kk => lv_irem G.1.1 G.1.2.1 hd (z_ne0 (zmh a4) h0) (zW_top (kk LS hL) (congrArg Value.int (z_rem (zmh (zmt a4)) (zmh a4) h0))))
theorem zV_i2l {x : Int} (hd : decode y.2.1 pc = .ok (.i2l, 1)) (k : zV b y d (pc + 1) ls (zJ x :: st) h Q) : zV b y d pc ls (zI x :: st) h Q :=
  zV.go k (fun _ _ a3 a4 => ⟨a3, zm1 (zmt a4) (by have h1 : r32 x := zmh a4; exact ⟨by have := h1.1; show -9223372036854775808 ≤ x; omega, by have := h1.2; show x ≤ 9223372036854775807; omega⟩)⟩) (fun _ _ _ a4 g p l e R s m args below meth c G H locs LS cells slots Qm _ hL kk => lv_i2l G.1.1 G.1.2.1 hd (by rw [← Int64.ofInt_int32ToInt, t32 (zmh a4)]) (kk LS hL))
theorem zV_l2i {x : Int} (hd : decode y.2.1 pc = .ok (.l2i, 1)) (k : zV b y d (pc + 1) ls (zI (w32 x) :: st) h Q) : zV b y d pc ls (zJ x :: st) h Q :=
  zV.go k (fun _ _ a3 a4 => ⟨a3, zm1 (zmt a4) (w32_r _)⟩) (fun _ _ _ a4 g p l e R s m args below meth c G H locs LS cells slots Qm _ hL kk => lv_l2i G.1.1 G.1.2.1 hd (by rw [o32]; exact Int64.toInt32_ofInt) (kk LS hL))
theorem zV_i2b {x : Int} (hd : decode y.2.1 pc = .ok (.i2b, 1)) (k : zV b y d (pc + 1) ls (zI (zi2b x) :: st) h Q) : zV b y d pc ls (zI x :: st) h Q :=
  zV.go k (fun _ _ a3 a4 => ⟨a3, zm1 (zmt a4) (r32_of _)⟩) (fun _ _ _ a4 g p l e R s m args below meth c G H locs LS cells slots Qm _ hL kk => lv_i2b G.1.1 G.1.2.1 hd (Int32.ofInt_toInt _).symm (kk LS hL))
theorem zV_i2c {x : Int} (hd : decode y.2.1 pc = .ok (.i2c, 1)) (k : zV b y d (pc + 1) ls (zI (zi2c x) :: st) h Q) : zV b y d pc ls (zI x :: st) h Q :=
  zV.go k (fun _ _ a3 a4 => ⟨a3, zm1 (zmt a4) (r32_of _)⟩) (fun _ _ _ a4 g p l e R s m args below meth c G H locs LS cells slots Qm _ hL kk => lv_i2c G.1.1 G.1.2.1 hd (Int32.ofInt_toInt _).symm (kk LS hL))
theorem z_cmp {x z : Int} (hx : r64 x) (hz : r64 z) : Int32.ofInt (zcmp x z) = lg_cmp (Int64.ofInt x) (Int64.ofInt z) := by
  unfold zcmp lg_cmp
  simp only [gt_iff_lt, l64 hz hx, e64 hx hz]
  rcases Int.lt_trichotomy x z with c | c | c
  · rw [if_pos c, if_neg (by omega), if_neg (by omega)]; rfl
  · rw [if_neg (by omega), if_pos c, if_neg (by omega), if_pos c]; rfl
  · rw [if_neg (by omega), if_neg (by omega), if_pos c]; rfl
theorem zcmp_r (x z : Int) : r32 (zcmp x z) := by
  unfold zcmp
  split
  · exact ⟨by decide, by decide⟩
  · split
    · exact ⟨by decide, by decide⟩
    · exact ⟨by decide, by decide⟩
theorem zV_lcmp {x z : Int} (hd : decode y.2.1 pc = .ok (.lcmp, 1)) (k : zV b y d (pc + 1) ls (zI (zcmp x z) :: st) h Q) : zV b y d pc ls (zJ z :: zJ x :: st) h Q :=
  zV.go k (fun _ _ a3 a4 => ⟨a3, zm1 (zmt (zmt a4)) (zcmp_r _ _)⟩) (fun _ _ _ a4 g p l e R s m args below meth c G H locs LS cells slots Qm _ hL kk => W.lcmp G.1.1 G.1.2.1 hd (zW_top (kk LS hL) (congrArg Value.int (z_cmp (zmh (zmt a4)) (zmh a4)))))
theorem zV_if_eq {x off : Int} {tgt : Nat} (hd : decode y.2.1 pc = .ok (.ifCond .eq off, 3)) (ht : (pc : Int) + off = (tgt : Int)) (kt : x = 0 → zV b y d tgt ls st h Q) (kf : ¬ (x = 0) → zV b y d (pc + 3) ls st h Q) : zV b y d pc ls (zI x :: st) h Q :=
  zV.br kt kf zmt (fun _ a4 g p l e R s m args below meth cd G H locs LS cells slots Qm k1 k2 _ => lv_if_eq G.1.1 G.1.2.1 hd ht (fun q => k1 ((e32 (zmh a4) r32_0).mp q)) (fun q => k2 (fun q2 => q ((e32 (zmh a4) r32_0).mpr q2))))
theorem zV_if_ne {x off : Int} {tgt : Nat} (hd : decode y.2.1 pc = .ok (.ifCond .ne off, 3)) (ht : (pc : Int) + off = (tgt : Int)) (kt : ¬ x = 0 → zV b y d tgt ls st h Q) (kf : x = 0 → zV b y d (pc + 3) ls st h Q) : zV b y d pc ls (zI x :: st) h Q :=
  zV.br kt (fun q => kf (Decidable.not_not.mp q)) zmt (fun _ a4 g p l e R s m args below meth cd G H locs LS cells slots Qm k1 k2 _ => lv_if_ne G.1.1 G.1.2.1 hd ht (fun q => k1 (fun q2 => q ((e32 (zmh a4) r32_0).mpr q2))) (fun q => k2 (fun q2 => q2 ((e32 (zmh a4) r32_0).mp q))))
theorem zV_if_lt {x off : Int} {tgt : Nat} (hd : decode y.2.1 pc = .ok (.ifCond .lt off, 3)) (ht : (pc : Int) + off = (tgt : Int)) (kt : x < 0 → zV b y d tgt ls st h Q) (kf : ¬ (x < 0) → zV b y d (pc + 3) ls st h Q) : zV b y d pc ls (zI x :: st) h Q :=
  zV.br kt kf zmt (fun _ a4 g p l e R s m args below meth cd G H locs LS cells slots Qm k1 k2 _ => lv_if_lt G.1.1 G.1.2.1 hd ht (fun q => k1 ((l32 (zmh a4) r32_0).mp q)) (fun q => k2 (fun q2 => q ((l32 (zmh a4) r32_0).mpr q2))))
theorem zV_if_ge {x off : Int} {tgt : Nat} (hd : decode y.2.1 pc = .ok (.ifCond .ge off, 3)) (ht : (pc : Int) + off = (tgt : Int)) (kt : 0 ≤ x → zV b y d tgt ls st h Q) (kf : ¬ (0 ≤ x) → zV b y d (pc + 3) ls st h Q) : zV b y d pc ls (zI x :: st) h Q :=
  zV.br kt kf zmt (fun _ a4 g p l e R s m args below meth cd G H locs LS cells slots Qm k1 k2 _ => lv_if_ge G.1.1 G.1.2.1 hd ht (fun q => k1 ((le32 r32_0 (zmh a4)).mp q)) (fun q => k2 (fun q2 => q ((le32 r32_0 (zmh a4)).mpr q2))))
theorem zV_if_gt {x off : Int} {tgt : Nat} (hd : decode y.2.1 pc = .ok (.ifCond .gt off, 3)) (ht : (pc : Int) + off = (tgt : Int)) (kt : 0 < x → zV b y d tgt ls st h Q) (kf : ¬ (0 < x) → zV b y d (pc + 3) ls st h Q) : zV b y d pc ls (zI x :: st) h Q :=
  zV.br kt kf zmt (fun _ a4 g p l e R s m args below meth cd G H locs LS cells slots Qm k1 k2 _ => lv_if_gt G.1.1 G.1.2.1 hd ht (fun q => k1 ((l32 r32_0 (zmh a4)).mp q)) (fun q => k2 (fun q2 => q ((l32 r32_0 (zmh a4)).mpr q2))))
theorem zV_if_le {x off : Int} {tgt : Nat} (hd : decode y.2.1 pc = .ok (.ifCond .le off, 3)) (ht : (pc : Int) + off = (tgt : Int)) (kt : x ≤ 0 → zV b y d tgt ls st h Q) (kf : ¬ (x ≤ 0) → zV b y d (pc + 3) ls st h Q) : zV b y d pc ls (zI x :: st) h Q :=
  zV.br kt kf zmt (fun _ a4 g p l e R s m args below meth cd G H locs LS cells slots Qm k1 k2 _ => lv_if_le G.1.1 G.1.2.1 hd ht (fun q => k1 ((le32 (zmh a4) r32_0).mp q)) (fun q => k2 (fun q2 => q ((le32 (zmh a4) r32_0).mpr q2))))
theorem zV_icmp_eq {x z off : Int} {tgt : Nat} (hd : decode y.2.1 pc = .ok (.if_icmp .eq off, 3)) (ht : (pc : Int) + off = (tgt : Int)) (kt : x = z → zV b y d tgt ls st h Q) (kf : ¬ (x = z) → zV b y d (pc + 3) ls st h Q) : zV b y d pc ls (zI z :: zI x :: st) h Q :=
  zV.br kt kf (fun a => zmt (zmt a)) (fun _ a4 g p l e R s m args below meth cd G H locs LS cells slots Qm k1 k2 _ => lv_icmp_eq G.1.1 G.1.2.1 hd ht (fun q => k1 ((e32 (zmh (zmt a4)) (zmh a4)).mp q)) (fun q => k2 (fun q2 => q ((e32 (zmh (zmt a4)) (zmh a4)).mpr q2))))
theorem zV_icmp_ne {x z off : Int} {tgt : Nat} (hd : decode y.2.1 pc = .ok (.if_icmp .ne off, 3)) (ht : (pc : Int) + off = (tgt : Int)) (kt : ¬ x = z → zV b y d tgt ls st h Q) (kf : x = z → zV b y d (pc + 3) ls st h Q) : zV b y d pc ls (zI z :: zI x :: st) h Q :=
  zV.br kt (fun q => kf (Decidable.not_not.mp q)) (fun a => zmt (zmt a)) (fun _ a4 g p l e R s m args below meth cd G H locs LS cells slots Qm k1 k2 _ => lv_icmp_ne G.1.1 G.1.2.1 hd ht (fun q => k1 (fun q2 => q ((e32 (zmh (zmt a4)) (zmh a4)).mpr q2))) (fun q => k2 (fun q2 => q2 ((e32 (zmh (zmt a4)) (zmh a4)).mp q))))
theorem zV_icmp_lt {x z off : Int} {tgt : Nat} (hd : decode y.2.1 pc = .ok (.if_icmp .lt off, 3)) (ht : (pc : Int) + off = (tgt : Int)) (kt : x < z → zV b y d tgt ls st h Q) (kf : ¬ (x < z) → zV b y d (pc + 3) ls st h Q) : zV b y d pc ls (zI z :: zI x :: st) h Q :=
  zV.br kt kf (fun a => zmt (zmt a)) (fun _ a4 g p l e R s m args below meth cd G H locs LS cells slots Qm k1 k2 _ => lv_icmp_lt G.1.1 G.1.2.1 hd ht (fun q => k1 ((l32 (zmh (zmt a4)) (zmh a4)).mp q)) (fun q => k2 (fun q2 => q ((l32 (zmh (zmt a4)) (zmh a4)).mpr q2))))
theorem zV_icmp_ge {x z off : Int} {tgt : Nat} (hd : decode y.2.1 pc = .ok (.if_icmp .ge off, 3)) (ht : (pc : Int) + off = (tgt : Int)) (kt : z ≤ x → zV b y d tgt ls st h Q) (kf : ¬ (z ≤ x) → zV b y d (pc + 3) ls st h Q) : zV b y d pc ls (zI z :: zI x :: st) h Q :=
  zV.br kt kf (fun a => zmt (zmt a)) (fun _ a4 g p l e R s m args below meth cd G H locs LS cells slots Qm k1 k2 _ => lv_icmp_ge G.1.1 G.1.2.1 hd ht (fun q => k1 ((le32 (zmh a4) (zmh (zmt a4))).mp q)) (fun q => k2 (fun q2 => q ((le32 (zmh a4) (zmh (zmt a4))).mpr q2))))
theorem zV_icmp_gt {x z off : Int} {tgt : Nat} (hd : decode y.2.1 pc = .ok (.if_icmp .gt off, 3)) (ht : (pc : Int) + off = (tgt : Int)) (kt : z < x → zV b y d tgt ls st h Q) (kf : ¬ (z < x) → zV b y d (pc + 3) ls st h Q) : zV b y d pc ls (zI z :: zI x :: st) h Q :=
  zV.br kt kf (fun a => zmt (zmt a)) (fun _ a4 g p l e R s m args below meth cd G H locs LS cells slots Qm k1 k2 _ => lv_icmp_gt G.1.1 G.1.2.1 hd ht (fun q => k1 ((l32 (zmh a4) (zmh (zmt a4))).mp q)) (fun q => k2 (fun q2 => q ((l32 (zmh a4) (zmh (zmt a4))).mpr q2))))
theorem zV_icmp_le {x z off : Int} {tgt : Nat} (hd : decode y.2.1 pc = .ok (.if_icmp .le off, 3)) (ht : (pc : Int) + off = (tgt : Int)) (kt : x ≤ z → zV b y d tgt ls st h Q) (kf : ¬ (x ≤ z) → zV b y d (pc + 3) ls st h Q) : zV b y d pc ls (zI z :: zI x :: st) h Q :=
  zV.br kt kf (fun a => zmt (zmt a)) (fun _ a4 g p l e R s m args below meth cd G H locs LS cells slots Qm k1 k2 _ => lv_icmp_le G.1.1 G.1.2.1 hd ht (fun q => k1 ((le32 (zmh (zmt a4)) (zmh a4)).mp q)) (fun q => k2 (fun q2 => q ((le32 (zmh (zmt a4)) (zmh a4)).mpr q2))))
theorem zV_goto {off : Int} {tgt : Nat} (hd : decode y.2.1 pc = .ok (.goto off, 3)) (ht : (pc : Int) + off = (tgt : Int)) (k : zV b y d tgt ls st h Q) : zV b y d pc ls st h Q :=
  zV.go k (fun _ _ a3 a4 => ⟨a3, a4⟩) (fun _ _ _ a4 g p l e R s m args below meth c G H locs LS cells slots Qm _ hL kk => lv_goto G.1.1 G.1.2.1 hd ht (kk LS hL))
theorem zV_dup {v : zA} (hd : decode y.2.1 pc = .ok (.dup, 1)) (hv : v.1 ≠ 1) (k : zV b y d (pc + 1) ls (v :: v :: st) h Q) : zV b y d pc ls (v :: st) h Q :=
  zV.go k (fun _ _ a3 a4 => ⟨a3, zm1 a4 (zmh a4)⟩) (fun _ _ _ a4 g p l e R s m args below meth c G H locs LS cells slots Qm _ hL kk => lv_dup G.1.1 G.1.2.1 hd (by rw [zcat, if_neg hv]) (kk LS hL))
theorem zV_pop {v : zA} (hd : decode y.2.1 pc = .ok (.pop, 1)) (hv : v.1 ≠ 1) (k : zV b y d (pc + 1) ls st h Q) : zV b y d pc ls (v :: st) h Q :=
  zV.go k (fun _ _ a3 a4 => ⟨a3, zmt a4⟩) (fun _ _ _ a4 g p l e R s m args below meth c G H locs LS cells slots Qm _ hL kk => lv_pop G.1.1 G.1.2.1 hd (by rw [zcat, if_neg hv]) (kk LS hL))
theorem zV_dup_x1 {v w : zA} (hd : decode y.2.1 pc = .ok (.dup_x1, 1)) (hv : v.1 ≠ 1) (hw : w.1 ≠ 1) (k : zV b y d (pc + 1) ls (v :: w :: v :: st) h Q) : zV b y d pc ls (v :: w :: st) h Q :=
  zV.go k (fun _ _ a3 a4 => ⟨a3, zm1 (zm1 (zm1 (zmt (zmt a4)) (zmh a4)) (zmh (zmt a4))) (zmh a4)⟩) (fun _ _ _ a4 g p l e R s m args below meth c G H locs LS cells slots Qm _ hL kk => lv_dup_x1 G.1.1 G.1.2.1 hd (by rw [zcat, if_neg hv]) (by rw [zcat, if_neg hw]) (kk LS hL))
theorem zV_dup2 {v w : zA} (hd : decode y.2.1 pc = .ok (.dup2, 1)) (hv : v.1 ≠ 1) (hw : w.1 ≠ 1) (k : zV b y d (pc + 1) ls (v :: w :: v :: w :: st) h Q) : zV b y d pc ls (v :: w :: st) h Q :=
  zV.go k (fun _ _ a3 a4 => ⟨a3, zm1 (zm1 a4 (zmh (zmt a4))) (zmh a4)⟩) (fun _ _ _ a4 g p l e R s m args below meth c G H locs LS cells slots Qm _ hL kk => lv_dup2_11 G.1.1 G.1.2.1 hd (by rw [zcat, if_neg hv]) (by rw [zcat, if_neg hw]) (kk LS hL))
theorem zV_null (hd : decode y.2.1 pc = .ok (.aconst_null, 1)) (k : zV b y d (pc + 1) ls (zR 0 :: st) h Q) : zV b y d pc ls st h Q :=
  zV.go k (fun a1 _ a3 a4 => ⟨a3, zm1 a4 ⟨Int.le_refl _, by have := a1.2.2.2; show (0 : Int) < zn h; omega⟩⟩) (fun _ _ _ a4 g p l e R s m args below meth c G H locs LS cells slots Qm _ hL kk => lv_null G.1.1 G.1.2.1 hd (kk LS hL))
theorem zV_astore_n {k4 : Fin 4} {i : Nat} {x : Int} {ls' : List zA} (hd : decode y.2.1 pc = .ok (.astore_n k4, 1)) (hi : (k4 : Nat) = i) (hn : i < y.2.2.1) (hp : znl ls i = true) (hl : ls.set i (zR x) = ls') (k : zV b y d (pc + 1) ls' st h Q) : zV b y d pc ls (zR x :: st) h Q := by
  subst hl
  refine zV.go k (fun _ _ a3 a4 => ⟨zms a3 (zmh a4), zmt a4⟩) (fun _ _ _ _ g p l e R s m args below meth c G H locs LS cells slots Qm _ hL kk => ?_)
  by_cases c0 : x = 0
  · subst c0
    exact lv_astore_nN G.1.1 G.1.2.1 hd hi hL.has hn rfl (fun LS' h' => kk LS' (zLs.one (v := zR 0) hp h'))
  · show W _ _ _ _ _ _ _ _ _ _ _ _ _ _ _ (F0 m pc LS (zc g.2.2.1 (zR x) :: st.map (zc g.2.2.1)))
    rw [zc_r c0]
    exact lv_astore_n G.1.1 G.1.2.1 hd hi hL.has hn rfl (fun LS' h' => kk LS' (zLs.one (v := zR x) hp (by rw [zc_r c0]; exact h')))
theorem zV_astore {i : Nat} {x : Int} {ls' : List zA} (hd : decode y.2.1 pc = .ok (.astore i, 2)) (hn : i < y.2.2.1) (hp : znl ls i = true) (hl : ls.set i (zR x) = ls') (k : zV b y d (pc + 2) ls' st h Q) : zV b y d pc ls (zR x :: st) h Q := by
  subst hl
  refine zV.go k (fun _ _ a3 a4 => ⟨zms a3 (zmh a4), zmt a4⟩) (fun _ _ _ _ g p l e R s m args below meth c G H locs LS cells slots Qm _ hL kk => ?_)
  by_cases c0 : x = 0
  · subst c0
    exact lv_astoreN G.1.1 G.1.2.1 hd hL.has hn rfl (fun LS' h' => kk LS' (zLs.one (v := zR 0) hp h'))
  · show W _ _ _ _ _ _ _ _ _ _ _ _ _ _ _ (F0 m pc LS (zc g.2.2.1 (zR x) :: st.map (zc g.2.2.1)))
    rw [zc_r c0]
    exact lv_astore G.1.1 G.1.2.1 hd hL.has hn rfl (fun LS' h' => kk LS' (zLs.one (v := zR x) hp (by rw [zc_r c0]; exact h')))
theorem zV_ifnull {x off : Int} {tgt : Nat} (hd : decode y.2.1 pc = .ok (.ifnull off, 3)) (ht : (pc : Int) + off = (tgt : Int)) (kt : x = 0 → zV b y d tgt ls st h Q) (kf : ¬ x = 0 → zV b y d (pc + 3) ls st h Q) : zV b y d pc ls (zR x :: st) h Q :=
  zV.br kt kf zmt (fun _ a4 g p l e R s m args below meth cd G H locs LS cells slots Qm k1 k2 _ => by
    by_cases c0 : x = 0
    · subst c0; exact lv_ifnullN G.1.1 G.1.2.1 hd ht (k1 rfl)
    · show W _ _ _ _ _ _ _ _ _ _ _ _ _ _ _ (F0 m pc LS (zc g.2.2.1 (zR x) :: st.map (zc g.2.2.1)))
      rw [zc_r c0]; exact lv_ifnull G.1.1 G.1.2.1 hd (k2 c0))
theorem zV_ifnonnull {x off : Int} {tgt : Nat} (hd : decode y.2.1 pc = .ok (.ifnonnull off, 3)) (ht : (pc : Int) + off = (tgt : Int)) (kt : ¬ x = 0 → zV b y d tgt ls st h Q) (kf : x = 0 → zV b y d (pc + 3) ls st h Q) : zV b y d pc ls (zR x :: st) h Q :=
  zV.br kt (fun q => kf (Decidable.not_not.mp q)) zmt (fun _ a4 g p l e R s m args below meth cd G H locs LS cells slots Qm k1 k2 _ => by
    by_cases c0 : x = 0
    · subst c0; exact lv_ifnonnullN G.1.1 G.1.2.1 hd (k2 (fun q => q rfl))
    · show W _ _ _ _ _ _ _ _ _ _ _ _ _ _ _ (F0 m pc LS (zc g.2.2.1 (zR x) :: st.map (zc g.2.2.1)))
      rw [zc_r c0]; exact lv_ifnonnull G.1.1 G.1.2.1 hd ht (k1 c0))
theorem zV_ldc {i : Nat} {x : Int} (hd : decode y.2.1 pc = .ok (.ldc i, 2)) (hc : Cond.constant y.1.cls i (Int32.ofInt x) ∈ lw_all) (hx : r32 x) (k : zV b y d (pc + 2) ls (zI x :: st) h Q) : zV b y d pc ls st h Q :=
  zV.go k (fun _ _ a3 a4 => ⟨a3, zm1 a4 hx⟩) (fun _ _ _ a4 g p l e R s m args below meth c G H locs LS cells slots Qm _ hL kk => lv_ldc G.1.1 G.1.2.1 G.1.2.2.2.2.2.2 (G.2.1 _ hc) hd (kk LS hL))
theorem zV_ldcw {i : Nat} {x : Int} (hd : decode y.2.1 pc = .ok (.ldc_w i, 3)) (hc : Cond.constant y.1.cls i (Int32.ofInt x) ∈ lw_all) (hx : r32 x) (k : zV b y d (pc + 3) ls (zI x :: st) h Q) : zV b y d pc ls st h Q :=
  zV.go k (fun _ _ a3 a4 => ⟨a3, zm1 a4 hx⟩) (fun _ _ _ a4 g p l e R s m args below meth c G H locs LS cells slots Qm _ hL kk => lv_ldcw G.1.1 G.1.2.1 G.1.2.2.2.2.2.2 (G.2.1 _ hc) hd (kk LS hL))
theorem zV_ldc2 {i : Nat} {x : Int} (hd : decode y.2.1 pc = .ok (.ldc2_w i, 3)) (hc : Cond.constantLong y.1.cls i (Int64.ofInt x) ∈ lw_all) (hx : r64 x) (k : zV b y d (pc + 3) ls (zJ x :: st) h Q) : zV b y d pc ls st h Q :=
  zV.go k (fun _ _ a3 a4 => ⟨a3, zm1 a4 hx⟩) (fun _ _ _ a4 g p l e R s m args below meth c G H locs LS cells slots Qm _ hL kk => lv_ldc2 G.1.1 G.1.2.1 G.1.2.2.2.2.2.2 (G.2.1 _ hc) hd (kk LS hL))
/-- a local is forgotten -/
theorem zV_forget {ls' : List zA} (i : Nat) (hl : ls.set i zU = ls') (k : zV b y d pc ls' st h Q) : zV b y d pc ls st h Q := by
  subst hl
  refine zV.go k (fun _ _ a3 a4 => ⟨zms a3 trivial, a4⟩) (fun _ _ _ _ g p l e R s m args below meth c G H locs LS cells slots Qm _ hL kk => kk LS ⟨hL.1, hL.2.1, fun j w hj hw => ?_⟩)
  rw [List.getElem?_set] at hj
  by_cases c1 : i = j
  · rw [if_pos c1] at hj
    by_cases c2 : i < ls.length
    · rw [if_pos c2] at hj; cases hj; exact absurd hw (by decide)
    · rw [if_neg c2] at hj; cases hj
  · rw [if_neg c1] at hj; exact hL.2.2 j w hj hw
end
