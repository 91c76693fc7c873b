/-! Z: rows over what is not static: arrays and objects by obligation -/
theorem zas_q {g : zG} {h : zH} {t a : Int} (h1 : 60 ≤ t) : zas g h t a = ((zl h a).toNat, .inr (.inr (.inr (.inr fun (j : Nat) => if zd h a (j : Int) = 0 then none else some (g.2.2.1 (zd h a (j : Int))))))) := by
  unfold zas
  rw [if_neg (by omega), if_neg (by omega)]
theorem z_rf {ad : Int → Nat} {x : Int} : va_rf (if x = 0 then none else some (ad x)) = zc ad (zR x) := by
  show _ = (if x = 0 then Value.null else .ref (ad x))
  by_cases c : x = 0
  · rw [if_pos c, if_pos c]; rfl
  · rw [if_neg c, if_neg c]; rfl
section
variable {y : zM} {d pc idx : Nat} {ls st : List zA} {h : zH} {Q : Nat → Int → zH → Prop}
theorem zV_aaloadX {b : Bool} {a i : Int} (hd : decode y.2.1 pc = .ok (.aaload, 1)) (ht : zt h a = 60 ∨ zt h a = 61 ∨ zt h a = 62 ∨ zt h a = 63) (h1 : 0 ≤ i) (h2 : i < zl h a) (kk : zV b y d (pc + 1) ls (zR (zd h a i) :: st) h Q) : zV b y d pc ls (zI i :: zR a :: st) h Q := by
  refine zV.go kk (fun a1 _ a3 a4 => ⟨a3, zm1 (zmt (zmt a4)) (by have := a1.1 a i; rcases ht with ht | ht | ht | ht <;> rw [ht] at this <;> exact this)⟩) (fun a1 _ _ a4 g p l e R s m args below meth c G H locs LS cells slots Qm hR hL kk => ?_)
  show W _ _ _ _ _ _ _ _ _ _ _ _ _ _ _ (F0 m pc LS (.int (Int32.ofInt i) :: zc g.2.2.1 (zR a) :: st.map (zc g.2.2.1)))
  rw [zc_r (z_ne0r a1 (by omega) (by omega))]
  have hlt : (Int32.ofInt i).toNatClampNeg < (zl h a).toNat := by rw [z_cl h1 (zmh a4)]; omega
  have fin : ∀ (t : Int) (k : Nat) (ty : FieldType), zt h a = t → 60 ≤ t → t < 70 → (zTys g)[k]? = some (g.2.1 t, ty) → ty.isReference = true → W p l e R s m args below meth c H locs cells slots Qm (F0 m pc LS (.int (Int32.ofInt i) :: Value.ref (g.2.2.1 a) :: st.map (zc g.2.2.1))) := by
    intro t k ty e1 e2 e3 e4 e5
    have h6 := hR.arr a1 e1 (by omega) e3
    rw [zas_q e2] at h6
    refine W.aald (v := va_rf (if zd h a i = 0 then none else some (g.2.2.1 (zd h a i)))) (ty := ty) G.1.1 G.1.2.1 h6 (z_arrK G.2.2.1.1 k e4 (zl h a).toNat (fun (j : Nat) => va_rf (if zd h a (j : Int) = 0 then none else some (g.2.2.1 (zd h a (j : Int)))))) e5 (fun q => by cases q) (by show ¬ (_ ∨ (arrV _ _ _).slots.size ≤ _); rw [arrV_size]; exact z_in h1 h2 (zmh a4)) ?_ rfl rfl hd (zW_top (kk LS hL) z_rf.symm)
    show (arrV _ _ _).slots[_]? = _
    rw [arrV_read _ _ hlt]
    show some (va_rf (if zd h a (((Int32.ofInt i).toNatClampNeg : Nat) : Int) = 0 then none else some (g.2.2.1 (zd h a (((Int32.ofInt i).toNatClampNeg : Nat) : Int))))) = _
    rw [z_cl h1 (zmh a4), Int.toNat_of_nonneg h1]
  rcases ht with ht | ht | ht | ht
  · exact fin 60 4 _ ht (by decide) (by decide) rfl rfl
  · exact fin 61 5 _ ht (by decide) (by decide) rfl rfl
  · exact fin 62 6 _ ht (by decide) (by decide) rfl rfl
  · exact fin 63 7 _ ht (by decide) (by decide) rfl rfl
theorem zV_aa {t a i n : Int} (hd : decode y.2.1 pc = .ok (.aaload, 1)) (s : zSA a t n) (ht : t = 60 ∨ t = 61 ∨ t = 62 ∨ t = 63) (hi : 0 ≤ i ∧ i < n) (kk : zV true y d (pc + 1) ls (zR (zd h a i) :: st) h Q) : zV true y d pc ls (zI i :: zR a :: st) h Q :=
  zV.wf fun _ w => zV_aaloadX hd (by rw [s.t (w rfl)]; exact ht) hi.1 (by rw [s.l (w rfl)]; exact hi.2) kk
theorem zV_aaD {t a i : Int} (hd : decode y.2.1 pc = .ok (.aaload, 1)) (ht : t = 60 ∨ t = 61 ∨ t = 62 ∨ t = 63) (ob : zt h a = t ∧ 0 ≤ i ∧ i < zl h a) (kk : zV true y d (pc + 1) ls (zR (zd h a i) :: st) h Q) : zV true y d pc ls (zI i :: zR a :: st) h Q :=
  zV_aaloadX hd (by rw [ob.1]; exact ht) ob.2.1 ob.2.2 kk
theorem zV_iaD {a i : Int} (hd : decode y.2.1 pc = .ok (.iaload, 1)) (ob : zt h a = 50 ∧ 0 ≤ i ∧ i < zl h a) (kk : zV true y d (pc + 1) ls (zI (zd h a i) :: st) h Q) : zV true y d pc ls (zI i :: zR a :: st) h Q := zV_ialoadX hd ob.1 ob.2.1 ob.2.2 kk
theorem zV_zaD {a i : Int} (hd : decode y.2.1 pc = .ok (.baload, 1)) (ob : (zt h a = 51 ∨ zt h a = 52) ∧ 0 ≤ i ∧ i < zl h a) (kk : zV true y d (pc + 1) ls (zI (zd h a i) :: st) h Q) : zV true y d pc ls (zI i :: zR a :: st) h Q := zV_baloadX hd ob.1 ob.2.1 ob.2.2 kk
theorem zV_laD {a i : Int} (hd : decode y.2.1 pc = .ok (.laload, 1)) (ob : zt h a = 53 ∧ 0 ≤ i ∧ i < zl h a) (kk : zV true y d (pc + 1) ls (zJ (zd h a i) :: st) h Q) : zV true y d pc ls (zI i :: zR a :: st) h Q := zV_laloadX hd ob.1 ob.2.1 ob.2.2 kk
theorem zV_iasD {a i v : Int} (hd : decode y.2.1 pc = .ok (.iastore, 1)) (ob : zt h a = 50 ∧ 0 ≤ i ∧ i < zl h a) (kk : ∀ h1 : zH, h1 = zw h a i v → zV true y d (pc + 1) ls st h1 Q) : zV true y d pc ls (zI v :: zI i :: zR a :: st) h Q := zV_iastoreX hd (Or.inl rfl) ob.1 ob.2.1 ob.2.2 (kk _ rfl)
theorem zV_lasD {a i v : Int} (hd : decode y.2.1 pc = .ok (.lastore, 1)) (ob : zt h a = 53 ∧ 0 ≤ i ∧ i < zl h a) (kk : ∀ h1 : zH, h1 = zw h a i v → zV true y d (pc + 1) ls st h1 Q) : zV true y d pc ls (zJ v :: zI i :: zR a :: st) h Q := zV_lastoreX hd (Or.inl rfl) ob.1 ob.2.1 ob.2.2 (kk _ rfl)
theorem zV_alD {a : Int} (hd : decode y.2.1 pc = .ok (.arraylength, 1)) (ob : zt h a = 50 ∨ zt h a = 51 ∨ zt h a = 52 ∨ zt h a = 53 ∨ zt h a = 60 ∨ zt h a = 61 ∨ zt h a = 62 ∨ zt h a = 63) (kk : zV true y d (pc + 1) ls (zI (zl h a) :: st) h Q) : zV true y d pc ls (zR a :: st) h Q := zV_alenX hd ob kk
theorem zV_al {t a n : Int} (hd : decode y.2.1 pc = .ok (.arraylength, 1)) (s : zSA a t n) (ht : t = 50 ∨ t = 51 ∨ t = 52 ∨ t = 53 ∨ t = 60 ∨ t = 61 ∨ t = 62 ∨ t = 63) (kk : zV true y d (pc + 1) ls (zI n :: st) h Q) : zV true y d pc ls (zR a :: st) h Q :=
  zV.wf fun _ w => zV_alenX hd (by rw [s.t (w rfl)]; exact ht) (by rw [s.l (w rfl)]; exact kk)
/-- a field of an object whose tag is known -/
theorem zV_gD {k t κ : Nat} {a : Int} (hd : decode y.2.1 pc = .ok (.getfield idx, 3)) (ob : zt h a = t) (h50 : t < 50) (hf : zFL y.1.cls idx t k) (hk : zk t k = κ) {ki : Int} (hki : (k : Int) = ki) (kk : zV true y d (pc + 3) ls ((κ, zd h a ki) :: st) h Q) : zV true y d pc ls (zR a :: st) h Q := by
  subst hki
  exact zV_getX hd t ob h50 hf hk kk
theorem zV_pD {k t κ : Nat} {a v : Int} (hd : decode y.2.1 pc = .ok (.putfield idx, 3)) (ob : zt h a = t) (h13 : t < 13) (hf : zFL y.1.cls idx t k) (hb : zff t k = false ∨ 4 ≤ t) (hi : zff t k = false ∨ (y.1.name = "<init>" ∧ (zCl.getD t (RX0, TX0, 0)).2.1 k = (zCl.getD t (RX0, TX0, 0)).2.1 k ∧ ((zCl.getD t (RX0, TX0, 0)).2.1 k).1 = y.1.cls)) (hk : zk t k = κ) (hv : zfo (zTy t k) v) {ki : Int} (hki : (k : Int) = ki) (kk : ∀ h1 : zH, h1 = zw h a ki v → zV true y d (pc + 3) ls st h1 Q) : zV true y d pc ls ((κ, v) :: zR a :: st) h Q := by
  subst hki
  exact zV_putX hd t ob h13 hf (Or.inl ⟨rfl, hb⟩) hi hk hv (kk _ rfl)
end
/-- the two engines -/
def zE (e : Int) : Prop := e = 25 ∨ e = 58
