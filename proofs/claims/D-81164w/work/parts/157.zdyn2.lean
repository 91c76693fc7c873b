/-! Z: rows by obligation, for what is made later -/
section
variable {y y' : zM} {d d' pc idx : Nat} {ls st As rest : List zA} {h : zH} {Q : Nat → Int → zH → Prop} {P : Int → zH → Prop}
theorem zV_cID {a t : Int} (hd : decode y.2.1 pc = .ok (.invokespecial idx, 3)) (ob : zt h a = t) (ht : 0 ≤ t ∧ t < 70) (hC : zC true y' d' (zR a :: As) h (zQ0 P)) (mi : zMC y' As.length) (ml : zML y.1.cls idx y') (hdd : d' + 1 ≤ d) (hsum : (rest.map fun v => if v.1 = 1 then 2 else 1).sum ≤ 8) (hst : st = As.reverse ++ zR a :: rest) (kk : ∀ o h1, P o h1 → zV true y d (pc + 3) ls rest h1 Q) : zV true y d pc ls st h Q :=
  zV.wf fun w _ => zV_cI hd (z_ne0r w (by omega) (by omega)) hC mi ml hdd hsum hst kk
theorem zV_oiD {a t : Int} (hd : decode y.2.1 pc = .ok (.invokespecial idx, 3)) (ob : zt h a = t) (ht : 0 ≤ t ∧ t < 70) (q1 : Cond.methodLink y.1.cls idx Lib.objectInit ∈ lw_all) (q2 : Cond.instanceMethod Lib.objectInit ∈ lw_all) (q3 : Cond.code Lib.objectInit ⟨#[0xb1]⟩ 1 none ∈ lw_all) (h1 : 1 ≤ d) (hr : (st.map fun v => if v.1 = 1 then 2 else 1).sum ≤ 8) (k : zV true y d (pc + 3) ls st h Q) : zV true y d pc ls (zR a :: st) h Q :=
  zV.wf fun w _ => zV_objInit hd (z_ne0r w (by omega) (by omega)) q1 q2 q3 h1 hr k
theorem zV_cVkD {t κ : Nat} {a : Int} {ty : FieldType} (hd : decode y.2.1 pc = .ok (.invokevirtual idx, 3)) (ob : zt h a = t) (hC : zC true y' d' (zR a :: As) h (zQ0 P)) (mi : zMI y' t As.length) (ml : zML y.1.cls idx y') (hdd : d' + 1 ≤ d) (hsum : (rest.map fun v => if v.1 = 1 then 2 else 1).sum ≤ 8) (hst : st = As.reverse ++ zR a :: rest) (hr : y'.2.2.2 = some ty) (hk : zkf ty = κ) (kk : ∀ o h1, P o h1 → zV true y d (pc + 3) ls ((κ, o) :: rest) h1 Q) : zV true y d pc ls st h Q := by
  obtain ⟨⟨C, T, N, m1, m2, m3, m4, m5, m6⟩, m7, m8, m9⟩ := mi
  exact zV_callV_k hd hC ob m9 m1 m2 ml m3 m4 m5 m6 ⟨m7, hdd, m8, hsum⟩ hst hr hk (fun o h1 q _ => kk o h1 q)
theorem zV_cVvD {t : Nat} {a : Int} (hd : decode y.2.1 pc = .ok (.invokevirtual idx, 3)) (ob : zt h a = t) (hC : zC true y' d' (zR a :: As) h (zQ0 P)) (mi : zMI y' t As.length) (ml : zML y.1.cls idx y') (hdd : d' + 1 ≤ d) (hsum : (rest.map fun v => if v.1 = 1 then 2 else 1).sum ≤ 8) (hst : st = As.reverse ++ zR a :: rest) (hr : y'.2.2.2 = none) (kk : ∀ o h1, P o h1 → zV true y d (pc + 3) ls rest h1 Q) : zV true y d pc ls st h Q := by
  obtain ⟨⟨C, T, N, m1, m2, m3, m4, m5, m6⟩, m7, m8, m9⟩ := mi
  exact zV_callV_v hd hC ob m9 m1 m2 ml m3 m4 m5 m6 ⟨m7, hdd, m8, hsum⟩ hst hr (fun o h1 q _ => kk o h1 q)
theorem zV_aas {t a i v n : Int} (hd : decode y.2.1 pc = .ok (.aastore, 1)) (s : zSA a t n) (hi : 0 ≤ i ∧ i < n) (hf : zfitA t h v) (kk : ∀ h1 : zH, h1 = zw h a i v → zV true y d (pc + 1) ls st h1 Q) : zV true y d pc ls (zR v :: zI i :: zR a :: st) h Q :=
  zV.wf fun _ w => zV_aastoreX hd (Or.inl rfl) (s.t (w rfl)) hf q2789 q2790 q2791 q2792 q2793 hi.1 (by rw [s.l (w rfl)]; exact hi.2) (kk _ rfl)
theorem zV_aasD {t a i v : Int} (hd : decode y.2.1 pc = .ok (.aastore, 1)) (ob : zt h a = t ∧ 0 ≤ i ∧ i < zl h a) (hf : zfitA t h v) (kk : ∀ h1 : zH, h1 = zw h a i v → zV true y d (pc + 1) ls st h1 Q) : zV true y d pc ls (zR v :: zI i :: zR a :: st) h Q :=
  zV_aastoreX hd (Or.inl rfl) ob.1 hf q2789 q2790 q2791 q2792 q2793 ob.2.1 ob.2.2 (kk _ rfl)
theorem zV_aan {a i n : Int} (hd : decode y.2.1 pc = .ok (.aastore, 1)) (s : zSA a 61 n) (hi : 0 ≤ i ∧ i < n) (kk : ∀ h1 : zH, h1 = zw h a i 0 → zV true y d (pc + 1) ls st h1 Q) : zV true y d pc ls (zR 0 :: zI i :: zR a :: st) h Q :=
  zV.wf fun _ w => zV_aastN hd (Or.inl rfl) (s.t (w rfl)) hi.1 (by rw [s.l (w rfl)]; exact hi.2) (kk _ rfl)
theorem z_fitb {x : Int} (h : -128 ≤ x ∧ x ≤ 127) : fits .byte (.int (Int32.ofInt x)) = true := by
  have : ∀ n : Fin 256, fits .byte (.int (Int32.ofInt ((n : Int) - 128))) = true := by decide +kernel
  have h2 := this ⟨(x + 128).toNat, by omega⟩
  have e : (((⟨(x + 128).toNat, by omega⟩ : Fin 256) : Nat) : Int) - 128 = x := by
    show (((x + 128).toNat : Nat) : Int) - 128 = x
    omega
  rw [e] at h2; exact h2
/-- ints copied -/
theorem zV_cpi {src sp dst dp n : Int} (hd : decode y.2.1 pc = .ok (.invokestatic idx, 3)) (q1 : Cond.methodLink y.1.cls idx arraycopyName ∈ lw_all) (ob : zt h src = 50 ∧ zt h dst = 50 ∧ 0 ≤ sp ∧ 0 ≤ dp ∧ 0 ≤ n ∧ sp + n ≤ zl h src ∧ dp + n ≤ zl h dst) (hr : (st.map fun v => if v.1 = 1 then 2 else 1).sum ≤ 8) (h1d : 1 ≤ d) (kk : ∀ h1 : zH, h1 = zcp h src sp dst dp n → zV true y d (pc + 3) ls st h1 Q) : zV true y d pc ls (zI n :: zI dp :: zR dst :: zI sp :: zR src :: st) h Q :=
  zV_copyX 0 (ty := .int) hd (Or.inl rfl) q1 q759 q758 q170 ob.1 ob.2.1 (Or.inl rfl) (fun _ => rfl) rfl (fun i _ _ => rfl) hr h1d ob.2.2.1 ob.2.2.2.1 ob.2.2.2.2.1 ob.2.2.2.2.2.1 ob.2.2.2.2.2.2 kk
/-- bytes copied -/
theorem zV_cpb {src sp dst dp n : Int} (hd : decode y.2.1 pc = .ok (.invokestatic idx, 3)) (q1 : Cond.methodLink y.1.cls idx arraycopyName ∈ lw_all) (ob : (zt h src = 51 ∧ zt h dst = 51 ∧ 0 ≤ sp ∧ 0 ≤ dp ∧ 0 ≤ n ∧ sp + n ≤ zl h src ∧ dp + n ≤ zl h dst) ∧ ∀ i, 0 ≤ i → i < n → -128 ≤ zd h src (sp + i) ∧ zd h src (sp + i) ≤ 127) (hr : (st.map fun v => if v.1 = 1 then 2 else 1).sum ≤ 8) (h1d : 1 ≤ d) (kk : ∀ h1 : zH, h1 = zcp h src sp dst dp n → zV true y d (pc + 3) ls st h1 Q) : zV true y d pc ls (zI n :: zI dp :: zR dst :: zI sp :: zR src :: st) h Q :=
  zV_copyX 1 (ty := .byte) hd (Or.inl rfl) q1 q759 q758 q170 ob.1.1 ob.1.2.1 (Or.inr rfl) (fun _ => rfl) rfl (fun i h0 h1 => z_fitb (ob.2 i h0 h1)) hr h1d ob.1.2.2.1 ob.1.2.2.2.1 ob.1.2.2.2.2.1 ob.1.2.2.2.2.2.1 ob.1.2.2.2.2.2.2 kk
theorem zV_nai {x : Int} (hd : decode y.2.1 pc = .ok (.newarray .int, 2)) (hx : 0 ≤ x ∧ x ≤ 60000) (kk : ∀ h1 : zH, h1 = zal h 50 x x → zV true y d (pc + 2) ls (zR (zn h) :: st) h1 Q) : zV true y d pc ls (zI x :: st) h Q :=
  zV_newarr 50 0 hd rfl q413 (fun _ => rfl) rfl ⟨by decide, by decide⟩ (fun _ _ q => q) (by decide) hx kk
theorem zV_nab {x : Int} (hd : decode y.2.1 pc = .ok (.newarray .byte, 2)) (hx : 0 ≤ x ∧ x ≤ 60000) (kk : ∀ h1 : zH, h1 = zal h 51 x x → zV true y d (pc + 2) ls (zR (zn h) :: st) h1 Q) : zV true y d pc ls (zI x :: st) h Q :=
  zV_newarr 51 1 hd rfl q412 (fun _ => rfl) rfl ⟨by decide, by decide⟩ (fun _ _ q => q) (by decide) hx kk
end
