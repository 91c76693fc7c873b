/-! Z: fields of objects of several classes -/
section
variable {y : zM} {d pc idx : Nat} {ls st : List zA} {h : zH} {Q : Nat → Int → zH → Prop}
theorem zV_gM {k κ : Nat} {a : Int} (ts : List Nat) (hd : decode y.2.1 pc = .ok (.getfield idx, 3)) (ob : ∃ t ∈ ts, zt h a = ((t : Nat) : Int)) (hf : ∀ t ∈ ts, t < 50 ∧ zFL y.1.cls idx t k ∧ zk t k = κ) {ki : Int} (hki : (k : Int) = ki) (kk : zV true y d (pc + 3) ls ((κ, zd h a ki) :: st) h Q) : zV true y d pc ls (zR a :: st) h Q := by
  subst hki
  obtain ⟨t, ht, e⟩ := ob
  obtain ⟨h1, h2, h3⟩ := hf t ht
  exact zV_getX hd t e h1 h2 h3 kk
theorem zV_pM {k κ : Nat} {a v : Int} (ts : List Nat) (hd : decode y.2.1 pc = .ok (.putfield idx, 3)) (ob : ∃ t ∈ ts, zt h a = ((t : Nat) : Int)) (hf : ∀ t ∈ ts, t < 13 ∧ 4 ≤ t ∧ zFL y.1.cls idx t k ∧ zk t k = κ ∧ (zff t k = false ∨ (y.1.name = "<init>" ∧ ((zCl.getD t (RX0, TX0, 0)).2.1 k).1 = y.1.cls)) ∧ zfo (zTy t k) v) {ki : Int} (hki : (k : Int) = ki) (kk : ∀ h1 : zH, h1 = zw h a ki v → zV true y d (pc + 3) ls st h1 Q) : zV true y d pc ls ((κ, v) :: zR a :: st) h Q := by
  subst hki
  obtain ⟨t, ht, e⟩ := ob
  obtain ⟨h1, h2, h3, h4, h5, h6⟩ := hf t ht
  exact zV_putX hd t e h1 h3 (Or.inl ⟨rfl, Or.inr h2⟩) (h5.elim Or.inl (fun q => Or.inr ⟨q.1, rfl, q.2⟩)) h4 h6 (kk _ rfl)
variable {y' : zM} {d' : Nat} {As rest : List zA} {P : Int → zH → Prop}
theorem zV_cIM {a : Int} (ts : List Nat) (hts : ∀ t ∈ ts, t < 70) (hd : decode y.2.1 pc = .ok (.invokespecial idx, 3)) (ob : ∃ t ∈ ts, zt h a = ((t : Nat) : Int)) (hC : zC true y' d' (zR a :: As) h (zQ0 P)) (mi : zMC y' As.length) (ml : zML y.1.cls idx y') (hdd : d' + 1 ≤ d) (hsum : (rest.map fun v => if v.1 = 1 then 2 else 1).sum ≤ 8) (hst : st = As.reverse ++ zR a :: rest) (kk : ∀ o h1, P o h1 → zV true y d (pc + 3) ls rest h1 Q) : zV true y d pc ls st h Q := by
  obtain ⟨t, ht, e⟩ := ob
  have := hts t ht
  exact zV.wf fun w _ => zV_cI hd (z_ne0r w (by omega) (by omega)) hC mi ml hdd hsum hst kk
theorem zV_oiM {a : Int} (ts : List Nat) (hts : ∀ t ∈ ts, t < 70) (hd : decode y.2.1 pc = .ok (.invokespecial idx, 3)) (ob : ∃ t ∈ ts, zt h a = ((t : Nat) : Int)) (q1 : Cond.methodLink y.1.cls idx Lib.objectInit ∈ lw_all) (q2 : Cond.instanceMethod Lib.objectInit ∈ lw_all) (q3 : Cond.code Lib.objectInit ⟨#[0xb1]⟩ 1 none ∈ lw_all) (h1 : 1 ≤ d) (hr : (st.map fun v => if v.1 = 1 then 2 else 1).sum ≤ 8) (k : zV true y d (pc + 3) ls st h Q) : zV true y d pc ls (zR a :: st) h Q := by
  obtain ⟨t, ht, e⟩ := ob
  have := hts t ht
  exact zV.wf fun w _ => zV_objInit hd (z_ne0r w (by omega) (by omega)) q1 q2 q3 h1 hr k
end
