/-! Z: rows over the static layout -/
def zSA (a t n : Int) : Prop := (14 ≤ a ∧ a < 175) ∧ zstag a = t ∧ zslen a = n
theorem zSA.t {a t n : Int} (s : zSA a t n) {h : zH} (w : zSt h) : zt h a = t := by
  rw [← s.2.1]; exact (w.2.1 a s.1.1 s.1.2).1
theorem zSA.l {a t n : Int} (s : zSA a t n) {h : zH} (w : zSt h) : zl h a = n := by
  rw [← s.2.2]; exact (w.2.1 a s.1.1 s.1.2).2
/-- a method of the class of tag t, as the tables have it -/
def zMI (y : zM) (t n : Nat) : Prop := (∃ (C : String) (T : u_T) (N : Nat), zCl[t]? = some (C, T, N) ∧ y.1.cls = C ∧ Cond.instanceMethod y.1 ∈ lw_all ∧ Cond.selects C y.1 y.1 ∈ lw_all ∧ Cond.initialized C ∈ lw_all ∧ zcw y ∈ lw_all) ∧ (y.1.cls ≠ "java/lang/invoke/MethodHandle" ∧ y.1.cls ≠ "java/lang/invoke/VarHandle" ∧ (parseMethodDescriptor y.1.desc).map (fun d => d.parameters.length) = some n) ∧ y.2.2.1 ≤ 45 ∧ t < 50
/-- a static one -/
def zMS (y : zM) (n : Nat) : Prop := zhh y.1 = [] ∧ (Cond.static y.1 ∈ lw_all ∧ Cond.initialized y.1.cls ∈ lw_all ∧ zcw y ∈ lw_all) ∧ (y.1.cls ≠ "java/lang/invoke/MethodHandle" ∧ y.1.cls ≠ "java/lang/invoke/VarHandle" ∧ (parseMethodDescriptor y.1.desc).map (fun d => d.parameters.length) = some n) ∧ y.2.2.1 ≤ 45
def zML (own : String) (idx : Nat) (y' : zM) : Prop := Cond.methodLink own idx y'.1 ∈ lw_all ∨ (zhh y'.1 = [] ∧ ∃ host, Cond.methodLinkNest own idx y'.1 host ∈ lw_tbl)
def zmsk (m : List Bool) (ls : List zA) : List zA := List.zipWith (fun k v => if k = true then v else zU) m ls
section
variable {y y' : zM} {d d' pc idx : Nat} {ls st As rest : List zA} {h : zH} {Q : Nat → Int → zH → Prop} {P : Int → zH → Prop}
theorem zV_mask {b : Bool} {ls' : List zA} (m : List Bool) (hl : zmsk m ls = ls') (k : zV b y d pc ls' st h Q) : zV b y d pc ls st h Q := by
  subst hl
  have key : ∀ (j : Nat) (w : zA), (zmsk m ls)[j]? = some w → w = zU ∨ ls[j]? = some w := by
    intro j w hj
    unfold zmsk at hj
    rw [List.getElem?_zipWith] at hj
    cases h1 : m[j]? with
    | none => rw [h1] at hj; simp at hj
    | some k =>
      cases h2 : ls[j]? with
      | none => rw [h1, h2] at hj; simp at hj
      | some v =>
        rw [h1, h2] at hj
        simp only [Option.some.injEq] at hj
        by_cases c : k = true
        · rw [if_pos c] at hj; exact Or.inr (by rw [hj])
        · rw [if_neg c] at hj; exact Or.inl hj.symm
  refine zV.go k (fun _ _ a3 a4 => ⟨fun v hv => ?_, a4⟩) (fun _ _ _ _ g p l e R s m args below meth c G H locs LS cells slots Qm _ hL kk => kk LS ⟨hL.1, hL.2.1, fun j w hj hw => ?_⟩)
  · obtain ⟨j, hj⟩ := List.getElem?_of_mem hv
    rcases key j v hj with e | e
    · rw [e]; trivial
    · exact a3 v (List.mem_of_getElem? e)
  · rcases key j w hj with e | e
    · rw [e] at hw; exact absurd hw (by decide)
    · exact hL.2.2 j w e hw
/-- a final reference of the static layout -/
theorem zV_sg {k t : Nat} {a v n : Int} (hd : decode y.2.1 pc = .ok (.getfield idx, 3)) (hm : ((a, (k : Int), v) : Int × Int × Int) ∈ zFin) (s : zSA a t n) (h50 : t < 50) (hf : zFL y.1.cls idx t k) (hk : zk t k = 2) (kk : zV true y d (pc + 3) ls (zR v :: st) h Q) : zV true y d pc ls (zR a :: st) h Q :=
  zV.wf fun _ w => zV_getX hd t (s.t (w rfl)) h50 hf hk (by rw [(w rfl).2.2 _ hm]; exact kk)
/-- a field of a static object -/
theorem zV_gf {k t κ : Nat} {a n : Int} (hd : decode y.2.1 pc = .ok (.getfield idx, 3)) (s : zSA a t n) (h50 : t < 50) (hf : zFL y.1.cls idx t k) (hk : zk t k = κ) {ki : Int} (hki : (k : Int) = ki) (kk : zV true y d (pc + 3) ls ((κ, zd h a ki) :: st) h Q) : zV true y d pc ls (zR a :: st) h Q := by
  subst hki
  exact zV.wf fun _ w => zV_getX hd t (s.t (w rfl)) h50 hf hk kk
theorem zV_pf {k t κ : Nat} {a v n : Int} (hd : decode y.2.1 pc = .ok (.putfield idx, 3)) (s : zSA a t n) (h13 : t < 13) (hf : zFL y.1.cls idx t k) (hfin : zff t k = false) (hk : zk t k = κ) (hv : zfo (zTy t k) v) {ki : Int} (hki : (k : Int) = ki) (kk : ∀ h1 : zH, h1 = zw h a ki v → zV true y d (pc + 3) ls st h1 Q) : zV true y d pc ls ((κ, v) :: zR a :: st) h Q := by
  subst hki
  exact zV.wf fun _ w => zV_putX hd t (s.t (w rfl)) h13 hf (Or.inl ⟨rfl, Or.inl hfin⟩) (Or.inl hfin) hk hv (kk _ rfl)
theorem zV_ia {a i n : Int} (hd : decode y.2.1 pc = .ok (.iaload, 1)) (s : zSA a 50 n) (hi : 0 ≤ i ∧ i < n) (kk : zV true y d (pc + 1) ls (zI (zd h a i) :: st) h Q) : zV true y d pc ls (zI i :: zR a :: st) h Q :=
  zV.wf fun _ w => zV_ialoadX hd (s.t (w rfl)) hi.1 (by rw [s.l (w rfl)]; exact hi.2) kk
theorem zV_za {a i n : Int} (hd : decode y.2.1 pc = .ok (.baload, 1)) (s : zSA a 52 n) (hi : 0 ≤ i ∧ i < n) (kk : zV true y d (pc + 1) ls (zI (zd h a i) :: st) h Q) : zV true y d pc ls (zI i :: zR a :: st) h Q :=
  zV.wf fun _ w => zV_baloadX hd (Or.inr (s.t (w rfl))) hi.1 (by rw [s.l (w rfl)]; exact hi.2) kk
theorem zV_ba {a i n : Int} (hd : decode y.2.1 pc = .ok (.baload, 1)) (s : zSA a 51 n) (hi : 0 ≤ i ∧ i < n) (kk : zV true y d (pc + 1) ls (zI (zd h a i) :: st) h Q) : zV true y d pc ls (zI i :: zR a :: st) h Q :=
  zV.wf fun _ w => zV_baloadX hd (Or.inl (s.t (w rfl))) hi.1 (by rw [s.l (w rfl)]; exact hi.2) kk
theorem zV_la {a i n : Int} (hd : decode y.2.1 pc = .ok (.laload, 1)) (s : zSA a 53 n) (hi : 0 ≤ i ∧ i < n) (kk : zV true y d (pc + 1) ls (zJ (zd h a i) :: st) h Q) : zV true y d pc ls (zI i :: zR a :: st) h Q :=
  zV.wf fun _ w => zV_laloadX hd (s.t (w rfl)) hi.1 (by rw [s.l (w rfl)]; exact hi.2) kk
theorem zV_ias {a i v n : Int} (hd : decode y.2.1 pc = .ok (.iastore, 1)) (s : zSA a 50 n) (hi : 0 ≤ i ∧ i < n) (kk : ∀ h1 : zH, h1 = zw h a i v → zV true y d (pc + 1) ls st h1 Q) : zV true y d pc ls (zI v :: zI i :: zR a :: st) h Q :=
  zV.wf fun _ w => zV_iastoreX hd (Or.inl rfl) (s.t (w rfl)) hi.1 (by rw [s.l (w rfl)]; exact hi.2) (kk _ rfl)
theorem zV_zas {a i v n : Int} (hd : decode y.2.1 pc = .ok (.bastore, 1)) (s : zSA a 52 n) (hi : 0 ≤ i ∧ i < n) (kk : ∀ h1 : zH, h1 = zw h a i (zbit v) → zV true y d (pc + 1) ls st h1 Q) : zV true y d pc ls (zI v :: zI i :: zR a :: st) h Q :=
  zV.wf fun _ w => zV_zastoreX hd (Or.inl rfl) (s.t (w rfl)) hi.1 (by rw [s.l (w rfl)]; exact hi.2) (kk _ rfl)
theorem zV_bas {a i v n : Int} (hd : decode y.2.1 pc = .ok (.bastore, 1)) (s : zSA a 51 n) (hi : 0 ≤ i ∧ i < n) (kk : ∀ h1 : zH, h1 = zw h a i (zbyte v) → zV true y d (pc + 1) ls st h1 Q) : zV true y d pc ls (zI v :: zI i :: zR a :: st) h Q :=
  zV.wf fun _ w => zV_bastoreX hd (Or.inl rfl) (s.t (w rfl)) hi.1 (by rw [s.l (w rfl)]; exact hi.2) (kk _ rfl)
theorem zV_las {a i v n : Int} (hd : decode y.2.1 pc = .ok (.lastore, 1)) (s : zSA a 53 n) (hi : 0 ≤ i ∧ i < n) (kk : ∀ h1 : zH, h1 = zw h a i v → zV true y d (pc + 1) ls st h1 Q) : zV true y d pc ls (zJ v :: zI i :: zR a :: st) h Q :=
  zV.wf fun _ w => zV_lastoreX hd (Or.inl rfl) (s.t (w rfl)) hi.1 (by rw [s.l (w rfl)]; exact hi.2) (kk _ rfl)
theorem zV_cVk {t κ : Nat} {a n : Int} {ty : FieldType} (hd : decode y.2.1 pc = .ok (.invokevirtual idx, 3)) (s : zSA a t n) (hC : zC true y' d' (zR a :: As) h (zQ0 P)) (mi : zMI y' t As.length) (ml : zML y.1.cls idx y') (hdd : d' + 1 ≤ d) (hsum : (rest.map fun v => if v.1 = 1 then 2 else 1).sum ≤ 8) (hst : st = As.reverse ++ zR a :: rest) (hr : y'.2.2.2 = some ty) (hk : zkf ty = κ) (kk : ∀ o h1, P o h1 → zV true y d (pc + 3) ls ((κ, o) :: rest) h1 Q) : zV true y d pc ls st h Q := by
  obtain ⟨⟨C, T, N, m1, m2, m3, m4, m5, m6⟩, m7, m8, m9⟩ := mi
  exact zV.wf fun _ w => zV_callV_k hd hC (s.t (w rfl)) m9 m1 m2 ml m3 m4 m5 m6 ⟨m7, hdd, m8, hsum⟩ hst hr hk (fun o h1 q _ => kk o h1 q)
theorem zV_cVv {t : Nat} {a n : Int} (hd : decode y.2.1 pc = .ok (.invokevirtual idx, 3)) (s : zSA a t n) (hC : zC true y' d' (zR a :: As) h (zQ0 P)) (mi : zMI y' t As.length) (ml : zML y.1.cls idx y') (hdd : d' + 1 ≤ d) (hsum : (rest.map fun v => if v.1 = 1 then 2 else 1).sum ≤ 8) (hst : st = As.reverse ++ zR a :: rest) (hr : y'.2.2.2 = none) (kk : ∀ o h1, P o h1 → zV true y d (pc + 3) ls rest h1 Q) : zV true y d pc ls st h Q := by
  obtain ⟨⟨C, T, N, m1, m2, m3, m4, m5, m6⟩, m7, m8, m9⟩ := mi
  exact zV.wf fun _ w => zV_callV_v hd hC (s.t (w rfl)) m9 m1 m2 ml m3 m4 m5 m6 ⟨m7, hdd, m8, hsum⟩ hst hr (fun o h1 q _ => kk o h1 q)
theorem zV_cSk {b : Bool} {κ : Nat} {ty : FieldType} (hd : decode y.2.1 pc = .ok (.invokestatic idx, 3)) (hC : zC b y' d' As h (zQ0 P)) (mi : zMS y' As.length) (ml : zML y.1.cls idx y') (hdd : d' + 1 ≤ d) (hsum : (rest.map fun v => if v.1 = 1 then 2 else 1).sum ≤ 8) (hst : st = As.reverse ++ rest) (hr : y'.2.2.2 = some ty) (hk : zkf ty = κ) (kk : ∀ o h1, P o h1 → zV b y d (pc + 3) ls ((κ, o) :: rest) h1 Q) : zV b y d pc ls st h Q := by
  obtain ⟨m0, ⟨m1, m2, m3⟩, m7, m8⟩ := mi
  exact zV_callS_k hd hC ml m1 m2 m3 ⟨m7, hdd, m8, hsum⟩ hst m0 hr hk (fun o h1 q _ => kk o h1 q)
theorem zV_cSv {b : Bool} (hd : decode y.2.1 pc = .ok (.invokestatic idx, 3)) (hC : zC b y' d' As h (zQ0 P)) (mi : zMS y' As.length) (ml : zML y.1.cls idx y') (hdd : d' + 1 ≤ d) (hsum : (rest.map fun v => if v.1 = 1 then 2 else 1).sum ≤ 8) (hst : st = As.reverse ++ rest) (hr : y'.2.2.2 = none) (kk : ∀ o h1, P o h1 → zV b y d (pc + 3) ls rest h1 Q) : zV b y d pc ls st h Q := by
  obtain ⟨m0, ⟨m1, m2, m3⟩, m7, m8⟩ := mi
  exact zV_callS_v hd hC ml m1 m2 m3 ⟨m7, hdd, m8, hsum⟩ hst m0 hr (fun o h1 q _ => kk o h1 q)
theorem zV_top {b : Bool} {κ : Nat} {x : Int} (kk : ∀ z : Int, z = x → zV b y d pc ls ((κ, z) :: st) h Q) : zV b y d pc ls ((κ, x) :: st) h Q := kk x rfl
theorem zV_inc {b : Bool} {i : Nat} {n x : Int} {ls' : Int → List zA} (hd : decode y.2.1 pc = .ok (.iinc i n, 3)) (hn : i < y.2.2.1) (hp : znl ls i = true) (hx : ls[i]? = some (zI x)) (hl : ∀ z, ls.set i (zI z) = ls' z) (k : ∀ z : Int, z = w32 (x + n) → zV b y d (pc + 3) (ls' z) st h Q) : zV b y d pc ls st h Q := zV_iinc hd hn hp hx (hl _) (k _ rfl)
/-- a table's jump -/
theorem zV_ts {b : Bool} {lo hi dflt off x : Int} {offs : Array Int} {len tgt : Nat} (hd : decode y.2.1 pc = .ok (.tableswitch dflt lo hi offs, len)) (k : Int) (hx : x = k) (hl : lo ≤ k ∧ k ≤ hi) (ho : offs[(k - lo).toNat]? = some off) (ht : (pc : Int) + off = (tgt : Int)) (kk : zV b y d tgt ls st h Q) : zV b y d pc ls (zI x :: st) h Q :=
  zV.go kk (fun _ _ a3 a4 => ⟨a3, zmt a4⟩) (fun _ _ _ a4 g p l e R s m args below meth c G H locs LS cells slots Qm _ hL kk => lv_tableIn G.1.1 G.1.2.1 hd (by rw [t32 (zmh a4), hx]; show ¬ k < lo; omega) (by rw [t32 (zmh a4), hx]; show ¬ hi < k; omega) (by rw [t32 (zmh a4), hx]; exact ho) ht (kk LS hL))
theorem zV_tsd {b : Bool} {lo hi dflt x : Int} {offs : Array Int} {len tgt : Nat} (hd : decode y.2.1 pc = .ok (.tableswitch dflt lo hi offs, len)) (hx : x < lo ∨ hi < x) (ht : (pc : Int) + dflt = (tgt : Int)) (kk : zV b y d tgt ls st h Q) : zV b y d pc ls (zI x :: st) h Q :=
  zV.go kk (fun _ _ a3 a4 => ⟨a3, zmt a4⟩) (fun _ _ _ a4 g p l e R s m args below meth c G H locs LS cells slots Qm _ hL kk => lv_tableOut G.1.1 G.1.2.1 hd (by rw [t32 (zmh a4)]; exact hx) ht (kk LS hL))
end
theorem z01 {x : Int} (h : x = 0 ∨ x = 1) : narrow .boolean (.int (Int32.ofInt x)) = .int (Int32.ofInt x) := by
  rcases h with h | h <;> subst h <;> decide +kernel
theorem z01_if {c : Prop} [Decidable c] {x y : Int} (h1 : x = 0 ∨ x = 1) (h2 : y = 0 ∨ y = 1) : (if c then x else y) = 0 ∨ (if c then x else y) = 1 := by
  by_cases k : c
  · rw [if_pos k]; exact h1
  · rw [if_neg k]; exact h2
theorem z0 : (0 : Int) = 0 ∨ (0 : Int) = 1 := Or.inl rfl
theorem z1 : (1 : Int) = 0 ∨ (1 : Int) = 1 := Or.inr rfl
theorem zif_p {c A B : Prop} [Decidable c] (h : if c then A else B) (hc : c) : A := by rw [if_pos hc] at h; exact h
theorem zif_n {c A B : Prop} [Decidable c] (h : if c then A else B) (hc : ¬ c) : B := by rw [if_neg hc] at h; exact h
