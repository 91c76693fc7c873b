/-! bits of 64: hb x k -/
def hb (x : Int) (k : Nat) : Bool := (Int64.ofInt x).toBitVec.getLsbD k
theorem hb_or (x y : Int) (k : Nat) : hb (zlor x y) k = (hb x k || hb y k) := by
  unfold hb zlor; rw [Int64.ofInt_toInt, Int64.toBitVec_or, BitVec.getLsbD_or]
theorem hb_and (x y : Int) (k : Nat) : hb (zland x y) k = (hb x k && hb y k) := by
  unfold hb zland; rw [Int64.ofInt_toInt, Int64.toBitVec_and, BitVec.getLsbD_and]
theorem hb_xor (x y : Int) (k : Nat) : hb (zlxor x y) k = (hb x k ^^ hb y k) := by
  unfold hb zlxor; rw [Int64.ofInt_toInt, Int64.toBitVec_xor, BitVec.getLsbD_xor]
theorem hb_m1 : ∀ k : Fin 64, hb (-1) k.val = true := by decide +kernel
theorem hb_not {x : Int} {k : Nat} (hk : k < 64) : hb (zlxor x (-1)) k = !hb x k := by
  rw [hb_xor, hb_m1 ⟨k, hk⟩]; cases hb x k <;> rfl
theorem hb_0 (k : Nat) : hb 0 k = false := BitVec.getLsbD_zero
theorem hb_big {x : Int} {k : Nat} (hk : 64 ≤ k) : hb x k = false := BitVec.getLsbD_of_ge _ _ hk
theorem hb_ext {x y : Int} (hx : r64 x) (hy : r64 y) (h : ∀ k, k < 64 → hb x k = hb y k) : x = y := by
  have e : Int64.ofInt x = Int64.ofInt y := Int64.toBitVec_inj.mp (BitVec.eq_of_getLsbD_eq (fun i hi => h i hi))
  have := congrArg Int64.toInt e
  rwa [t64 hx, t64 hy] at this
theorem hb_sh : ∀ r : Fin 64, ∀ k : Fin 64, hb (zlshl 1 (r.val : Int)) k.val = decide (k.val = r.val) := by decide +kernel
theorem zand63' : ∀ s : Fin 1364, zand (s.val : Int) 63 = ((s.val % 64 : Nat) : Int) := by decide +kernel
theorem zshr6' : ∀ s : Fin 1364, zshr (s.val : Int) 6 = ((s.val / 64 : Nat) : Int) := by decide +kernel
theorem zand63 {s : Int} (h0 : 0 ≤ s) (h1 : s < 1364) : zand s 63 = s % 64 := by
  obtain ⟨n, rfl⟩ := Int.eq_ofNat_of_zero_le h0
  have e : zand (n : Int) 63 = ((n % 64 : Nat) : Int) := zand63' ⟨n, by omega⟩
  rw [e]; omega
theorem zshr6 {s : Int} (h0 : 0 ≤ s) (h1 : s < 1364) : zshr s 6 = s / 64 := by
  obtain ⟨n, rfl⟩ := Int.eq_ofNat_of_zero_le h0
  have e : zshr (n : Int) 6 = ((n / 64 : Nat) : Int) := zshr6' ⟨n, by omega⟩
  rw [e]; omega
theorem hb_one {r : Int} {k : Nat} (h0 : 0 ≤ r) (h1 : r < 64) (hk : k < 64) : hb (zlshl 1 r) k = decide ((k : Int) = r) := by
  obtain ⟨n, rfl⟩ := Int.eq_ofNat_of_zero_le h0
  rw [hb_sh ⟨n, by omega⟩ ⟨k, hk⟩]
  by_cases c : k = n
  · subst c; simp
  · rw [decide_eq_false (by omega), decide_eq_false (by omega)]
/-- a word is 0 when no bit is there -/
theorem hb_zero {x : Int} (hx : r64 x) : x = 0 ↔ ∀ k, k < 64 → hb x k = false := by
  constructor
  · intro h k _; rw [h]; exact hb_0 k
  · intro h; exact hb_ext hx ⟨by decide, by decide⟩ (fun k hk => by rw [h k hk, hb_0])
/-- the lowest bit goes -/
theorem hb_sub1 (x : Int) {k : Nat} (hk : k < 64) : hb (w64 (x - 1)) k = !(hb x k ^^ decide (∃ j, j < k ∧ hb x j = true)) := by
  have e : (Int64.ofInt (w64 (x - 1))).toBitVec = ~~~(-(Int64.ofInt x).toBitVec) := by
    rw [o64, BitVec.not_neg, Int64.ofInt_sub, Int64.toBitVec_sub]; rfl
  unfold hb
  rw [e, BitVec.getLsbD_not, BitVec.getLsbD_neg]
  simp only [decide_eq_true hk, Bool.true_and]
theorem hb_low {x : Int} {k : Nat} (hk : k < 64) : hb (zland x (w64 (x - 1))) k = (hb x k && decide (∃ j, j < k ∧ hb x j = true)) := by
  rw [hb_and, hb_sub1 x hk]
  cases hb x k <;> simp
/-! bits of 32 -/
def ib (x : Int) (k : Nat) : Bool := (Int32.ofInt x).toBitVec.getLsbD k
theorem ib_sub1 (x : Int) {k : Nat} (hk : k < 32) : ib (w32 (x - 1)) k = !(ib x k ^^ decide (∃ j, j < k ∧ ib x j = true)) := by
  have e : (Int32.ofInt (w32 (x - 1))).toBitVec = ~~~(-(Int32.ofInt x).toBitVec) := by
    rw [o32, BitVec.not_neg, Int32.ofInt_sub, Int32.toBitVec_sub]; rfl
  unfold ib
  rw [e, BitVec.getLsbD_not, BitVec.getLsbD_neg]
  simp only [decide_eq_true hk, Bool.true_and]
theorem ib_m1 : ∀ k : Fin 32, ib (-1) k.val = true := by decide +kernel
theorem ib_ntz {x : Int} {k : Nat} (hk : k < 32) : ib (zand (zxor x (-1)) (w32 (x - 1))) k = (!ib x k && decide (∀ j, j < k → ib x j = false)) := by
  have e1 : ib (zand (zxor x (-1)) (w32 (x - 1))) k = (ib (zxor x (-1)) k && ib (w32 (x - 1)) k) := by
    unfold ib zand; rw [Int32.ofInt_toInt, Int32.toBitVec_and, BitVec.getLsbD_and]
  have e2 : ib (zxor x (-1)) k = (ib x k ^^ ib (-1) k) := by
    unfold ib zxor; rw [Int32.ofInt_toInt, Int32.toBitVec_xor, BitVec.getLsbD_xor]
  rw [e1, e2, ib_m1 ⟨k, hk⟩, ib_sub1 x hk]
  by_cases c : ∃ j, j < k ∧ ib x j = true
  · have c2 : ¬ ∀ j, j < k → ib x j = false := by
      obtain ⟨j, h1, h2⟩ := c
      intro q; rw [q j h1] at h2; cases h2
    rw [decide_eq_true c, decide_eq_false c2]; cases ib x k <;> rfl
  · have c2 : ∀ j, j < k → ib x j = false := by
      intro j hj
      cases e : ib x j
      · rfl
      · exact absurd ⟨j, hj, e⟩ c
    rw [decide_eq_false c, decide_eq_true c2]; cases ib x k <;> rfl
theorem ib_pow : ∀ k : Fin 32, ∀ i : Fin 32, ib (2 ^ k.val - 1) i.val = decide (i.val < k.val) := by decide +kernel
theorem pw_r : ∀ k : Fin 32, r32 (2 ^ k.val - 1) := by unfold r32; decide +kernel
/-- of a number that is not 0: the lowest bit k gives 2^k - 1 -/
theorem zntz {x : Int} {k : Nat} (hk : k < 32) (h1 : ib x k = true) (h2 : ∀ j, j < k → ib x j = false) : zand (zxor x (-1)) (w32 (x - 1)) = 2 ^ k - 1 := by
  have e : Int32.ofInt (zand (zxor x (-1)) (w32 (x - 1))) = Int32.ofInt (2 ^ k - 1) := by
    refine Int32.toBitVec_inj.mp (BitVec.eq_of_getLsbD_eq (fun i hi => ?_))
    have a := ib_ntz (x := x) hi
    have b := ib_pow ⟨k, hk⟩ ⟨i, hi⟩
    unfold ib at a b
    rw [a, b]
    show (!ib x i && decide (∀ j, j < i → ib x j = false)) = decide (i < k)
    by_cases c : i < k
    · rw [h2 i c, decide_eq_true (by exact fun j hj => h2 j (by omega)), decide_eq_true c]; rfl
    · rw [decide_eq_false c]
      by_cases c2 : i = k
      · subst c2; rw [h1]; rfl
      · rw [decide_eq_false (by exact fun q => by have := q k (by omega); rw [h1] at this; cases this)]; simp
  have r1 : r32 (zand (zxor x (-1)) (w32 (x - 1))) := r32_of _
  have := congrArg Int32.toInt e
  rwa [t32 r1, t32 (pw_r ⟨k, hk⟩)] at this
def ntzJ (z n : Int) : Int :=
  let a : Int × Int := if z ≤ 256 then (z, n) else (zushr z 8, w32 (n + 8))
  let b : Int × Int := if a.1 ≤ 16 then a else (zushr a.1 4, w32 (a.2 + 4))
  if b.1 ≤ 4 then w32 (b.2 + zushr b.1 1) else w32 (w32 (b.2 + 2) + zushr (zushr b.1 2) 1)
def ntzf (z : Int) : Int := if 0 < z then (if z ≤ 65536 then ntzJ z 1 else ntzJ (zushr z 16) (w32 (1 + 16))) else zand z 32
theorem ntzf_pow : ∀ k : Fin 32, ntzf (2 ^ k.val - 1) = (k.val : Int) := by decide +kernel
theorem ntzJ_ok {z n : Int} {h : zH} {Q : Int → zH → Prop} (q : Q (ntzJ z n) h) : P_JI_numberOfTrailingZeros_J34 z n h Q := by
  unfold P_JI_numberOfTrailingZeros_J34 P_JI_numberOfTrailingZeros_J49 P_JI_numberOfTrailingZeros_J62
  unfold ntzJ at q
  simp only [forall_eq]
  by_cases c1 : z ≤ 256
  · simp only [if_pos c1] at q ⊢
    by_cases c2 : z ≤ 16
    · simp only [if_pos c2] at q ⊢
      by_cases c3 : z ≤ 4
      · simp only [if_pos c3] at q ⊢; exact q
      · simp only [if_neg c3] at q ⊢; exact q
    · simp only [if_neg c2] at q ⊢
      by_cases c3 : zushr z 4 ≤ 4
      · simp only [if_pos c3] at q ⊢; exact q
      · simp only [if_neg c3] at q ⊢; exact q
  · simp only [if_neg c1] at q ⊢
    by_cases c2 : zushr z 8 ≤ 16
    · simp only [if_pos c2] at q ⊢
      by_cases c3 : zushr z 8 ≤ 4
      · simp only [if_pos c3] at q ⊢; exact q
      · simp only [if_neg c3] at q ⊢; exact q
    · simp only [if_neg c2] at q ⊢
      by_cases c3 : zushr (zushr z 8) 4 ≤ 4
      · simp only [if_pos c3] at q ⊢; exact q
      · simp only [if_neg c3] at q ⊢; exact q
theorem ntzI_ok {x : Int} {k : Nat} (hk : k < 32) (h1 : ib x k = true) (h2 : ∀ j, j < k → ib x j = false) {h : zH} {Q : Int → zH → Prop} (q : Q k h) : P_JI_numberOfTrailingZeros x h Q := by
  unfold P_JI_numberOfTrailingZeros
  simp only [forall_eq]
  rw [zntz hk h1 h2]
  have e := ntzf_pow ⟨k, hk⟩
  have e : ntzf (2 ^ k - 1) = (k : Int) := e
  rw [← e] at q
  unfold ntzf at q
  refine zif_i (fun c => ?_) (fun c => ?_)
  · rw [if_pos c] at q
    refine zif_i (fun c2 => ?_) (fun c2 => ?_)
    · rw [if_pos c2] at q; exact ntzJ_ok q
    · rw [if_neg c2] at q; exact ntzJ_ok q
  · rw [if_neg c] at q; exact q
theorem lo32 (x : Int) : (BitVec.ofInt 64 x).setWidth 32 = BitVec.ofInt 32 x := by
  apply BitVec.eq_of_toNat_eq
  rw [BitVec.toNat_setWidth, BitVec.toNat_ofInt, BitVec.toNat_ofInt]
  simp only [Nat.reducePow]
  omega
theorem ib_lo {x : Int} {k : Nat} (hk : k < 32) : ib (w32 x) k = hb x k := by
  unfold ib hb; rw [o32]
  show (BitVec.ofInt 32 x).getLsbD k = (BitVec.ofInt 64 x).getLsbD k
  rw [← lo32, BitVec.getLsbD_setWidth, decide_eq_true hk, Bool.true_and]
theorem hb_ushr32 {x : Int} {k : Nat} : hb (zlushr x 32) k = hb x (32 + k) := by
  unfold hb zlushr
  rw [Int64.ofInt_toInt]
  show ((Int64.ofInt x).toBitVec >>> ((((Int32.ofInt 32).toInt64.toUInt64 &&& Int64.toUInt64 63).toBitVec) % 64)).getLsbD k = _
  have e : ((((Int32.ofInt 32).toInt64.toUInt64 &&& Int64.toUInt64 63).toBitVec) % 64) = 32#64 := by decide +kernel
  rw [e, BitVec.ushiftRight_eq', BitVec.getLsbD_ushiftRight]
  rfl
/-- the place of the lowest bit -/
theorem ntz_ok {x : Int} {k : Nat} (hk : k < 64) (h1 : hb x k = true) (h2 : ∀ j, j < k → hb x j = false) {h : zH} {Q : Int → zH → Prop} (q : Q k h) : P_JL_numberOfTrailingZeros x h Q := by
  unfold P_JL_numberOfTrailingZeros
  simp only [forall_eq]
  by_cases c : k < 32
  · have n0 : ¬ w32 x = 0 := by
      intro e
      have := ib_lo (x := x) c
      rw [e, h1] at this
      have z : ib 0 k = false := BitVec.getLsbD_zero
      rw [z] at this; cases this
    rw [if_neg n0]
    exact ntzI_ok c (by rw [ib_lo c]; exact h1) (fun j hj => by rw [ib_lo (by omega)]; exact h2 j hj) q
  · have e0 : w32 x = 0 := by
      have e : Int32.ofInt (w32 x) = Int32.ofInt 0 := by
        refine Int32.toBitVec_inj.mp (BitVec.eq_of_getLsbD_eq (fun i hi => ?_))
        have a := ib_lo (x := x) hi
        unfold ib at a
        rw [a, h2 i (by omega)]; exact (BitVec.getLsbD_zero (w := 32) (i := i)).symm
      have := congrArg Int32.toInt e
      rw [t32 (w32_r x)] at this
      rw [this]; decide
    rw [if_pos e0]
    refine ntzI_ok (k := k - 32) (by omega) ?_ (fun j hj => ?_) ?_
    · rw [ib_lo (by omega), hb_ushr32, show 32 + (k - 32) = k by omega]; exact h1
    · rw [ib_lo (by omega), hb_ushr32]; exact h2 _ (by omega)
    · have e : w32 (32 + ((k - 32 : Nat) : Int)) = (k : Int) := by rw [w32_of (by omega) (by omega)]; omega
      rw [e]; exact q
