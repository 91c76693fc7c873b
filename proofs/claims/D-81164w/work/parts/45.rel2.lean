/-! the further groups of the relation; each with its rule of congruence (printed by mk_rel.py) -/
def R4 (e q : Int) (h m : zH) : Prop := (∀ n, 1 ≤ n → n ≤ zd h e 11 → zd h (e + 14) n = zd m 146 (301 * q + n) ∧ zd h (e + 15) n = zd m 147 (301 * q + n) ∧ 0 ≤ zd h (e + 15) n ∧ zd h (e + 15) n ≤ 1000000000000) ∧ zd m 146 (301 * q) = 0 ∧ zd h e 22 = zd m 148 q ∧ (1 ≤ zd h e 22 ∧ zd h e 22 ≤ 1200000000000)
def R5 (e q : Int) (h m : zH) : Prop := (zd h e 25 = zd m 154 q ∧ 0 ≤ zd h e 25 ∧ zd h e 25 ≤ 800) ∧ zd h e 26 = zd m 152 (801 * q + zd h e 25) ∧ zd m 152 (801 * q) = 0 ∧ (∀ k, 0 ≤ k → k < zd h e 25 → zd m 152 (801 * q + k) ≤ zd m 152 (801 * q + k + 1)) ∧ zd m 152 (801 * q + zd h e 25) ≤ 8000 ∧ (0 ≤ zd m 155 q ∧ zd m 155 q ≤ zd h e 25) ∧ (∀ k, 0 ≤ k → k < zd m 155 q → zd h (e + 20) k = zd m 157 (800 * q + k)) ∧ (∀ k, 0 ≤ k → k < zd h e 25 → (0 ≤ zd h (e + 1) (564 + k) ∧ zd h (e + 1) (564 + k) + zd h (e + 2) (564 + k) ≤ zd h e 10) ∧ zd h (e + 2) (564 + k) = zd m 152 (801 * q + k + 1) - zd m 152 (801 * q + k) ∧ ∀ i, 0 ≤ i → i < zd h (e + 2) (564 + k) → zd h (e + 7) (zd h (e + 1) (564 + k) + i) = zd m 153 (8050 * q + zd m 152 (801 * q + k) + i) ∧ eit (zd h e 11) (zd h (e + 7) (zd h (e + 1) (564 + k) + i))) ∧ zd h e 37 = zct (zd h (e + 5)) 1 564 (zd m 155 q).toNat
def R6 (e q : Int) (h m : zH) : Prop := (∀ n, 1 ≤ n → n ≤ zd h e 11 → zd h (e + 11) n ≠ 0 → zd h (e + 12) n = 0 → ∀ w b, 0 ≤ w → w < 8 → b < 64 → hb (zd h (e + 16) (n * 8 + w)) b = hb (zd m 159 (8 * (301 * q + n) + w)) b) ∧ ∀ k, 0 ≤ k → k < zd h e 25 → ∀ w b, 0 ≤ w → w < 8 → b < 64 → hb (zd h (e + 19) (k * 8 + w)) b = hb (zd m 158 (8 * (800 * q + k) + w)) b
def R7 (e q : Int) (h m : zH) : Prop := zd h e 31 = zd m 101 89 ∧ zd h e 30 = zd m 163 (10 * q + 1) ∧ zd h e 32 = zd m 163 (10 * q + 2) ∧ zd h e 33 = zd m 163 (10 * q + 3) ∧ zd h e 34 = zd m 163 (10 * q + 4) ∧ zd h e 35 = zd m 163 (10 * q + 5) ∧ zd h e 36 = zd m 163 (10 * q + 6) ∧ zd h e 38 = zd m 163 (10 * q + 9) ∧ zd h e 39 = zd m 161 q ∧ zd h e 40 = zd m 162 q
def R8 (e q : Int) (h m : zH) : Prop := (zd h e 28 = zd m 141 q ∧ 0 ≤ zd h e 28 ∧ zd h e 28 ≤ 20) ∧ ∀ k, 0 ≤ k → k < zd h e 28 → zd h (e + 21) k = zd m 140 (20 * q + k) ∧ eit (zd h e 11) (zd h (e + 21) k)
def R9 (e q : Int) (h m : zH) : Prop := zd h 14 26 = zd m 101 30 ∧ zd h 14 27 = zd m 101 31 ∧ (0 ≤ zd h 14 26 ∧ zd h 14 26 ≤ 100) ∧ (0 ≤ zd h 14 27 ∧ zd h 14 27 ≤ 800)
theorem R4.cg {e q : Int} {h m h' m' : zH} (p : R4 e q h m) (ca : ∀ k, k ∈ ([14, 15] : List Int) → zd h' (e + k) = zd h (e + k)) (cf : ∀ k, k ∈ ([11, 22] : List Int) → zd h' e k = zd h e k) (cb : ∀ k, k ∈ ([146, 147, 148] : List Int) → zd m' k = zd m k) : R4 e q h' m' := by
  unfold R4 at *
  rw [ca 14 (by decide), ca 15 (by decide), cf 11 (by decide), cf 22 (by decide), cb 146 (by decide), cb 147 (by decide), cb 148 (by decide)]
  exact p
theorem R5.cg {e q : Int} {h m h' m' : zH} (p : R5 e q h m) (ca : ∀ k, k ∈ ([1, 2, 5, 7, 20] : List Int) → zd h' (e + k) = zd h (e + k)) (cf : ∀ k, k ∈ ([10, 11, 25, 26, 37] : List Int) → zd h' e k = zd h e k) (cb : ∀ k, k ∈ ([152, 153, 154, 155, 157] : List Int) → zd m' k = zd m k) : R5 e q h' m' := by
  unfold R5 at *
  rw [ca 1 (by decide), ca 2 (by decide), ca 5 (by decide), ca 7 (by decide), ca 20 (by decide), cf 10 (by decide), cf 11 (by decide), cf 25 (by decide), cf 26 (by decide), cf 37 (by decide), cb 152 (by decide), cb 153 (by decide), cb 154 (by decide), cb 155 (by decide), cb 157 (by decide)]
  exact p
theorem R6.cg {e q : Int} {h m h' m' : zH} (p : R6 e q h m) (ca : ∀ k, k ∈ ([11, 12, 16, 19] : List Int) → zd h' (e + k) = zd h (e + k)) (cf : ∀ k, k ∈ ([11, 25] : List Int) → zd h' e k = zd h e k) (cb : ∀ k, k ∈ ([158, 159] : List Int) → zd m' k = zd m k) : R6 e q h' m' := by
  unfold R6 at *
  rw [ca 11 (by decide), ca 12 (by decide), ca 16 (by decide), ca 19 (by decide), cf 11 (by decide), cf 25 (by decide), cb 158 (by decide), cb 159 (by decide)]
  exact p
theorem R7.cg {e q : Int} {h m h' m' : zH} (p : R7 e q h m) (cf : ∀ k, k ∈ ([30, 31, 32, 33, 34, 35, 36, 38, 39, 40] : List Int) → zd h' e k = zd h e k) (cb : ∀ k, k ∈ ([161, 162, 163] : List Int) → zd m' k = zd m k) (cc : ∀ k, k ∈ ([89] : List Int) → zd m' 101 k = zd m 101 k) : R7 e q h' m' := by
  unfold R7 at *
  rw [cf 30 (by decide), cf 31 (by decide), cf 32 (by decide), cf 33 (by decide), cf 34 (by decide), cf 35 (by decide), cf 36 (by decide), cf 38 (by decide), cf 39 (by decide), cf 40 (by decide), cb 161 (by decide), cb 162 (by decide), cb 163 (by decide), cc 89 (by decide)]
  exact p
theorem R8.cg {e q : Int} {h m h' m' : zH} (p : R8 e q h m) (ca : ∀ k, k ∈ ([21] : List Int) → zd h' (e + k) = zd h (e + k)) (cf : ∀ k, k ∈ ([11, 28] : List Int) → zd h' e k = zd h e k) (cb : ∀ k, k ∈ ([140, 141] : List Int) → zd m' k = zd m k) : R8 e q h' m' := by
  unfold R8 at *
  rw [ca 21 (by decide), cf 11 (by decide), cf 28 (by decide), cb 140 (by decide), cb 141 (by decide)]
  exact p
theorem R9.cg {e q : Int} {h m h' m' : zH} (p : R9 e q h m) (cc : ∀ k, k ∈ ([30, 31] : List Int) → zd m' 101 k = zd m 101 k) (cg : ∀ k, k ∈ ([26, 27] : List Int) → zd h' 14 k = zd h 14 k) : R9 e q h' m' := by
  unfold R9 at *
  rw [cc 30 (by decide), cc 31 (by decide), cg 26 (by decide), cg 27 (by decide)]
  exact p
theorem R2.cg {e q : Int} {h m h' m' : zH} (p : R2 e q h m) (ca : ∀ k, k ∈ ([11, 12, 13, 17] : List Int) → zd h' (e + k) = zd h (e + k)) (cf : ∀ k, k ∈ ([11, 20, 21] : List Int) → zd h' e k = zd h e k) (cb : ∀ k, k ∈ ([137, 143, 144, 145, 149, 150, 151] : List Int) → zd m' k = zd m k) : R2 e q h' m' := by
  unfold R2 at *
  rw [ca 11 (by decide), ca 12 (by decide), ca 13 (by decide), ca 17 (by decide), cf 11 (by decide), cf 20 (by decide), cf 21 (by decide), cb 137 (by decide), cb 143 (by decide), cb 144 (by decide), cb 145 (by decide), cb 149 (by decide), cb 150 (by decide), cb 151 (by decide)]
  exact p
theorem R3.cg {e q : Int} {h m h' m' : zH} (p : R3 e q h m) (ca : ∀ k, k ∈ ([1, 2, 5, 7] : List Int) → zd h' (e + k) = zd h (e + k)) (cb : ∀ k, k ∈ ([119, 120, 123, 124, 138, 139, 152, 153, 155, 156] : List Int) → zd m' k = zd m k) (cc : ∀ k, k ∈ ([58, 66, 67] : List Int) → zd m' 101 k = zd m 101 k) : R3 e q h' m' := by
  unfold R3 rsim mlive msz mit at *
  rw [ca 1 (by decide), ca 2 (by decide), ca 5 (by decide), ca 7 (by decide), cb 119 (by decide), cb 120 (by decide), cb 123 (by decide), cb 124 (by decide), cb 138 (by decide), cb 139 (by decide), cb 152 (by decide), cb 153 (by decide), cb 155 (by decide), cb 156 (by decide), cc 58 (by decide), cc 66 (by decide), cc 67 (by decide)]
  exact p
