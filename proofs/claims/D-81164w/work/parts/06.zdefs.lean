/-! Z: an abstract heap of Ints; values: (kind, payload): 0 int, 1 long, 2 reference (0: null), 3 nothing is known -/
abbrev zA : Type := Nat × Int
abbrev zI (x : Int) : zA := (0, x)
abbrev zJ (x : Int) : zA := (1, x)
abbrev zR (x : Int) : zA := (2, x)
abbrev zU : zA := (3, 0)
/-- (next address, slots so far), tags, lengths, contents -/
abbrev zH : Type := (Int × Int) × (Int → Int) × (Int → Int) × (Int → Int → Int)
def zn (h : zH) : Int := h.1.1
def zs (h : zH) : Int := h.1.2
def zt (h : zH) (a : Int) : Int := h.2.1 a
def zl (h : zH) (a : Int) : Int := h.2.2.1 a
def zd (h : zH) (a i : Int) : Int := h.2.2.2 a i
/-- a write -/
def zw (h : zH) (a i v : Int) : zH := (h.1, h.2.1, h.2.2.1, fun b j => if b = a ∧ j = i then v else h.2.2.2 b j)
/-- a new cell: its tag, its length, its slots -/
def zal (h : zH) (t n m : Int) : zH := ((h.1.1 + 1, h.1.2 + m), (fun b => if b = h.1.1 then t else h.2.1 b), (fun b => if b = h.1.1 then n else h.2.2.1 b), (fun b j => if b = h.1.1 then 0 else h.2.2.2 b j))
/-- contents anew, all else as it was -/
def zD (h : zH) (d : Int → Int → Int) : zH := (h.1, h.2.1, h.2.2.1, d)
theorem zn_zw (h : zH) (a i v : Int) : zn (zw h a i v) = zn h := rfl
theorem zs_zw (h : zH) (a i v : Int) : zs (zw h a i v) = zs h := rfl
theorem zt_zw (h : zH) (a i v b : Int) : zt (zw h a i v) b = zt h b := rfl
theorem zl_zw (h : zH) (a i v b : Int) : zl (zw h a i v) b = zl h b := rfl
theorem zd_zw (h : zH) (a i v b j : Int) : zd (zw h a i v) b j = if b = a ∧ j = i then v else zd h b j := rfl
theorem zn_zal (h : zH) (t n m : Int) : zn (zal h t n m) = zn h + 1 := rfl
theorem zs_zal (h : zH) (t n m : Int) : zs (zal h t n m) = zs h + m := rfl
theorem zt_zal (h : zH) (t n m b : Int) : zt (zal h t n m) b = if b = zn h then t else zt h b := rfl
theorem zl_zal (h : zH) (t n m b : Int) : zl (zal h t n m) b = if b = zn h then n else zl h b := rfl
theorem zd_zal (h : zH) (t n m b j : Int) : zd (zal h t n m) b j = if b = zn h then 0 else zd h b j := rfl
/-! numbers of 32 and 64 bits -/
def w32 (x : Int) : Int := (Int32.ofInt x).toInt
def w64 (x : Int) : Int := (Int64.ofInt x).toInt
def r32 (x : Int) : Prop := -2147483648 ≤ x ∧ x ≤ 2147483647
def r64 (x : Int) : Prop := -9223372036854775808 ≤ x ∧ x ≤ 9223372036854775807
theorem r32_of (x : Int32) : r32 x.toInt := by
  have h1 := x.toInt_lt
  have h2 := x.le_toInt
  exact ⟨by omega, by omega⟩
theorem r64_of (x : Int64) : r64 x.toInt := by
  have h1 := x.toInt_lt
  have h2 := x.le_toInt
  exact ⟨by omega, by omega⟩
theorem t32 {x : Int} (h : r32 x) : (Int32.ofInt x).toInt = x := Int32.toInt_ofInt_of_le (by have := h.1; omega) (by have := h.2; omega)
theorem t64 {x : Int} (h : r64 x) : (Int64.ofInt x).toInt = x := Int64.toInt_ofInt_of_le (by have := h.1; omega) (by have := h.2; omega)
theorem w32_of {x : Int} (h1 : -2147483648 ≤ x) (h2 : x ≤ 2147483647) : w32 x = x := t32 ⟨h1, h2⟩
theorem w64_of {x : Int} (h1 : -9223372036854775808 ≤ x) (h2 : x ≤ 9223372036854775807) : w64 x = x := t64 ⟨h1, h2⟩
theorem w32_r (x : Int) : r32 (w32 x) := r32_of _
theorem w64_r (x : Int) : r64 (w64 x) := r64_of _
theorem o32 (x : Int) : Int32.ofInt (w32 x) = Int32.ofInt x := Int32.ofInt_toInt _
theorem o64 (x : Int) : Int64.ofInt (w64 x) = Int64.ofInt x := Int64.ofInt_toInt _
theorem l32 {x y : Int} (hx : r32 x) (hy : r32 y) : Int32.ofInt x < Int32.ofInt y ↔ x < y := by rw [Int32.lt_iff_toInt_lt, t32 hx, t32 hy]
theorem e32 {x y : Int} (hx : r32 x) (hy : r32 y) : Int32.ofInt x = Int32.ofInt y ↔ x = y := by rw [← Int32.toInt_inj, t32 hx, t32 hy]
theorem le32 {x y : Int} (hx : r32 x) (hy : r32 y) : Int32.ofInt x ≤ Int32.ofInt y ↔ x ≤ y := by rw [Int32.le_iff_toInt_le, t32 hx, t32 hy]
theorem l64 {x y : Int} (hx : r64 x) (hy : r64 y) : Int64.ofInt x < Int64.ofInt y ↔ x < y := by rw [Int64.lt_iff_toInt_lt, t64 hx, t64 hy]
theorem e64 {x y : Int} (hx : r64 x) (hy : r64 y) : Int64.ofInt x = Int64.ofInt y ↔ x = y := by rw [← Int64.toInt_inj, t64 hx, t64 hy]
/-- bits of ints -/
def zand (x y : Int) : Int := (Int32.ofInt x &&& Int32.ofInt y).toInt
def zor (x y : Int) : Int := (Int32.ofInt x ||| Int32.ofInt y).toInt
def zxor (x y : Int) : Int := (Int32.ofInt x ^^^ Int32.ofInt y).toInt
def zshl (x y : Int) : Int := (Int32.ofInt x <<< (Int32.ofInt y &&& 31)).toInt
def zshr (x y : Int) : Int := (Int32.ofInt x >>> (Int32.ofInt y &&& 31)).toInt
def zushr (x y : Int) : Int := ((Int32.ofInt x).toUInt32 >>> ((Int32.ofInt y).toUInt32 &&& Int32.toUInt32 31)).toInt32.toInt
def zland (x y : Int) : Int := (Int64.ofInt x &&& Int64.ofInt y).toInt
def zlor (x y : Int) : Int := (Int64.ofInt x ||| Int64.ofInt y).toInt
def zlxor (x y : Int) : Int := (Int64.ofInt x ^^^ Int64.ofInt y).toInt
def zlshl (x y : Int) : Int := (Int64.ofInt x <<< ((Int32.ofInt y).toInt64 &&& 63)).toInt
def zlshr (x y : Int) : Int := (Int64.ofInt x >>> ((Int32.ofInt y).toInt64 &&& 63)).toInt
def zlushr (x y : Int) : Int := ((Int64.ofInt x).toUInt64 >>> ((Int32.ofInt y).toInt64.toUInt64 &&& Int64.toUInt64 63)).toInt64.toInt
def zi2b (x : Int) : Int := (Int32.ofInt x).toInt8.toInt32.toInt
def zi2c (x : Int) : Int := ((Int32.ofInt x).toUInt32 % 65536).toInt32.toInt
/-- what a boolean field or array keeps -/
def zbit (x : Int) : Int := (vp_nar .boolean (Int32.ofInt x)).toInt
def zbyte (x : Int) : Int := (vp_nar .byte (Int32.ofInt x)).toInt
def zcmp (x y : Int) : Int := if x < y then -1 else if x = y then 0 else 1
/-! the classes -/
abbrev zCl : List vw_C := [(RX0, TX0, 42), (RX1, TX1, 58), (RX2, TX2, 4), (RX3, TX3, 116), (RX4, TX4, 3), (RX6, TX6, 6), (RX7, TX7, 8), (RX8, TX8, 9), (RX9, TX9, 7), (RX10, TX10, 5), (RX11, TX11, 4), (RX12, TX12, 7), (RX13, TX13, 9), (RJ4, TJ4, 2)]
/-- tags of classes: their places; of arrays: 50 int, 51 byte, 52 boolean, 53 long, 60 Name, 61 int[], 62 Rule, 63 Part; from 70 on: a cell of which nothing is read -/
def zN (t : Nat) : Nat := (zCl.getD t (RX0, TX0, 0)).2.2
def zTy (t : Nat) : Nat → FieldType := match t with
  | 0 => tyX0 | 1 => tyX1 | 2 => tyX2 | 3 => tyX3 | 4 => tyX4 | 5 => tyX6 | 6 => tyX7 | 7 => tyX8 | 8 => tyX9 | 9 => tyX10 | 10 => tyX11 | 11 => tyX12 | 12 => tyX13 | _ => tyJ4
def zkf (ty : FieldType) : Nat := match ty with
  | .long => 1 | .object _ => 2 | .array _ => 2 | _ => 0
/-- the kind of a place -/
def zk (t i : Int) : Nat := if t = 53 then 1 else if 60 ≤ t ∧ t < 70 then 2 else if 50 ≤ t then 0 else zkf (zTy t.toNat i.toNat)
/-- an array's type -/
def zAT (t : Int) : FieldType := if t = 50 then .int else if t = 51 then .byte else if t = 52 then .boolean else if t = 53 then .long else if t = 60 then .object "ClauseCourt$Name" else if t = 61 then .array .int else if t = 62 then .object "ClauseCourt$Rule" else .object "ClauseCourt$Part"
def zok (h : zH) (v : zA) : Prop := match v.1 with
  | 0 => r32 v.2 | 1 => r64 v.2 | 2 => 0 ≤ v.2 ∧ v.2 < zn h | _ => True
theorem zok_i {h : zH} {x : Int} : zok h (zI x) ↔ r32 x := Iff.rfl
theorem zok_l {h : zH} {x : Int} : zok h (zJ x) ↔ r64 x := Iff.rfl
theorem zok_a {h : zH} {x : Int} : zok h (zR x) ↔ 0 ≤ x ∧ x < zn h := Iff.rfl
/-- a heap in order -/
def zwf (h : zH) : Prop := (∀ a i, zok h (zk (zt h a) i, zd h a i)) ∧ (∀ a, a < 14 ∨ zn h ≤ a → zt h a < 0 ∨ 70 ≤ zt h a) ∧ (∀ a, 50 ≤ zt h a → 0 ≤ zl h a ∧ zl h a ≤ 2147483647) ∧ 14 ≤ zn h
/-! the static layout: 14 the court, 25 and 58 its engines, 91 its truth, 101 the model; their arrays behind them; from 175 on what is made later -/
def zSL : List (Int × Int) := [(0, 0), (60, 300), (61, 40), (51, 60), (50, 100), (51, 14000), (50, 6000), (50, 700), (50, 2500), (50, 501), (62, 60), (1, 0), (50, 1364), (50, 1364), (50, 1364), (50, 1364), (52, 1364), (53, 22), (50, 12080), (50, 12080), (50, 12080), (50, 602), (50, 301), (50, 301), (50, 301), (50, 301), (53, 301), (53, 2408), (50, 300), (50, 322), (53, 6400), (50, 800), (50, 20), (50, 5), (53, 8), (50, 20), (52, 301), (52, 301), (52, 301), (50, 300), (53, 8), (50, 301), (50, 800), (50, 301), (1, 0), (50, 1364), (50, 1364), (50, 1364), (50, 1364), (52, 1364), (53, 22), (50, 12080), (50, 12080), (50, 12080), (50, 602), (50, 301), (50, 301), (50, 301), (50, 301), (53, 301), (53, 2408), (50, 300), (50, 322), (53, 6400), (50, 800), (50, 20), (50, 5), (53, 8), (50, 20), (52, 301), (52, 301), (52, 301), (50, 300), (53, 8), (50, 301), (50, 800), (50, 301), (2, 0), (51, 301), (50, 20), (50, 1280), (50, 65), (52, 500), (50, 8000), (50, 801), (50, 1280), (50, 65), (3, 0), (50, 301), (52, 301), (50, 40), (50, 480), (50, 60), (50, 16384), (50, 60), (50, 60), (52, 60), (50, 60), (50, 1800), (50, 60), (50, 60), (50, 3600), (50, 60), (50, 3600), (50, 60), (50, 501), (50, 2600), (50, 100), (50, 20), (50, 130), (50, 2600), (50, 12), (50, 40), (50, 40), (50, 14), (50, 14), (50, 60), (50, 60), (50, 60), (50, 60), (52, 60), (50, 26), (50, 301), (50, 2), (50, 2), (52, 1000), (50, 40), (50, 2), (50, 2), (50, 602), (50, 602), (50, 602), (50, 602), (53, 602), (53, 2), (50, 600), (50, 2), (50, 2), (50, 1602), (50, 16100), (50, 2), (50, 2), (52, 1600), (50, 1600), (53, 12800), (53, 4816), (53, 8), (50, 2), (50, 2), (50, 20), (50, 5), (50, 500), (50, 20), (50, 320), (52, 301), (52, 301), (50, 320), (52, 800), (50, 801), (50, 8100), (50, 301)]
def zstag (a : Int) : Int := (zSL.getD (a - 14).toNat (0, 0)).1
def zslen (a : Int) : Int := (zSL.getD (a - 14).toNat (0, 0)).2
def zFin : List (Int × Int × Int) := [(14, 1, 15), (14, 4, 16), (14, 5, 17), (14, 7, 18), (14, 9, 19), (14, 11, 20), (14, 12, 21), (14, 16, 22), (14, 17, 23), (14, 19, 24), (14, 21, 25), (14, 22, 58), (14, 23, 91), (14, 24, 93), (14, 31, 94), (14, 32, 95), (14, 34, 96), (14, 35, 97), (14, 36, 98), (14, 39, 99), (14, 40, 100), (25, 0, 26), (25, 1, 27), (25, 2, 28), (25, 3, 29), (25, 4, 30), (25, 5, 31), (25, 6, 32), (25, 7, 33), (25, 8, 34), (25, 9, 35), (25, 12, 36), (25, 13, 37), (25, 14, 38), (25, 15, 39), (25, 16, 40), (25, 17, 41), (25, 18, 42), (25, 19, 43), (25, 23, 44), (25, 24, 45), (25, 27, 46), (25, 41, 47), (25, 43, 48), (25, 44, 49), (25, 46, 50), (25, 47, 51), (25, 48, 52), (25, 49, 53), (25, 51, 54), (25, 53, 55), (25, 55, 56), (25, 56, 57), (25, 57, 14), (58, 0, 59), (58, 1, 60), (58, 2, 61), (58, 3, 62), (58, 4, 63), (58, 5, 64), (58, 6, 65), (58, 7, 66), (58, 8, 67), (58, 9, 68), (58, 12, 69), (58, 13, 70), (58, 14, 71), (58, 15, 72), (58, 16, 73), (58, 17, 74), (58, 18, 75), (58, 19, 76), (58, 23, 77), (58, 24, 78), (58, 27, 79), (58, 41, 80), (58, 43, 81), (58, 44, 82), (58, 46, 83), (58, 47, 84), (58, 48, 85), (58, 49, 86), (58, 51, 87), (58, 53, 88), (58, 55, 89), (58, 56, 90), (58, 57, 14), (91, 0, 92), (101, 2, 102), (101, 3, 103), (101, 5, 104), (101, 6, 105), (101, 7, 106), (101, 9, 107), (101, 12, 108), (101, 13, 109), (101, 14, 110), (101, 15, 111), (101, 16, 112), (101, 17, 113), (101, 18, 114), (101, 19, 115), (101, 20, 116), (101, 21, 117), (101, 22, 118), (101, 24, 119), (101, 25, 120), (101, 26, 121), (101, 28, 122), (101, 33, 123), (101, 34, 124), (101, 35, 125), (101, 39, 126), (101, 41, 127), (101, 43, 128), (101, 44, 129), (101, 45, 130), (101, 47, 131), (101, 48, 132), (101, 53, 133), (101, 55, 134), (101, 56, 135), (101, 60, 136), (101, 61, 137), (101, 62, 138), (101, 63, 139), (101, 64, 140), (101, 65, 141), (101, 68, 142), (101, 69, 143), (101, 70, 144), (101, 71, 145), (101, 72, 146), (101, 73, 147), (101, 74, 148), (101, 75, 149), (101, 76, 150), (101, 77, 151), (101, 78, 152), (101, 79, 153), (101, 80, 154), (101, 81, 155), (101, 82, 156), (101, 83, 157), (101, 84, 158), (101, 85, 159), (101, 86, 160), (101, 87, 161), (101, 88, 162), (101, 90, 163), (101, 92, 164), (101, 93, 165), (101, 95, 166), (101, 101, 167), (101, 102, 168), (101, 103, 169), (101, 105, 170), (101, 107, 171), (101, 109, 172), (101, 110, 173), (101, 112, 174)]
def zSt (h : zH) : Prop := 175 ≤ zn h ∧ (∀ a, 14 ≤ a → a < 175 → zt h a = zstag a ∧ zl h a = zslen a) ∧ ∀ q ∈ zFin, zd h q.1 q.2.1 = q.2.2
/-- how a heap goes on: cells stay, with their tags and lengths; what is final in the static layout stays -/
def zle (h h' : zH) : Prop := zn h ≤ zn h' ∧ zs h ≤ zs h' ∧ (∀ a, a < zn h → zt h' a = zt h a ∧ zl h' a = zl h a) ∧ (175 ≤ zn h → ∀ q ∈ zFin, zd h' q.1 q.2.1 = zd h q.1 q.2.1)
theorem zle.rf (h : zH) : zle h h := ⟨Int.le_refl _, Int.le_refl _, fun _ _ => ⟨rfl, rfl⟩, fun _ _ _ => rfl⟩
theorem zle.tr {h h' h'' : zH} (p : zle h h') (q : zle h' h'') : zle h h'' := by
  obtain ⟨p1, p2, p3, p4⟩ := p
  obtain ⟨q1, q2, q3, q4⟩ := q
  refine ⟨Int.le_trans p1 q1, Int.le_trans p2 q2, fun a ha => ?_, fun hn w hw => ?_⟩
  · have := q3 a (by omega)
    have := p3 a ha
    exact ⟨by omega, by omega⟩
  · rw [q4 (by omega) w hw, p4 hn w hw]
theorem zSt.le {h h' : zH} (p : zSt h) (q : zle h h') : zSt h' := by
  obtain ⟨p1, p2, p3⟩ := p
  obtain ⟨q1, q2, q3, q4⟩ := q
  refine ⟨by omega, fun a h1 h2 => ?_, fun w hw => ?_⟩
  · have := q3 a (by omega)
    have := p2 a h1 h2
    exact ⟨by omega, by omega⟩
  · rw [q4 p1 w hw, p3 w hw]
theorem zFin_tag : ∀ q ∈ zFin, 14 ≤ q.1 ∧ q.1 < 175 ∧ 0 ≤ zstag q.1 ∧ zstag q.1 < 4 ∧ ((zCl.getD (zstag q.1).toNat (RX0, TX0, 0)).2.1 q.2.1.toNat).2.2.2 = true := by decide +kernel
theorem zok.le {h h' : zH} {v : zA} (p : zok h v) (q : zn h ≤ zn h') : zok h' v := by
  obtain ⟨k, x⟩ := v
  match k with
  | 0 => exact p
  | 1 => exact p
  | 2 => exact ⟨p.1, Int.lt_of_lt_of_le p.2 q⟩
  | _ + 3 => trivial
/-- a write at a place of its kind -/
theorem zwf.w {h : zH} (p : zwf h) {a i v : Int} (q : zok h (zk (zt h a) i, v)) : zwf (zw h a i v) := by
  obtain ⟨p1, p2, p3, p4⟩ := p
  refine ⟨fun b j => ?_, p2, p3, p4⟩
  rw [zt_zw, zd_zw]
  by_cases e : b = a ∧ j = i
  · rw [if_pos e, e.1, e.2]
    exact q
  · rw [if_neg e]
    exact p1 b j
theorem zk_zero (h : zH) (hn : 1 ≤ zn h) (k : Nat) : zok h (k, 0) := by
  match k with
  | 0 => exact ⟨by decide, by decide⟩
  | 1 => exact ⟨by decide, by decide⟩
  | 2 => exact ⟨Int.le_refl _, by show (0 : Int) < zn h; omega⟩
  | _ + 3 => trivial
theorem zwf.al {h : zH} (p : zwf h) {t n m : Int} (ht : 0 ≤ n ∧ n ≤ 2147483647) : zwf (zal h t n m) := by
  obtain ⟨p1, p2, p3, p4⟩ := p
  refine ⟨fun b j => ?_, fun a ha => ?_, fun a ha => ?_, by rw [zn_zal]; omega⟩
  · rw [zt_zal, zd_zal]
    by_cases e : b = zn h
    · rw [if_pos e, if_pos e]
      exact zk_zero (zal h t n m) (by rw [zn_zal]; omega) _
    · rw [if_neg e, if_neg e]
      exact (p1 b j).le (by rw [zn_zal]; omega)
  · rw [zn_zal] at ha
    rw [zt_zal, if_neg (by omega)]
    exact p2 a (by omega)
  · rw [zt_zal] at ha
    rw [zl_zal]
    by_cases e : a = zn h
    · rw [if_pos e]; exact ht
    · rw [if_neg e] at ha ⊢; exact p3 a ha
theorem zwf.ad {h : zH} (p : zwf h) {a : Int} (q : 0 ≤ zt h a) (q2 : zt h a < 70) : 14 ≤ a ∧ a < zn h := by
  rcases Int.lt_or_le a 14 with c | c
  · have := p.2.1 a (Or.inl c); omega
  · rcases Int.lt_or_le a (zn h) with d | d
    · exact ⟨c, d⟩
    · have := p.2.1 a (Or.inr d); omega
/-- writes that leave what is final -/
theorem zle.w {h : zH} {a i v : Int} (hf : 175 ≤ zn h → ∀ q ∈ zFin, ¬ (q.1 = a ∧ q.2.1 = i)) : zle h (zw h a i v) :=
  ⟨Int.le_refl _, Int.le_refl _, fun _ _ => ⟨rfl, rfl⟩, fun hn q hq => by rw [zd_zw, if_neg (hf hn q hq)]⟩
theorem zle.al {h : zH} {t n m : Int} (hm : 0 ≤ m) : zle h (zal h t n m) := by
  refine ⟨by rw [zn_zal]; omega, by rw [zs_zal]; omega, fun a ha => ?_, fun hn q hq => ?_⟩
  · rw [zt_zal, zl_zal, if_neg (by omega), if_neg (by omega)]; exact ⟨rfl, rfl⟩
  · obtain ⟨h1, h2, -⟩ := zFin_tag q hq
    rw [zd_zal, if_neg (by omega)]
