/-! Z: rows of single instructions: locals, stack, numbers, branches -/
def zpl (ad : Int → Nat) (ls : List zA) : List (Nat × Value) := (List.range ls.length).filterMap fun j => (ls[j]?).bind fun w => if w.1 < 3 then some (j, zc ad w) else none
theorem zpl_mem {ad : Int → Nat} {ls : List zA} {j : Nat} {w : zA} (h : ls[j]? = some w) (hw : w.1 < 3) : (j, zc ad w) ∈ zpl ad ls := by
  refine List.mem_filterMap.mpr ⟨j, List.mem_range.mpr (List.getElem?_eq_some_iff.mp h).1, ?_⟩
  rw [h]
  show (if w.1 < 3 then some (j, zc ad w) else none) = _
  rw [if_pos hw]
theorem zpl_of {ad : Int → Nat} {ls : List zA} {q : Nat × Value} (h : q ∈ zpl ad ls) : ∃ w : zA, ls[q.1]? = some w ∧ w.1 < 3 ∧ q.2 = zc ad w := by
  obtain ⟨j, -, hj⟩ := List.mem_filterMap.mp h
  cases hw : ls[j]? with
  | none => rw [hw] at hj; cases hj
  | some w =>
    rw [hw] at hj
    have hj : (if w.1 < 3 then some (j, zc ad w) else none) = some q := hj
    by_cases c : w.1 < 3
    · rw [if_pos c] at hj
      cases hj
      exact ⟨w, hw, c, rfl⟩
    · rw [if_neg c] at hj; cases hj
theorem zLs.has {g : zG} {ls : List zA} {nL : Nat} {LS : Array Slot} (h : zLs g ls nL LS) : lv_has LS nL (zpl g.2.2.1 ls) := by
  refine ⟨h.1, h.2.1, fun q hq => ?_⟩
  obtain ⟨w, h1, h2, h3⟩ := zpl_of hq
  rw [h3]
  exact h.2.2 _ _ h1 h2
theorem zcat (ad : Int → Nat) (w : zA) : (zc ad w).category = if w.1 = 1 then 2 else 1 := by
  obtain ⟨k, x⟩ := w
  match k with
  | 0 => rfl
  | 1 => rfl
  | k + 2 =>
    show (if x = 0 then Value.null else .ref (ad x)).category = _
    rw [if_neg (show ¬ (k + 2, x).1 = 1 by show ¬ k + 2 = 1; omega)]
    by_cases c : x = 0
    · rw [if_pos c]; rfl
    · rw [if_neg c]; rfl
/-- no long stands just ahead -/
def znl (ls : List zA) (i : Nat) : Bool := match i with
  | 0 => true
  | j + 1 => match ls[j]? with
    | some w => w.1 != 1
    | none => true
theorem znl_no {ls : List zA} {i j : Nat} {w : zA} (h : znl ls i = true) (hj : ls[j]? = some w) (hi : j + 1 = i) : w.1 ≠ 1 := by
  subst hi
  unfold znl at h
  simp only [hj] at h
  simpa using h
theorem zLs.one {g : zG} {ls : List zA} {nL i : Nat} {LS : Array Slot} {v : zA} (hp : znl ls i = true) (h : lv_has LS nL ((i, zc g.2.2.1 v) :: (zpl g.2.2.1 ls).filter (fun q => !(q.1 == i) && !(q.1 + 1 == i && q.2.category == 2)))) : zLs g (ls.set i v) nL LS := by
  refine ⟨h.1, h.2.1, fun j w hj hw => ?_⟩
  rw [List.getElem?_set] at hj
  by_cases c : i = j
  · subst c
    rw [if_pos rfl] at hj
    by_cases c2 : i < ls.length
    · rw [if_pos c2] at hj
      cases hj
      exact h.2.2 (i, zc g.2.2.1 v) List.mem_cons_self
    · rw [if_neg c2] at hj; cases hj
  · rw [if_neg c] at hj
    refine h.2.2 (j, zc g.2.2.1 w) (List.mem_cons_of_mem _ (List.mem_filter.mpr ⟨zpl_mem hj hw, ?_⟩))
    have e1 : (j == i) = false := by simp; omega
    have e2 : (j + 1 == i && (zc g.2.2.1 w).category == 2) = false := by
      by_cases c3 : j + 1 = i
      · have := znl_no hp hj c3
        rw [zcat, if_neg this]; simp
      · have : (j + 1 == i) = false := by simp; omega
        rw [this]; rfl
    show (!(j == i) && !(j + 1 == i && (zc g.2.2.1 w).category == 2)) = true
    rw [e1, e2]; rfl
theorem zLs.two {g : zG} {ls : List zA} {nL i : Nat} {LS : Array Slot} {v : zA} (hp : znl ls i = true) (h : lv_has LS nL ((i, zc g.2.2.1 v) :: (zpl g.2.2.1 ls).filter (fun q => !(q.1 == i) && (!(q.1 == i + 1) && !(q.1 + 1 == i && q.2.category == 2))))) : zLs g ((ls.set i v).set (i + 1) zU) nL LS := by
  refine ⟨h.1, h.2.1, fun j w hj hw => ?_⟩
  rw [List.getElem?_set] at hj
  by_cases c0 : i + 1 = j
  · rw [if_pos c0] at hj
    by_cases c2 : i + 1 < (ls.set i v).length
    · rw [if_pos c2] at hj
      cases hj
      exact absurd hw (by decide)
    · rw [if_neg c2] at hj; cases hj
  rw [if_neg c0, List.getElem?_set] at hj
  by_cases c : i = j
  · subst c
    rw [if_pos rfl] at hj
    by_cases c2 : i < ls.length
    · rw [if_pos c2] at hj
      cases hj
      exact h.2.2 (i, zc g.2.2.1 v) List.mem_cons_self
    · rw [if_neg c2] at hj; cases hj
  · rw [if_neg c] at hj
    refine h.2.2 (j, zc g.2.2.1 w) (List.mem_cons_of_mem _ (List.mem_filter.mpr ⟨zpl_mem hj hw, ?_⟩))
    have e1 : (j == i) = false := by simp; omega
    have e0 : (j == i + 1) = false := by simp; omega
    have e2 : (j + 1 == i && (zc g.2.2.1 w).category == 2) = false := by
      by_cases c3 : j + 1 = i
      · have := znl_no hp hj c3
        rw [zcat, if_neg this]; simp
      · have : (j + 1 == i) = false := by simp; omega
        rw [this]; rfl
    show (!(j == i) && (!(j == i + 1) && !(j + 1 == i && (zc g.2.2.1 w).category == 2))) = true
    rw [e1, e0, e2]; rfl
theorem zms {h : zH} {ls : List zA} {i : Nat} {v : zA} (hs : ∀ w ∈ ls, zok h w) (hv : zok h v) : ∀ w ∈ ls.set i v, zok h w := by
  intro w hw
  rcases List.mem_or_eq_of_mem_set hw with e | e
  · exact hs w e
  · rw [e]; exact hv
section
variable {b : Bool} {y : zM} {d pc : Nat} {ls st : List zA} {h : zH} {Q : Nat → Int → zH → Prop}
theorem zV_iconst {n : Int} (hd : decode y.2.1 pc = .ok (.iconst n, 1)) (hn : r32 n) (k : zV b y d (pc + 1) ls (zI n :: st) h Q) : zV b y d pc ls st h Q :=
  zV.go k (fun _ _ a3 a4 => ⟨a3, zm1 a4 hn⟩) (fun _ _ _ _ g p l e R s m args below meth c G H locs LS cells slots Qm _ hL kk => lv_iconst G.1.1 G.1.2.1 hd rfl (kk LS hL))
theorem zV_bipush {n : Int} (hd : decode y.2.1 pc = .ok (.bipush n, 2)) (hn : (Int8.ofInt n).toInt32 = Int32.ofInt n ∧ r32 n) (k : zV b y d (pc + 2) ls (zI n :: st) h Q) : zV b y d pc ls st h Q :=
  zV.go k (fun _ _ a3 a4 => ⟨a3, zm1 a4 hn.2⟩) (fun _ _ _ _ g p l e R s m args below meth c G H locs LS cells slots Qm _ hL kk => lv_bipush G.1.1 G.1.2.1 hd hn.1 (kk LS hL))
theorem zV_sipush {n : Int} (hd : decode y.2.1 pc = .ok (.sipush n, 3)) (hn : (Int16.ofInt n).toInt32 = Int32.ofInt n ∧ r32 n) (k : zV b y d (pc + 3) ls (zI n :: st) h Q) : zV b y d pc ls st h Q :=
  zV.go k (fun _ _ a3 a4 => ⟨a3, zm1 a4 hn.2⟩) (fun _ _ _ _ g p l e R s m args below meth c G H locs LS cells slots Qm _ hL kk => lv_sipush G.1.1 G.1.2.1 hd hn.1 (kk LS hL))
theorem zV_lconst {n : Fin 2} {x : Int} (hd : decode y.2.1 pc = .ok (.lconst n, 1)) (hx : ((n : Nat) : Int) = x) (k : zV b y d (pc + 1) ls (zJ x :: st) h Q) : zV b y d pc ls st h Q := by
  subst hx
  exact zV.go k (fun _ _ a3 a4 => ⟨a3, zm1 a4 (by have := n.2; exact ⟨by show -9223372036854775808 ≤ (((n : Nat) : Int)); omega, by show (((n : Nat) : Int)) ≤ 9223372036854775807; omega⟩)⟩) (fun _ _ _ _ g p l e R s m args below meth c G H locs LS cells slots Qm _ hL kk => lv_lconst G.1.1 G.1.2.1 hd (by match n with | 0 => decide | 1 => decide) (kk LS hL))
theorem zV_iload_n {k4 : Fin 4} {x : Int} (hd : decode y.2.1 pc = .ok (.iload_n k4, 1)) (hl : ls[(k4 : Nat)]? = some (zI x)) (k : zV b y d (pc + 1) ls (zI x :: st) h Q) : zV b y d pc ls st h Q :=
  zV.go k (fun _ _ a3 a4 => ⟨a3, zm1 a4 (a3 _ (List.mem_of_getElem? hl))⟩) (fun _ _ _ _ g p l e R s m args below meth c G H locs LS cells slots Qm _ hL kk => lv_iload_n G.1.1 G.1.2.1 hd rfl (hL.2.2 _ _ hl (by decide : (0 : Nat) < 3)) (kk LS hL))
theorem zV_iload {i : Nat} {x : Int} (hd : decode y.2.1 pc = .ok (.iload i, 2)) (hl : ls[i]? = some (zI x)) (k : zV b y d (pc + 2) ls (zI x :: st) h Q) : zV b y d pc ls st h Q :=
  zV.go k (fun _ _ a3 a4 => ⟨a3, zm1 a4 (a3 _ (List.mem_of_getElem? hl))⟩) (fun _ _ _ _ g p l e R s m args below meth c G H locs LS cells slots Qm _ hL kk => lv_iload G.1.1 G.1.2.1 hd (hL.2.2 _ _ hl (by decide : (0 : Nat) < 3)) (kk LS hL))
theorem zV_lload_n {k4 : Fin 4} {x : Int} (hd : decode y.2.1 pc = .ok (.lload_n k4, 1)) (hl : ls[(k4 : Nat)]? = some (zJ x)) (k : zV b y d (pc + 1) ls (zJ x :: st) h Q) : zV b y d pc ls st h Q :=
  zV.go k (fun _ _ a3 a4 => ⟨a3, zm1 a4 (a3 _ (List.mem_of_getElem? hl))⟩) (fun _ _ _ _ g p l e R s m args below meth c G H locs LS cells slots Qm _ hL kk => lv_lload_n G.1.1 G.1.2.1 hd rfl (hL.2.2 _ _ hl (by decide : (1 : Nat) < 3)) (kk LS hL))
theorem zV_lload {i : Nat} {x : Int} (hd : decode y.2.1 pc = .ok (.lload i, 2)) (hl : ls[i]? = some (zJ x)) (k : zV b y d (pc + 2) ls (zJ x :: st) h Q) : zV b y d pc ls st h Q :=
  zV.go k (fun _ _ a3 a4 => ⟨a3, zm1 a4 (a3 _ (List.mem_of_getElem? hl))⟩) (fun _ _ _ _ g p l e R s m args below meth c G H locs LS cells slots Qm _ hL kk => lv_lload G.1.1 G.1.2.1 hd (hL.2.2 _ _ hl (by decide : (1 : Nat) < 3)) (kk LS hL))
theorem zV_aload_n {k4 : Fin 4} {x : Int} (hd : decode y.2.1 pc = .ok (.aload_n k4, 1)) (hl : ls[(k4 : Nat)]? = some (zR x)) (k : zV b y d (pc + 1) ls (zR x :: st) h Q) : zV b y d pc ls st h Q :=
  zV.go k (fun _ _ a3 a4 => ⟨a3, zm1 a4 (a3 _ (List.mem_of_getElem? hl))⟩) (fun _ _ _ _ g p l e R s m args below meth c G H locs LS cells slots Qm _ hL kk => by
    have h1 := hL.2.2 _ _ hl (by decide : (2 : Nat) < 3)
    have h2 := kk LS hL
    by_cases c0 : x = 0
    · subst c0
      exact lv_aload_nN G.1.1 G.1.2.1 hd rfl h1 h2
    · rw [zc_r c0] at h1
      exact lv_aload_n G.1.1 G.1.2.1 hd rfl h1 (zW_top h2 (zc_r c0)))
theorem zV_aload {i : Nat} {x : Int} (hd : decode y.2.1 pc = .ok (.aload i, 2)) (hl : ls[i]? = some (zR x)) (k : zV b y d (pc + 2) ls (zR x :: st) h Q) : zV b y d pc ls st h Q :=
  zV.go k (fun _ _ a3 a4 => ⟨a3, zm1 a4 (a3 _ (List.mem_of_getElem? hl))⟩) (fun _ _ _ _ g p l e R s m args below meth c G H locs LS cells slots Qm _ hL kk => by
    have h1 := hL.2.2 _ _ hl (by decide : (2 : Nat) < 3)
    have h2 := kk LS hL
    by_cases c0 : x = 0
    · subst c0
      exact lv_aloadN G.1.1 G.1.2.1 hd h1 h2
    · rw [zc_r c0] at h1
      exact lv_aload G.1.1 G.1.2.1 hd h1 (zW_top h2 (zc_r c0)))
theorem zV_istore_n {k4 : Fin 4} {i : Nat} {x : Int} {ls' : List zA} (hd : decode y.2.1 pc = .ok (.istore_n k4, 1)) (hi : (k4 : Nat) = i) (hn : i < y.2.2.1) (hp : znl ls i = true) (hl : ls.set i (zI x) = ls') (k : zV b y d (pc + 1) ls' st h Q) : zV b y d pc ls (zI x :: st) h Q := by
  subst hl
  exact zV.go k (fun _ _ a3 a4 => ⟨zms a3 (zmh a4), zmt a4⟩) (fun _ _ _ _ g p l e R s m args below meth c G H locs LS cells slots Qm _ hL kk => lv_istore_n G.1.1 G.1.2.1 hd hi hL.has hn rfl (fun LS' h' => kk LS' (zLs.one (v := zI x) hp h')))
theorem zV_istore {i : Nat} {x : Int} {ls' : List zA} (hd : decode y.2.1 pc = .ok (.istore i, 2)) (hn : i < y.2.2.1) (hp : znl ls i = true) (hl : ls.set i (zI x) = ls') (k : zV b y d (pc + 2) ls' st h Q) : zV b y d pc ls (zI x :: st) h Q := by
  subst hl
  exact zV.go k (fun _ _ a3 a4 => ⟨zms a3 (zmh a4), zmt a4⟩) (fun _ _ _ _ g p l e R s m args below meth c G H locs LS cells slots Qm _ hL kk => lv_istore G.1.1 G.1.2.1 hd hL.has hn rfl (fun LS' h' => kk LS' (zLs.one (v := zI x) hp h')))
theorem zV_lstore_n {k4 : Fin 4} {i : Nat} {x : Int} {ls' : List zA} (hd : decode y.2.1 pc = .ok (.lstore_n k4, 1)) (hi : (k4 : Nat) = i) (hn : i + 1 < y.2.2.1) (hp : znl ls i = true) (hl : (ls.set i (zJ x)).set (i + 1) zU = ls') (k : zV b y d (pc + 1) ls' st h Q) : zV b y d pc ls (zJ x :: st) h Q := by
  subst hl
  exact zV.go k (fun _ _ a3 a4 => ⟨zms (zms a3 (zmh a4)) trivial, zmt a4⟩) (fun _ _ _ _ g p l e R s m args below meth c G H locs LS cells slots Qm _ hL kk => lv_lstore_n G.1.1 G.1.2.1 hd hi hL.has hn rfl (fun LS' h' => kk LS' (zLs.two (v := zJ x) hp h')))
theorem zV_lstore {i : Nat} {x : Int} {ls' : List zA} (hd : decode y.2.1 pc = .ok (.lstore i, 2)) (hn : i + 1 < y.2.2.1) (hp : znl ls i = true) (hl : (ls.set i (zJ x)).set (i + 1) zU = ls') (k : zV b y d (pc + 2) ls' st h Q) : zV b y d pc ls (zJ x :: st) h Q := by
  subst hl
  exact zV.go k (fun _ _ a3 a4 => ⟨zms (zms a3 (zmh a4)) trivial, zmt a4⟩) (fun _ _ _ _ g p l e R s m args below meth c G H locs LS cells slots Qm _ hL kk => lv_lstore G.1.1 G.1.2.1 hd hL.has hn rfl (fun LS' h' => kk LS' (zLs.two (v := zJ x) hp h')))
theorem zV_iinc {i : Nat} {n x : Int} {ls' : List zA} (hd : decode y.2.1 pc = .ok (.iinc i n, 3)) (hn : i < y.2.2.1) (hp : znl ls i = true) (hx : ls[i]? = some (zI x)) (hl : ls.set i (zI (w32 (x + n))) = ls') (k : zV b y d (pc + 3) ls' st h Q) : zV b y d pc ls st h Q := by
  subst hl
  refine zV.go k (fun _ _ a3 a4 => ⟨zms a3 (w32_r _), a4⟩) (fun _ _ _ _ g p l e R s m args below meth c G H locs LS cells slots Qm _ hL kk => ?_)
  obtain ⟨j, hj⟩ := List.getElem?_of_mem (zpl_mem (ad := g.2.2.1) hx (by decide : (0 : Nat) < 3))
  exact lv_iinc G.1.1 G.1.2.1 hd hL.has hj (v := Int32.ofInt (w32 (x + n))) (by rw [o32, Int32.ofInt_add]) hn rfl (fun LS' h' => kk LS' (zLs.one (v := zI (w32 (x + n))) hp h'))
theorem zV_iadd {x z : Int} (hd : decode y.2.1 pc = .ok (.iadd, 1)) (k : zV b y d (pc + 1) ls (zI (w32 (x + z)) :: st) h Q) : zV b y d pc ls (zI z :: zI x :: st) h Q :=
  zV.go k (fun _ _ a3 a4 => ⟨a3, zm1 (zmt (zmt a4)) (w32_r _)⟩) (fun _ _ _ _ g p l e R s m args below meth c G H locs LS cells slots Qm _ hL kk => lv_iadd G.1.1 G.1.2.1 hd (zW_top (kk LS hL) (by rw [zc_i, o32, Int32.ofInt_add])))
theorem zV_isub {x z : Int} (hd : decode y.2.1 pc = .ok (.isub, 1)) (k : zV b y d (pc + 1) ls (zI (w32 (x - z)) :: st) h Q) : zV b y d pc ls (zI z :: zI x :: st) h Q :=
  zV.go k (fun _ _ a3 a4 => ⟨a3, zm1 (zmt (zmt a4)) (w32_r _)⟩) (fun _ _ _ _ g p l e R s m args below meth c G H locs LS cells slots Qm _ hL kk => lv_isub G.1.1 G.1.2.1 hd (zW_top (kk LS hL) (by rw [zc_i, o32, Int32.ofInt_sub])))
theorem zV_imul {x z : Int} (hd : decode y.2.1 pc = .ok (.imul, 1)) (k : zV b y d (pc + 1) ls (zI (w32 (x * z)) :: st) h Q) : zV b y d pc ls (zI z :: zI x :: st) h Q :=
  zV.go k (fun _ _ a3 a4 => ⟨a3, zm1 (zmt (zmt a4)) (w32_r _)⟩) (fun _ _ _ _ g p l e R s m args below meth c G H locs LS cells slots Qm _ hL kk => lv_imul G.1.1 G.1.2.1 hd (zW_top (kk LS hL) (by rw [zc_i, o32, Int32.ofInt_mul])))
theorem zV_ineg {x : Int} (hd : decode y.2.1 pc = .ok (.ineg, 1)) (k : zV b y d (pc + 1) ls (zI (w32 (-x)) :: st) h Q) : zV b y d pc ls (zI x :: st) h Q :=
  zV.go k (fun _ _ a3 a4 => ⟨a3, zm1 (zmt a4) (w32_r _)⟩) (fun _ _ _ _ g p l e R s m args below meth c G H locs LS cells slots Qm _ hL kk => lv_ineg G.1.1 G.1.2.1 hd (zW_top (kk LS hL) (by rw [zc_i, o32, Int32.ofInt_neg])))
end
