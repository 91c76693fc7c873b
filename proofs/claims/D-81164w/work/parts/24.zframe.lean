/-! frames: what a run of a region leaves as it was -/
def zF (lo hi : Int) (h h' : zH) : Prop := h'.1 = h.1 ∧ h'.2.1 = h.2.1 ∧ h'.2.2.1 = h.2.2.1 ∧ ∀ b j, (b < lo ∨ hi ≤ b) → zd h' b j = zd h b j
theorem zF.rf (lo hi : Int) (h : zH) : zF lo hi h h := ⟨rfl, rfl, rfl, fun _ _ _ => rfl⟩
theorem zF.tr {lo hi : Int} {h h' h'' : zH} (p : zF lo hi h h') (q : zF lo hi h' h'') : zF lo hi h h'' :=
  ⟨q.1.trans p.1, q.2.1.trans p.2.1, q.2.2.1.trans p.2.2.1, fun b j hb => (q.2.2.2 b j hb).trans (p.2.2.2 b j hb)⟩
theorem zF.w {lo hi : Int} {h0 h h2 : zH} {a i v : Int} (p : zF lo hi h0 h) (e : h2 = zw h a i v) (h1 : lo ≤ a) (h3 : a < hi) : zF lo hi h0 h2 := by
  subst e
  refine ⟨p.1, p.2.1, p.2.2.1, fun b j hb => ?_⟩
  rw [zd_zw, if_neg (by omega)]
  exact p.2.2.2 b j hb
theorem zF.n {lo hi : Int} {h h' : zH} (p : zF lo hi h h') : zn h' = zn h := congrArg (·.1) p.1
theorem zF.s {lo hi : Int} {h h' : zH} (p : zF lo hi h h') : zs h' = zs h := congrArg (·.2) p.1
theorem zF.t {lo hi : Int} {h h' : zH} (p : zF lo hi h h') (a : Int) : zt h' a = zt h a := congrFun p.2.1 a
theorem zF.l {lo hi : Int} {h h' : zH} (p : zF lo hi h h') (a : Int) : zl h' a = zl h a := congrFun p.2.2.1 a
theorem zF.d {lo hi : Int} {h h' : zH} (p : zF lo hi h h') {a : Int} (q : a < lo ∨ hi ≤ a) (i : Int) : zd h' a i = zd h a i := p.2.2.2 a i q
theorem zif_i {c A B : Prop} [Decidable c] (ha : c → A) (hb : ¬ c → B) : if c then A else B := by
  by_cases hc : c
  · rw [if_pos hc]; exact ha hc
  · rw [if_neg hc]; exact hb hc
/-! the same by a list of cells -/
def yA (l : List Int) (h h' : zH) : Prop := h'.1 = h.1 ∧ h'.2.1 = h.2.1 ∧ h'.2.2.1 = h.2.2.1 ∧ ∀ b j, b ∉ l → zd h' b j = zd h b j
theorem yA.rf (l : List Int) (h : zH) : yA l h h := ⟨rfl, rfl, rfl, fun _ _ _ => rfl⟩
theorem yA.tr {l : List Int} {h h' h'' : zH} (p : yA l h h') (q : yA l h' h'') : yA l h h'' :=
  ⟨q.1.trans p.1, q.2.1.trans p.2.1, q.2.2.1.trans p.2.2.1, fun b j hb => (q.2.2.2 b j hb).trans (p.2.2.2 b j hb)⟩
theorem yA.w {l : List Int} {h0 h : zH} {a i v : Int} (p : yA l h0 h) (ha : a ∈ l) : yA l h0 (zw h a i v) := by
  refine ⟨p.1, p.2.1, p.2.2.1, fun b j hb => ?_⟩
  rw [zd_zw, if_neg (by exact fun x => hb (x.1 ▸ ha))]
  exact p.2.2.2 b j hb
theorem yA.mono {l l' : List Int} {h h' : zH} (p : yA l h h') (q : ∀ a, a ∈ l → a ∈ l') : yA l' h h' :=
  ⟨p.1, p.2.1, p.2.2.1, fun b j hb => p.2.2.2 b j (fun x => hb (q b x))⟩
theorem yA.n {l : List Int} {h h' : zH} (p : yA l h h') : zn h' = zn h := congrArg (·.1) p.1
theorem yA.s {l : List Int} {h h' : zH} (p : yA l h h') : zs h' = zs h := congrArg (·.2) p.1
theorem yA.t {l : List Int} {h h' : zH} (p : yA l h h') (a : Int) : zt h' a = zt h a := congrFun p.2.1 a
theorem yA.l {l : List Int} {h h' : zH} (p : yA l h h') (a : Int) : zl h' a = zl h a := congrFun p.2.2.1 a
theorem yA.d {l : List Int} {h h' : zH} (p : yA l h h') {b : Int} (q : b ∉ l) (j : Int) : zd h' b j = zd h b j := p.2.2.2 b j q
/-! reads behind writes -/
theorem zd_s (h : zH) (a i v : Int) : zd (zw h a i v) a i = v := by rw [zd_zw, if_pos ⟨rfl, rfl⟩]
theorem zd_a {h : zH} {a i v b j : Int} (q : b ≠ a) : zd (zw h a i v) b j = zd h b j := by rw [zd_zw, if_neg (by exact fun x => q x.1)]
theorem zd_i {h : zH} {a i v b j : Int} (q : j ≠ i) : zd (zw h a i v) b j = zd h b j := by rw [zd_zw, if_neg (by exact fun x => q x.2)]
theorem zbit_0 : zbit 0 = 0 := by decide
theorem zbit_1 : zbit 1 = 1 := by decide
