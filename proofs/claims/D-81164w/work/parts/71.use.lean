/-! learns: the uses are counted (here) -/
theorem E_use {e y1 : Int} {h : zH} {Q : Int → zH → Prop} {K : zH → Prop} (he : zE e) (c1 : zd h e 54 ≤ 301) (hr : ∀ i, 0 ≤ i → i < zd h e 54 → 0 ≤ zd h (e + 30) i ∧ zd h (e + 30) i < 800) (kk : ∀ g, yA [e + 20] h g → (∀ k, zd g (e + 20) k = if zct (zd h (e + 30)) k 0 (zd h e 54).toNat = 0 then zd h (e + 20) k else w32 (zd h (e + 20) k + zct (zd h (e + 30)) k 0 (zd h e 54).toNat)) → K g) : ∀ (d f : Nat) (y : Int) (g : zH), y = zd h e 54 - d → 0 ≤ y → d < f → yA [e + 20] h g → (∀ k, zd g (e + 20) k = if zct (zd h (e + 30)) k 0 y.toNat = 0 then zd h (e + 20) k else w32 (zd h (e + 20) k + zct (zd h (e + 30)) k 0 y.toNat)) → P_E_learns_L38 e y1 Q K f y g := by
  have eR : 25 ≤ e ∧ e ≤ 58 := by rcases he with z | z <;> omega
  intro d
  induction d with
  | zero =>
    intro f y g hy y0 hf gA gv
    obtain ⟨f, rfl⟩ : ∃ m, f = m + 1 := ⟨f - 1, by omega⟩
    unfold P_E_learns_L38
    rw [gA.f (b := e) (by simp only [List.mem_cons, List.not_mem_nil, or_false]; omega), if_pos (by omega)]
    rw [show y = zd h e 54 by omega] at gv
    exact kk g gA gv
  | succ d ih =>
    intro f y g hy y0 hf gA gv
    obtain ⟨f, rfl⟩ : ∃ m, f = m + 1 := ⟨f - 1, by omega⟩
    have r := hr y y0 (by omega)
    unfold P_E_learns_L38
    rw [gA.f (b := e) (by simp only [List.mem_cons, List.not_mem_nil, or_false]; omega), if_neg (by omega), gA.f (b := e + 30) (by simp only [List.mem_cons, List.not_mem_nil, or_false]; omega)]
    refine ⟨⟨by omega, by omega⟩, ⟨by omega, by omega⟩, ⟨by omega, by omega⟩, ?_⟩
    intro h10 e10 x2 e2
    rw [w32_of (by omega) (by omega)] at e2
    rw [e2, e10]
    refine ih f (y + 1) _ (by omega) (by omega) (by omega) (gA.w (by simp)) (fun k => ?_)
    have zl := zct_le (zd h (e + 30)) k 0 y.toNat
    rw [show (y + 1).toNat = y.toNat + 1 by omega, show zct (zd h (e + 30)) k 0 (y.toNat + 1) = zct (zd h (e + 30)) k 0 y.toNat + (if zd h (e + 30) (0 + (y.toNat : Int)) = k then (1 : Int) else 0) from rfl, show 0 + (y.toNat : Int) = y by omega]
    by_cases z : zd h (e + 30) y = k
    · rw [if_pos z, if_neg (by omega), z, zd_s, gv k]
      by_cases w : zct (zd h (e + 30)) k 0 y.toNat = 0
      · rw [if_pos w, w]; congr 1
      · rw [if_neg w, w32_al]; congr 1; omega
    · rw [if_neg z, zd_i (fun w => z w.symm), gv k, Int.add_zero]
