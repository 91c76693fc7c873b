/-! the main engine's search, as the court calls it -/
theorem Rel.cgE {h h' m : zH} (p : Rel 25 0 h m) (ca : ∀ b, 25 ≤ b → b < 58 → zd h' b = zd h b) (cg : ∀ k, k ∈ ([26, 27] : List Int) → zd h' 14 k = zd h 14 k) : Rel 25 0 h' m := by
  obtain ⟨R, C, l, rq⟩ := p
  have c0 : zd h' 25 = zd h 25 := ca 25 (by decide) (by decide)
  refine ⟨R.cg (fun k hk => ca _ (by simp only [List.mem_cons, List.not_mem_nil, or_false] at hk; omega) (by simp only [List.mem_cons, List.not_mem_nil, or_false] at hk; omega)) (fun k _ => by rw [c0]) cg (fun _ _ => rfl) (fun _ _ => rfl), C.cg (fun k _ => by rw [c0]) (fun _ _ => rfl) (fun _ _ => rfl), by rw [c0]; exact l, fun z => (rq z).cg (ca _ (by decide) (by decide)) (by rw [c0]) rfl rfl⟩
theorem SI.cgE {h h' : zH} (p : SI 25 h) (ca : ∀ b, 25 ≤ b → b < 58 → zd h' b = zd h b) (ct : ∀ b, zt h' b = zt h b) (cl : ∀ b, zl h' b = zl h b) : SI 25 h' := by
  obtain ⟨p0, t0, t1⟩ := p
  have c0 : zd h' 25 = zd h 25 := ca 25 (by decide) (by decide)
  refine ⟨p0.cg (fun k hk => ca _ (by simp only [List.mem_cons, List.not_mem_nil, or_false] at hk; omega) (by simp only [List.mem_cons, List.not_mem_nil, or_false] at hk; omega)) (fun k _ => by rw [c0]) ct cl, by rw [c0]; exact t0, by rw [c0]; exact t1⟩
theorem RE.cgE {h h' m : zH} (p : RE 25 0 h m) (ca : ∀ b, 25 ≤ b → b < 58 → zd h' b = zd h b) : RE 25 0 h' m := by
  have c0 : zd h' 25 = zd h 25 := ca 25 (by decide) (by decide)
  exact p.cg (fun k hk => ca _ (by simp only [List.mem_cons, List.not_mem_nil, or_false] at hk; omega) (by simp only [List.mem_cons, List.not_mem_nil, or_false] at hk; omega)) (fun k _ => by rw [c0]) (fun _ _ => rfl) rfl
theorem RQ.cgE {h h' m : zH} (p : RQ 25 h m) (ca : ∀ b, 25 ≤ b → b < 58 → zd h' b = zd h b) : RQ 25 h' m := p.cg (ca _ (by decide) (by decide)) (by rw [ca 25 (by decide) (by decide)]) rfl rfl
theorem RC.cgE {h h' m : zH} (p : RC 25 h m) (ca : ∀ b, 25 ≤ b → b < 58 → zd h' b = zd h b) : RC 25 h' m := by
  have c0 : zd h' 25 = zd h 25 := ca 25 (by decide) (by decide)
  exact p.cg (fun k hk => ca _ (by simp only [List.mem_cons, List.not_mem_nil, or_false] at hk; omega) (by simp only [List.mem_cons, List.not_mem_nil, or_false] at hk; omega)) (fun k _ => by rw [c0]) (fun _ _ => rfl) (fun _ _ => rfl)
theorem SrP.cgE {r : Int} {h h' m : zH} (p : SrP 25 0 r h m) (ca : ∀ b, 25 ≤ b → b < 58 → zd h' b = zd h b) (cg : ∀ k, k ∈ ([26, 27] : List Int) → zd h' 14 k = zd h 14 k) : SrP 25 0 r h' m := by
  obtain ⟨p1, p2, p3, p4, p5⟩ := p
  have c0 : zd h' 25 = zd h 25 := ca 25 (by decide) (by decide)
  have c57 : zd h' (25 + 32) = zd h (25 + 32) := ca _ (by decide) (by decide)
  exact ⟨fun z => (p1 z).cgE ca cg, p2.cgE ca, fun z => (p3 z).cgE ca, fun z1 z2 => (p4 z1 z2).cgE ca, by rw [c0, c57]; exact p5⟩
/-- what a search of the main engine leaves -/
def MsP (a : Int) (h : zH) (r : Int) (h' : zH) : Prop := (h'.1 = h.1 ∧ h'.2.1 = h.2.1 ∧ h'.2.2.1 = h.2.2.1) ∧ (∀ b, ¬ (25 ≤ b ∧ b < 58) → b ≠ 91 → b ≠ 92 → zd h' b = zd h b) ∧ (∀ j, zd h' 91 j = if j = 3 ∧ r = 1 then 1 else zd h 91 j) ∧ (r = 1 → ∀ n, 1 ≤ n → n ≤ zd h 14 2 → zd h' 92 n = if zd h' 57 n ≤ 0 then 0 else 1) ∧ (r ≠ 1 → zd h' 92 = zd h 92) ∧ zd h' 25 29 = r ∧ (r = -1004 → SI 25 h') ∧ (zd h' 43 0 = 0 ∧ EP 25 h')
theorem C_searched {a : Int} {h : zH} {Q : Int → zH → Prop} (S : SI 25 h) (a0 : 0 ≤ a) (a2 : a ≤ 2000000000) (A0 : 0 ≤ zd h 14 2) (A3 : zd h 14 2 ≤ 300) (k : ∀ r h', (r = -1004 ∨ r = -1003 ∨ r = 0 ∨ r = 1) → MsP a h r h' → SrS 25 0 (zw h 25 31 a) r h' → Q r h') : P_C_searched a h Q := by
  unfold P_C_searched
  refine F_E_search (zF.rf _ _ h) (S_search (q := 0) (Or.inl rfl) (by decide) (by decide) S a0 a2 (fun r h' hr h29 hsi z18 ep srs => ?_) : P_E_search 25 a h (fun r h' => (r = -1004 ∨ r = -1003 ∨ r = 0 ∨ r = 1) ∧ zd h' 25 29 = r ∧ (r = -1004 → SI 25 h') ∧ zd h' (25 + 18) 0 = 0 ∧ EP 25 h' ∧ SrS 25 0 (zw h 25 31 a) r h')) (fun r h' q fr => ?_)
  · exact ⟨hr, h29, hsi, z18, ep, srs⟩
  obtain ⟨hr, h29, hsi, z18, ep, srs⟩ := q
  have fo : ∀ b, ¬ (25 ≤ b ∧ b < 58) → zd h' b = zd h b := fun b hb => funext (fun j => fr.2.2.2 b j (by omega))
  refine zif_i (fun c => ?_) (fun c => ?_)
  · intro h3 e3
    have k3 : ∀ b, b ≠ 91 → zd h3 b = zd h' b := fun b n => by rw [e3, zw_f n]
    have c14 : zd h3 14 = zd h 14 := by rw [k3 14 (by decide), fo 14 (by decide)]
    refine C_truth (by rw [c14]; exact A0) (by rw [c14]; exact A3) (fun h4 y4 v4 => ?_)
    have k4 : ∀ b, b ≠ 91 → b ≠ 92 → zd h4 b = zd h' b := fun b n1 n2 => by rw [y4.f (b := b) (by simp only [List.mem_cons, List.not_mem_nil, or_false]; exact n2), k3 b n1]
    have ca : ∀ b, 25 ≤ b → b < 58 → zd h4 b = zd h' b := fun b b0 b1 => k4 b (by omega) (by omega)
    have tt : h4.1 = h.1 ∧ h4.2.1 = h.2.1 ∧ h4.2.2.1 = h.2.2.1 := by
      refine ⟨?_, ?_, ?_⟩
      · rw [y4.1, e3]; exact fr.1
      · rw [y4.2.1, e3]; exact fr.2.1
      · rw [y4.2.2.1, e3]; exact fr.2.2.1
    refine k r h4 hr ⟨tt, fun b hb n1 n2 => by rw [k4 b n1 n2, fo b hb], fun j => ?_, fun _ n n0 n1 => ?_, fun z => absurd c z, by rw [k4 25 (by decide) (by decide)]; exact h29, fun z => by omega, ?_, ?_⟩ ?_
    · rw [y4.d (b := 91) (by decide), e3, zup, fo 91 (by decide)]
      by_cases z : j = 3
      · rw [if_pos z, if_pos ⟨z, c⟩]
      · rw [if_neg z, if_neg (by exact fun x => z x.1)]
    · rw [v4 n n0 (by rw [c14]; exact n1), k3 57 (by decide), k4 57 (by decide) (by decide)]
    · rw [k4 43 (by decide) (by decide)]; exact z18
    · unfold EP at ep ⊢
      rw [k4 (25 + 6) (by decide) (by decide), k4 (25 + 2) (by decide) (by decide)]; exact ep
    · intro m R Q' kq
      exact srs m R Q' (fun m' p F => kq m' (p.cgE ca (fun k _ => by rw [k4 14 (by decide) (by decide)])) F)
  · refine k r h' hr ⟨⟨fr.1, fr.2.1, fr.2.2.1⟩, fun b hb _ _ => fo b hb, fun j => by rw [if_neg (by exact fun x => c x.2), fo 91 (by decide)], fun z => absurd z c, fun _ => fo 92 (by decide), h29, hsi, z18, ep⟩ srs
/-- the model's end of a solving: what stands -/
theorem M_fin {h1 m1 m2 : zH} {r : Int} (p : SrP 25 0 r h1 m1) (y : yA [101, 136, 142] m1 m2) (f : ∀ j, j ≠ 57 → zd m2 101 j = zd m1 101 j) : (r = -1004 → Rel 25 0 h1 m2) ∧ RE 25 0 h1 m2 ∧ RQ 25 h1 m2 ∧ (r = 0 → RC 25 h1 m2) := by
  obtain ⟨p1, p2, p3, p4, p5⟩ := p
  have RQ2 : RQ 25 h1 m2 := (p3 rfl).cg rfl rfl (y.f (by decide)) (f 91 (by decide))
  refine ⟨fun z => ?_, p2.cg (fun _ _ => rfl) (fun _ _ => rfl) (fun k hk => y.f (by simp only [List.mem_cons, List.not_mem_nil, or_false] at hk ⊢; omega)) (f 89 (by decide)), RQ2, fun z => (p4 z rfl).cg (fun _ _ => rfl) (fun _ _ => rfl) (fun k hk => y.f (by simp only [List.mem_cons, List.not_mem_nil, or_false] at hk ⊢; omega)) (fun k hk => f k (by simp only [List.mem_cons, List.not_mem_nil, or_false] at hk; omega))⟩
  obtain ⟨R, C, l, rq⟩ := p1 z
  exact ⟨R.cg (fun _ _ => rfl) (fun _ _ => rfl) (fun _ _ => rfl) (fun k hk => y.f (by simp only [List.mem_cons, List.not_mem_nil, or_false] at hk ⊢; omega)) (fun k hk => f k (by simp only [List.mem_cons, List.not_mem_nil, or_false] at hk; omega)), C.cg (fun _ _ => rfl) (fun k hk => y.f (by simp only [List.mem_cons, List.not_mem_nil, or_false] at hk ⊢; omega)) (fun k hk => f k (by simp only [List.mem_cons, List.not_mem_nil, or_false] at hk; omega)), by rw [y.f (b := 155) (by decide)]; exact l, fun _ => RQ2⟩
