/-! search against solving -/
def SrP (e q r : Int) (h' m' : zH) : Prop := (r = -1004 → Rel e q h' m') ∧ RE e q h' m' ∧ (q = 0 → RQ e h' m') ∧ (r = 0 → q = 0 → RC e h' m') ∧ (r = 1 → ∀ n, 1 ≤ n → n ≤ zd h' e 11 → (zd h' (e + 32) n = 1 ∧ zd m' 143 (301 * q + n) = 1) ∨ (zd h' (e + 32) n = -1 ∧ zd m' 143 (301 * q + n) = 0))
def SrS (e q : Int) (h : zH) (r : Int) (h' : zH) : Prop := ∀ m, Rel e q h m → ∀ Q' : Int → zH → Prop, (∀ m', SrP e q r h' m' → MFw q m m' → Q' r m') → P_M_solving q m Q'
theorem E_keepTruth {e : Int} {h : zH} {Q : Int → zH → Prop} (A0 : 0 ≤ zd h e 11) (A3 : zd h e 11 ≤ 300) (k : ∀ h', yA [e + 32] h h' → (∀ n, 1 ≤ n → n ≤ zd h e 11 → zd h' (e + 32) n = zd h (e + 11) n) → Q 0 h') : P_E_keepTruth e h Q := by
  have key : ∀ (d f : Nat) (y : Int) (g : zH), y = zd h e 11 + 1 - d → 1 ≤ y → d < f → yA [e + 32] h g → (∀ n, 1 ≤ n → n < y → zd g (e + 32) n = zd h (e + 11) n) → P_E_keepTruth_L2 e Q f y g := by
    intro d
    induction d with
    | zero =>
      intro f y g hy y0 hf gA gz
      obtain ⟨f, rfl⟩ : ∃ m, f = m + 1 := ⟨f - 1, by omega⟩
      unfold P_E_keepTruth_L2
      rw [gA.d (b := e) (by simp only [List.mem_cons, List.not_mem_nil, or_false]; omega), if_pos (by omega)]
      exact k g gA (fun n n0 n1 => gz n n0 (by omega))
    | succ d ih =>
      intro f y g hy y0 hf gA gz
      obtain ⟨f, rfl⟩ : ∃ m, f = m + 1 := ⟨f - 1, by omega⟩
      unfold P_E_keepTruth_L2
      rw [gA.d (b := e) (by simp only [List.mem_cons, List.not_mem_nil, or_false]; omega), if_neg (by omega), gA.d (b := e + 11) (by simp only [List.mem_cons, List.not_mem_nil, or_false]; omega), w32_of (x := y + 1) (by omega) (by omega)]
      refine ⟨⟨by omega, by omega⟩, ⟨by omega, by omega⟩, ?_⟩
      intro h1 e1 x1 ex
      rw [ex]
      refine ih f (y + 1) h1 (by omega) (by omega) (by omega) (by rw [e1]; exact gA.w (by simp)) (fun n n0 n1 => ?_)
      rw [e1, zd_zw]
      by_cases z : n = y
      · rw [if_pos ⟨rfl, z⟩, z]
      · rw [if_neg (by exact fun x => z x.2)]; exact gz n n0 (by omega)
  unfold P_E_keepTruth
  exact ⟨(zd h e 11).toNat + 1, key (zd h e 11).toNat _ 1 h (by omega) (by decide) (by omega) (yA.rf _ _) (fun n n0 n1 => by omega)⟩
theorem E_fin {e : Int} {h : zH} {K : zH → Prop} (e3 : E3 e h) (n0 : 0 ≤ zd h e 21) (n1 : zd h e 21 ≤ 321) (z18 : zd h (e + 18) 0 = 0) (k : ∀ h', yA [e, e + 3, e + 4, e + 6, e + 11, e + 14] h h' → (∀ j, j ≠ 20 → j ≠ 21 → zd h' e j = zd h e j) → EP e h' → K h') : P_E_back e (-1) h (fun _ h31 => ∀ h32 : zH, h32 = zw h31 e 21 0 → K h32) := by
  obtain ⟨⟨top, hs⟩, hc, hT⟩ := e3
  exact E_end hs hc hT n0 n1 z18 k
theorem Rel.w29 {e q v : Int} {h m : zH} (he : 14 < e) (p : Rel e q h m) : Rel e q (zw h e 29 v) m := by
  obtain ⟨R, C, l, rq⟩ := p
  refine ⟨R.cg (fun k hk => zw_f (by simp only [List.mem_cons, List.not_mem_nil, or_false] at hk; omega)) (fun k hk => zd_i (by simp only [List.mem_cons, List.not_mem_nil, or_false] at hk; omega)) (fun k _ => zd_a (by omega)) (fun _ _ => rfl) (fun _ _ => rfl), C.cg (fun k hk => zd_i (by simp only [List.mem_cons, List.not_mem_nil, or_false] at hk; omega)) (fun _ _ => rfl) (fun _ _ => rfl), by rw [zd_i (by decide)]; exact l, fun z => (rq z).cg (zw_f (by omega)) (zd_i (by decide)) rfl rfl⟩
theorem SI.w29 {e v : Int} {h : zH} (p : SI e h) : SI e (zw h e 29 v) := by
  obtain ⟨p0, t0, t1⟩ := p
  refine ⟨p0.cg (fun k hk => zw_f (by simp only [List.mem_cons, List.not_mem_nil, or_false] at hk; omega)) (fun k hk => zd_i (by simp only [List.mem_cons, List.not_mem_nil, or_false] at hk; omega)) (fun _ => rfl) (fun _ => rfl), ?_, ?_⟩
  · rw [zd_i (by decide)]; exact t0
  · rw [zd_i (by decide), zd_i (by decide)]; exact t1
theorem E3.w29 {e v : Int} {h : zH} (p : E3 e h) : E3 e (zw h e 29 v) := p.cg (fun k hk => zw_f (by simp only [List.mem_cons, List.not_mem_nil, or_false] at hk; omega)) (fun k hk => zd_i (by simp only [List.mem_cons, List.not_mem_nil, or_false] at hk; omega))
theorem SI.e3 {e : Int} {h : zH} (p : SI e h) : E3 e h := ⟨⟨_, p.1.1.1⟩, p.1.1.2.1, p.1.1.2.2.1⟩
theorem S_search {e q a1 : Int} {h : zH} {Q : Int → zH → Prop} (he : zE e) (q0 : 0 ≤ q) (q1 : q ≤ 1) (p : SI e h) (a0 : 0 ≤ a1) (a2 : a1 ≤ 2000000000) (k : ∀ r h', (r = -1004 ∨ r = -1003 ∨ r = 0 ∨ r = 1) → zd h' e 29 = r → (r = -1004 → SI e h') → zd h' (e + 18) 0 = 0 → EP e h' → SrS e q (zw h e 31 a1) r h' → Q r h') : P_E_search e a1 h Q := by
  have eR : 25 ≤ e ∧ e ≤ 58 := by rcases he with z | z <;> omega
  unfold P_E_search
  intro h1 e1
  have S1 : SI e h1 := by
    obtain ⟨p0, t0, t1⟩ := p
    rw [e1]
    refine ⟨p0.cg (fun k hk => zw_f (by simp only [List.mem_cons, List.not_mem_nil, or_false] at hk; omega)) (fun k hk => zd_i (by simp only [List.mem_cons, List.not_mem_nil, or_false] at hk; omega)) (fun _ => rfl) (fun _ => rfl), ?_, ?_⟩
    · rw [zd_i (by decide)]; exact t0
    · rw [zd_i (by decide), zd_i (by decide)]; exact t1
  rw [← e1] at k
  have l1 : zd h1 e 31 = a1 := by rw [e1, zd_s]
  -- the model's solving out of a Conn
  have run : ∀ {h' : zH} {C : zH → Prop} {G : (Int → zH → Prop) → zH → Prop}, Conn e q h1 h' C G → ∀ m, Rel e q h1 m → ∀ Q' : Int → zH → Prop, (∀ m', Rel e q h' m' → MFw q m m' → C m' → G Q' m') → P_M_solving q m Q' := by
    intro h' C G c m R Q' kk
    unfold P_M_solving
    exact ⟨a1.toNat + 2, c m R _ Q' (by omega) kk⟩
  have nowr : ∀ {h' : zH}, SI e h' → (0 ≤ zd h' e 21 ∧ zd h' e 21 ≤ 321) ∧ zd h' (e + 18) 0 = 0 := by
    intro h' S
    exact ⟨S.1.1.2.2.2.1.1.1, S.1.2.2.2.2.2.2.2.2.2.2.2.1⟩
  -- spent
  have spent : ∀ h', SI e h' → Conn e q h1 h' (fun _ => True) (G1 (-1004)) → Q (-1004) (zw h' e 29 (-1004)) := by
    intro h' S c
    refine k (-1004) _ (Or.inl rfl) (zd_s _ _ _ _) (fun _ => S.w29) (by rw [zd_a (by omega)]; exact (nowr S).2) (by unfold EP; rw [zw_f (by omega), zw_f (by omega)]; exact ⟨S.1.1.2.1.2.1.2.1, S.1.1.2.1.2.1.2.2⟩) ?_
    intro m R Q' kq
    refine run c m R Q' (fun m' R' F' _ => ?_)
    have R'' : Rel e q (zw h' e 29 (-1004)) m' := R'.w29 (by omega)
    exact kq m' ⟨fun _ => R'', RE.of R''.1 R''.2.1, R''.2.2.2, fun z => absurd z (by decide), fun z => absurd z (by decide)⟩ F'
  -- what is undone at the end changes nothing of what remains
  have tail : ∀ (r : Int) (h' h2 : zH), yA [e, e + 3, e + 4, e + 6, e + 11, e + 14] (zw h' e 29 r) h2 → (∀ j, j ≠ 20 → j ≠ 21 → zd h2 e j = zd (zw h' e 29 r) e j) → (∀ m', RE e q h' m' → RE e q h2 m') ∧ (∀ m', RQ e h' m' → RQ e h2 m') ∧ (∀ m', RC e h' m' → RC e h2 m') ∧ zd h2 e 29 = r ∧ zd h2 (e + 18) = zd h' (e + 18) := by
    intro r h' h2 y f
    have ca : ∀ b, b ≠ e → b ≠ e + 3 → b ≠ e + 4 → b ≠ e + 6 → b ≠ e + 11 → b ≠ e + 14 → zd h2 b = zd h' b := fun b n1 n2 n3 n4 n5 n6 => by rw [y.f (b := b) (by simp only [List.mem_cons, List.not_mem_nil, or_false]; omega), zw_f n1]
    have cf : ∀ j, j ≠ 20 → j ≠ 21 → j ≠ 29 → zd h2 e j = zd h' e j := fun j n1 n2 n3 => by rw [f j n1 n2, zd_i n3]
    refine ⟨fun m' p => p.cg (fun k hk => ca _ (by simp only [List.mem_cons, List.not_mem_nil, or_false] at hk; omega) (by simp only [List.mem_cons, List.not_mem_nil, or_false] at hk; omega) (by simp only [List.mem_cons, List.not_mem_nil, or_false] at hk; omega) (by simp only [List.mem_cons, List.not_mem_nil, or_false] at hk; omega) (by simp only [List.mem_cons, List.not_mem_nil, or_false] at hk; omega) (by simp only [List.mem_cons, List.not_mem_nil, or_false] at hk; omega)) (fun k hk => cf k (by simp only [List.mem_cons, List.not_mem_nil, or_false] at hk; omega) (by simp only [List.mem_cons, List.not_mem_nil, or_false] at hk; omega) (by simp only [List.mem_cons, List.not_mem_nil, or_false] at hk; omega)) (fun _ _ => rfl) rfl, fun m' p => p.cg (ca _ (by omega) (by omega) (by omega) (by omega) (by omega) (by omega)) (cf 42 (by decide) (by decide) (by decide)) rfl rfl, fun m' p => p.cg (fun k hk => ca _ (by simp only [List.mem_cons, List.not_mem_nil, or_false] at hk; omega) (by simp only [List.mem_cons, List.not_mem_nil, or_false] at hk; omega) (by simp only [List.mem_cons, List.not_mem_nil, or_false] at hk; omega) (by simp only [List.mem_cons, List.not_mem_nil, or_false] at hk; omega) (by simp only [List.mem_cons, List.not_mem_nil, or_false] at hk; omega) (by simp only [List.mem_cons, List.not_mem_nil, or_false] at hk; omega)) (fun k hk => cf k (by simp only [List.mem_cons, List.not_mem_nil, or_false] at hk; omega) (by simp only [List.mem_cons, List.not_mem_nil, or_false] at hk; omega) (by simp only [List.mem_cons, List.not_mem_nil, or_false] at hk; omega)) (fun _ _ => rfl) (fun _ _ => rfl), by rw [f 29 (by decide) (by decide), zd_s], ca _ (by omega) (by omega) (by omega) (by omega) (by omega) (by omega)⟩
  refine ⟨a1.toNat + 1, S_srch (q := q) he q0 q1 a1.toNat _ h1 (by omega) (by omega) (by omega) S1 ?_ ?_ ?_ ?_ ?_ ?_⟩
  · intro h' S c
    unfold P_E_search_J42 P_E_search_J59
    intro h20 e20
    rw [if_neg (by decide), if_pos rfl, e20]
    exact spent h' S c
  · intro s h' S n0 s0 s1 hq c
    refine S_noAtAll (q := q) he q0 q1 S n0 s0 s1 hq (fun r h2 rr e3 n' z' na => ?_)
    intro h29 e29
    unfold P_E_search_J116
    have rn : r ≠ 1 ∧ r ≠ -1004 ∧ r ≠ 7 := by omega
    rw [if_neg rn.1, if_neg rn.2.1, e29]
    have nn := nowr S
    refine E_fin e3.w29 (by rw [zd_i (by decide)]; omega) (by rw [zd_i (by decide)]; omega) (by rw [zd_a (by omega), z']; exact nn.2) (fun h3 y f ep => ?_)
    obtain ⟨w1, w2, w3, w4, w5⟩ := tail r h2 h3 y f
    refine k r h3 (by omega) w4 (fun z => absurd z rn.2.1) (by rw [w5, z']; exact nn.2) ep ?_
    intro m R Q' kq
    refine run c m R Q' (fun m' R' F' c98 => ?_)
    intro Q'' hq'
    refine na m' R'.1 R'.2.1 R'.2.2.1 c98 R'.2.2.2 Q'' (fun m'' re fw rq' rc => hq' r m'' rn.2.2 (kq m'' ⟨fun z => absurd z rn.2.1, w1 _ re, fun z => w2 _ (rq' z), fun z1 z2 => w3 _ (rc z1 z2), fun z => absurd z rn.1⟩ (F'.tr fw)))
  · intro h' S c
    intro h36 e36
    unfold P_E_search_J172
    rw [if_neg (by decide), if_neg (by decide), e36]
    have nn := nowr S
    refine E_fin S.e3.w29 (by rw [zd_i (by decide)]; omega) (by rw [zd_i (by decide)]; omega) (by rw [zd_a (by omega)]; exact nn.2) (fun h3 y f ep => ?_)
    obtain ⟨w1, w2, w3, w4, w5⟩ := tail (-1003) h' h3 y f
    refine k (-1003) h3 (by decide) w4 (fun z => absurd z (by decide)) (by rw [w5]; exact nn.2) ep ?_
    intro m R Q' kq
    refine run c m R Q' (fun m' R' F' _ => ?_)
    exact kq m' ⟨fun z => absurd z (by decide), w1 _ (RE.of R'.1 R'.2.1), fun z => w2 _ (R'.2.2.2 z), fun z => absurd z (by decide), fun z => absurd z (by decide)⟩ F'
  · intro a h' S ha c
    refine S_noBy (q := q) he q0 q1 S ha (fun r h2 rr e3 n' z' na => ?_)
    intro h29 e29
    unfold P_E_search_J236
    have rn : r ≠ 1 ∧ r ≠ -1004 ∧ r ≠ 7 := by omega
    rw [if_neg rn.1, if_neg rn.2.1, e29]
    have nn := nowr S
    refine E_fin e3.w29 (by rw [zd_i (by decide)]; omega) (by rw [zd_i (by decide)]; omega) (by rw [zd_a (by omega), z']; exact nn.2) (fun h3 y f ep => ?_)
    obtain ⟨w1, w2, w3, w4, w5⟩ := tail r h2 h3 y f
    refine k r h3 (by omega) w4 (fun z => absurd z rn.2.1) (by rw [w5, z']; exact nn.2) ep ?_
    intro m R Q' kq
    refine run c m R Q' (fun m' R' F' _ => ?_)
    intro Q'' hq'
    refine na m' R'.1 R'.2.1 R'.2.2.1 R'.2.2.2 Q'' (fun m'' re fw rq' rc => hq' r m'' rn.2.2 (kq m'' ⟨fun z => absurd z rn.2.1, w1 _ re, fun z => w2 _ (rq' z), fun z1 z2 => w3 _ (rc z1 z2), fun z => absurd z rn.1⟩ (F'.tr fw)))
  · intro h' S al c
    intro h52 e52
    unfold P_E_search_J296
    rw [if_pos rfl]
    have nn := nowr S
    have A3 := S.1.1.1.1
    have a52 : zd h52 e 11 = zd h' e 11 := by rw [e52, zd_i (by decide)]
    refine E_keepTruth (by omega) (by omega) (fun h57 y57 t57 => ?_)
    rw [if_neg (by decide)]
    have c57 : zd h57 e = zd h52 e := y57.f (by simp only [List.mem_cons, List.not_mem_nil, or_false]; omega)
    refine E_fin (E3.cg (S.e3.w29 (v := 1)) (fun k hk => by rw [y57.f (b := e + k) (by simp only [List.mem_cons, List.not_mem_nil, or_false] at hk ⊢; omega), e52]) (fun k hk => by rw [c57, e52])) (by rw [c57, e52, zd_i (by decide)]; omega) (by rw [c57, e52, zd_i (by decide)]; omega) (by rw [y57.f (b := e + 18) (by simp only [List.mem_cons, List.not_mem_nil, or_false]; omega), e52, zd_a (by omega)]; exact nn.2) (fun h3 y f ep => ?_)
    have cah : ∀ b, b ≠ e → b ≠ e + 3 → b ≠ e + 4 → b ≠ e + 6 → b ≠ e + 11 → b ≠ e + 14 → b ≠ e + 32 → zd h3 b = zd h' b := fun b n1 n2 n3 n4 n5 n6 n7 => by rw [y.f (b := b) (by simp only [List.mem_cons, List.not_mem_nil, or_false]; omega), y57.f (b := b) (by simp only [List.mem_cons, List.not_mem_nil, or_false]; omega), e52, zw_f n1]
    have cfh : ∀ j, j ≠ 20 → j ≠ 21 → j ≠ 29 → zd h3 e j = zd h' e j := fun j n1 n2 n3 => by rw [f j n1 n2, c57, e52, zd_i n3]
    have i11 : zd h3 e 11 = zd h' e 11 := cfh 11 (by decide) (by decide) (by decide)
    refine k 1 h3 (by decide) (by rw [f 29 (by decide) (by decide), c57, e52, zd_s]) (fun z => absurd z (by decide)) (by rw [cah (e + 18) (by omega) (by omega) (by omega) (by omega) (by omega) (by omega) (by omega)]; exact nn.2) ep ?_
    intro m R Q' kq
    refine run c m R Q' (fun m' R' F' _ => ?_)
    refine kq m' ⟨fun z => absurd z (by decide), (RE.of R'.1 R'.2.1).cg (fun k hk => cah _ (by simp only [List.mem_cons, List.not_mem_nil, or_false] at hk; omega) (by simp only [List.mem_cons, List.not_mem_nil, or_false] at hk; omega) (by simp only [List.mem_cons, List.not_mem_nil, or_false] at hk; omega) (by simp only [List.mem_cons, List.not_mem_nil, or_false] at hk; omega) (by simp only [List.mem_cons, List.not_mem_nil, or_false] at hk; omega) (by simp only [List.mem_cons, List.not_mem_nil, or_false] at hk; omega) (by simp only [List.mem_cons, List.not_mem_nil, or_false] at hk; omega)) (fun k hk => cfh k (by simp only [List.mem_cons, List.not_mem_nil, or_false] at hk; omega) (by simp only [List.mem_cons, List.not_mem_nil, or_false] at hk; omega) (by simp only [List.mem_cons, List.not_mem_nil, or_false] at hk; omega)) (fun _ _ => rfl) rfl, fun z => (R'.2.2.2 z).cg (cah _ (by omega) (by omega) (by omega) (by omega) (by omega) (by omega) (by omega)) (cfh 42 (by decide) (by decide) (by decide)) rfl rfl, fun z => absurd z (by decide), fun _ n n0 n1 => ?_⟩ F'
    rw [i11] at n1
    have v := R'.1.2.1.1 n n0 n1
    have z := al n n0 n1
    have e32 : zd h3 (e + 32) n = zd h' (e + 11) n := by
      rw [y.d (b := e + 32) (by simp only [List.mem_cons, List.not_mem_nil, or_false]; omega), t57 n n0 (by omega), e52, zd_a (by omega)]
    rw [e32]
    unfold vrel at v
    omega
  · intro h' S c
    intro h59 e59
    unfold P_E_search_J340
    rw [if_neg (by decide), if_pos rfl, e59]
    exact spent h' S c
