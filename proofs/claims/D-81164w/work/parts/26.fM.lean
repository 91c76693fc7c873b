/-! printed by frames.py -/
set_option maxRecDepth 100000
theorem F_M_in {a1 a2 a3 : Int} {h0 h : zH} {Q' Q : Int → zH → Prop} (hf : zF 101 175 h0 h) (hP : P_M_in a1 a2 a3 h Q') (hq : ∀ r h', Q' r h' → zF 101 175 h0 h' → Q r h') : P_M_in a1 a2 a3 h Q := by
  unfold P_M_in at hP ⊢
  exact hq _ _ hP hf
theorem F_M_fail {a1 : Int} {h0 h : zH} {Q' Q : Int → zH → Prop} (hf : zF 101 175 h0 h) (hP : P_M_fail a1 h Q') (hq : ∀ r h', Q' r h' → zF 101 175 h0 h' → Q r h') : P_M_fail a1 h Q := by
  unfold P_M_fail at hP ⊢
  intro h1 e_h1
  have hP := hP h1 e_h1
  have hf := zF.w hf e_h1 (by decide) (by decide)
  exact hq _ _ hP hf
theorem F_M_names {a1 : Int} {h0 h : zH} {Q' Q : Int → zH → Prop} (hf : zF 101 175 h0 h) (hP : P_M_names a1 h Q') (hq : ∀ r h', Q' r h' → zF 101 175 h0 h' → Q r h') : P_M_names a1 h Q := by
  unfold P_M_names at hP ⊢
  refine F_M_in hf hP (fun r1 h2 hP hf => ?_)
  refine zif_i (fun c => ?_) (fun c => ?_)
  · have hP := zif_p hP c
    refine F_M_fail hf hP (fun r7 h8 hP hf => ?_)
    exact hq _ _ hP hf
  · have hP := zif_n hP c
    refine zif_i (fun c => ?_) (fun c => ?_)
    · have hP := zif_p hP c
      intro h3 e_h3
      have hP := hP h3 e_h3
      have hf := zF.w hf e_h3 (by decide) (by decide)
      intro h4 e_h4
      have hP := hP h4 e_h4
      have hf := zF.w hf e_h4 (by decide) (by decide)
      exact hq _ _ hP hf
    · have hP := zif_n hP c
      refine F_M_fail hf hP (fun r5 h6 hP hf => ?_)
      exact hq _ _ hP hf
theorem F_M_isRow {a1 : Int} {h0 h : zH} {Q' Q : Int → zH → Prop} (hf : zF 101 175 h0 h) (hP : P_M_isRow a1 h Q') (hq : ∀ r h', Q' r h' → zF 101 175 h0 h' → Q r h') : P_M_isRow a1 h Q := by
  unfold P_M_isRow at hP ⊢
  refine F_M_in hf hP (fun r1 h2 hP hf => ?_)
  obtain ⟨ob, hP⟩ := hP
  refine ⟨ob, ?_⟩
  exact hq _ _ hP hf
theorem F_M_row_L35 {y1 y2 : Int} {h0 : zH} {Q' Q : Int → zH → Prop} (hq : ∀ r h', Q' r h' → zF 101 175 h0 h' → Q r h') : ∀ (n35 : Nat) (y3 : Int) (h : zH), zF 101 175 h0 h → P_M_row_L35 y1 y2 Q' n35 y3 h → P_M_row_L35 y1 y2 Q n35 y3 h := by
  intro n35
  induction n35 with
  | zero => intro y3 h hf hP; exact absurd hP id
  | succ n35 ih =>
    intro y3 h hf hP
    unfold P_M_row_L35 at hP ⊢
    refine zif_i (fun c => ?_) (fun c => ?_)
    · have hP := zif_p hP c
      obtain ⟨ob, hP⟩ := hP
      refine ⟨ob, ?_⟩
      intro h5 e_h5
      have hP := hP h5 e_h5
      have hf := zF.w hf e_h5 (by decide) (by decide)
      exact hq _ _ hP hf
    · have hP := zif_n hP c
      obtain ⟨ob, hP⟩ := hP
      refine ⟨ob, ?_⟩
      intro h6 e_h6
      have hP := hP h6 e_h6
      have hf := zF.w hf e_h6 (by decide) (by decide)
      intro x3_7 e_x3_7
      have hP := hP x3_7 e_x3_7
      exact ih _ _ hf hP
theorem F_M_row {a1 a2 : Int} {h0 h : zH} {Q' Q : Int → zH → Prop} (hf : zF 101 175 h0 h) (hP : P_M_row a1 a2 h Q') (hq : ∀ r h', Q' r h' → zF 101 175 h0 h' → Q r h') : P_M_row a1 a2 h Q := by
  unfold P_M_row at hP ⊢
  refine F_M_isRow hf hP (fun r1 h2 hP hf => ?_)
  refine zif_i (fun c => ?_) (fun c => ?_)
  · have hP := zif_p hP c
    refine F_M_fail hf hP (fun r3 h4 hP hf => ?_)
    exact hq _ _ hP hf
  · have hP := zif_n hP c
    refine zif_i (fun c => ?_) (fun c => ?_)
    · have hP := zif_p hP c
      refine zif_i (fun c => ?_) (fun c => ?_)
      · have hP := zif_p hP c
        obtain ⟨n35, hP⟩ := hP
        refine ⟨n35, ?_⟩
        refine F_M_row_L35 hq _ _ _ hf hP
      · have hP := zif_n hP c
        refine F_M_fail hf hP (fun r8 h9 hP hf => ?_)
        exact hq _ _ hP hf
    · have hP := zif_n hP c
      refine F_M_fail hf hP (fun r10 h11 hP hf => ?_)
      exact hq _ _ hP hf
theorem F_M_drop {a1 : Int} {h0 h : zH} {Q' Q : Int → zH → Prop} (hf : zF 101 175 h0 h) (hP : P_M_drop a1 h Q') (hq : ∀ r h', Q' r h' → zF 101 175 h0 h' → Q r h') : P_M_drop a1 h Q := by
  unfold P_M_drop at hP ⊢
  refine F_M_isRow hf hP (fun r1 h2 hP hf => ?_)
  refine zif_i (fun c => ?_) (fun c => ?_)
  · have hP := zif_p hP c
    refine F_M_fail hf hP (fun r4 h5 hP hf => ?_)
    exact hq _ _ hP hf
  · have hP := zif_n hP c
    obtain ⟨ob, hP⟩ := hP
    refine ⟨ob, ?_⟩
    intro h3 e_h3
    have hP := hP h3 e_h3
    have hf := zF.w hf e_h3 (by decide) (by decide)
    exact hq _ _ hP hf
theorem F_M_put {a1 a2 a3 : Int} {h0 h : zH} {Q' Q : Int → zH → Prop} (hf : zF 101 175 h0 h) (hP : P_M_put a1 a2 a3 h Q') (hq : ∀ r h', Q' r h' → zF 101 175 h0 h' → Q r h') : P_M_put a1 a2 a3 h Q := by
  unfold P_M_put at hP ⊢
  refine F_M_isRow hf hP (fun r1 h2 hP hf => ?_)
  refine zif_i (fun c => ?_) (fun c => ?_)
  · have hP := zif_p hP c
    refine F_M_fail hf hP (fun r10 h11 hP hf => ?_)
    exact hq _ _ hP hf
  · have hP := zif_n hP c
    obtain ⟨ob, hP⟩ := hP
    refine ⟨ob, ?_⟩
    refine zif_i (fun c => ?_) (fun c => ?_)
    · have hP := zif_p hP c
      obtain ⟨ob, hP⟩ := hP
      refine ⟨ob, ?_⟩
      refine F_M_in hf hP (fun r3 h4 hP hf => ?_)
      refine zif_i (fun c => ?_) (fun c => ?_)
      · have hP := zif_p hP c
        refine F_M_fail hf hP (fun r6 h7 hP hf => ?_)
        exact hq _ _ hP hf
      · have hP := zif_n hP c
        obtain ⟨ob, hP⟩ := hP
        refine ⟨ob, ?_⟩
        intro h5 e_h5
        have hP := hP h5 e_h5
        have hf := zF.w hf e_h5 (by decide) (by decide)
        exact hq _ _ hP hf
    · have hP := zif_n hP c
      refine F_M_fail hf hP (fun r8 h9 hP hf => ?_)
      exact hq _ _ hP hf
theorem F_M_get_J51 {y1 y2 s0 : Int} {h0 h : zH} {Q' Q : Int → zH → Prop} (hf : zF 101 175 h0 h) (hP : P_M_get_J51 y1 y2 s0 h Q') (hq : ∀ r h', Q' r h' → zF 101 175 h0 h' → Q r h') : P_M_get_J51 y1 y2 s0 h Q := by
  unfold P_M_get_J51 at hP ⊢
  refine zif_i (fun c => ?_) (fun c => ?_)
  · have hP := zif_p hP c
    obtain ⟨ob, hP⟩ := hP
    refine ⟨ob, ?_⟩
    exact hq _ _ hP hf
  · have hP := zif_n hP c
    intro h5 e_h5
    have hP := hP h5 e_h5
    have hf := zF.w hf e_h5 (by decide) (by decide)
    exact hq _ _ hP hf
theorem F_M_get {a1 a2 : Int} {h0 h : zH} {Q' Q : Int → zH → Prop} (hf : zF 101 175 h0 h) (hP : P_M_get a1 a2 h Q') (hq : ∀ r h', Q' r h' → zF 101 175 h0 h' → Q r h') : P_M_get a1 a2 h Q := by
  unfold P_M_get at hP ⊢
  refine F_M_isRow hf hP (fun r1 h2 hP hf => ?_)
  refine zif_i (fun c => ?_) (fun c => ?_)
  · have hP := zif_p hP c
    refine F_M_get_J51 hf hP hq
  · have hP := zif_n hP c
    obtain ⟨ob, hP⟩ := hP
    refine ⟨ob, ?_⟩
    refine zif_i (fun c => ?_) (fun c => ?_)
    · have hP := zif_p hP c
      obtain ⟨ob, hP⟩ := hP
      refine ⟨ob, ?_⟩
      refine F_M_in hf hP (fun r3 h4 hP hf => ?_)
      refine F_M_get_J51 hf hP hq
    · have hP := zif_n hP c
      refine F_M_get_J51 hf hP hq
theorem F_M_copy_L120 {y1 y2 y3 y4 y5 : Int} {h0 : zH} {Q' Q : Int → zH → Prop} {k154' k154 : zH → Prop} (hq : ∀ r h', Q' r h' → zF 101 175 h0 h' → Q r h') (hk154 : ∀ h', k154' h' → zF 101 175 h0 h' → k154 h') : ∀ (n120 : Nat) (y6 : Int) (h : zH), zF 101 175 h0 h → P_M_copy_L120 y1 y2 y3 y4 y5 Q' k154' n120 y6 h → P_M_copy_L120 y1 y2 y3 y4 y5 Q k154 n120 y6 h := by
  intro n120
  induction n120 with
  | zero => intro y6 h hf hP; exact absurd hP id
  | succ n120 ih =>
    intro y6 h hf hP
    unfold P_M_copy_L120 at hP ⊢
    refine zif_i (fun c => ?_) (fun c => ?_)
    · have hP := zif_p hP c
      exact hk154 _ hP hf
    · have hP := zif_n hP c
      obtain ⟨ob, hP⟩ := hP
      refine ⟨ob, ?_⟩
      obtain ⟨ob, hP⟩ := hP
      refine ⟨ob, ?_⟩
      intro h21 e_h21
      have hP := hP h21 e_h21
      have hf := zF.w hf e_h21 (by decide) (by decide)
      intro x6_22 e_x6_22
      have hP := hP x6_22 e_x6_22
      exact ih _ _ hf hP
theorem F_M_copy_L157 {y3 y4 y5 : Int} {h0 : zH} {Q' Q : Int → zH → Prop} (hq : ∀ r h', Q' r h' → zF 101 175 h0 h' → Q r h') : ∀ (n157 : Nat) (y6 : Int) (h : zH), zF 101 175 h0 h → P_M_copy_L157 y3 y4 y5 Q' n157 y6 h → P_M_copy_L157 y3 y4 y5 Q n157 y6 h := by
  intro n157
  induction n157 with
  | zero => intro y6 h hf hP; exact absurd hP id
  | succ n157 ih =>
    intro y6 h hf hP
    unfold P_M_copy_L157 at hP ⊢
    refine zif_i (fun c => ?_) (fun c => ?_)
    · have hP := zif_p hP c
      exact hq _ _ hP hf
    · have hP := zif_n hP c
      obtain ⟨ob, hP⟩ := hP
      refine ⟨ob, ?_⟩
      obtain ⟨ob, hP⟩ := hP
      refine ⟨ob, ?_⟩
      intro h24 e_h24
      have hP := hP h24 e_h24
      have hf := zF.w hf e_h24 (by decide) (by decide)
      intro x6_25 e_x6_25
      have hP := hP x6_25 e_x6_25
      exact ih _ _ hf hP
theorem F_M_copy {a1 a2 a3 a4 a5 : Int} {h0 h : zH} {Q' Q : Int → zH → Prop} (hf : zF 101 175 h0 h) (hP : P_M_copy a1 a2 a3 a4 a5 h Q') (hq : ∀ r h', Q' r h' → zF 101 175 h0 h' → Q r h') : P_M_copy a1 a2 a3 a4 a5 h Q := by
  unfold P_M_copy at hP ⊢
  refine F_M_isRow hf hP (fun r1 h2 hP hf => ?_)
  refine zif_i (fun c => ?_) (fun c => ?_)
  · have hP := zif_p hP c
    refine F_M_fail hf hP (fun r3 h4 hP hf => ?_)
    exact hq _ _ hP hf
  · have hP := zif_n hP c
    refine F_M_isRow hf hP (fun r5 h6 hP hf => ?_)
    refine zif_i (fun c => ?_) (fun c => ?_)
    · have hP := zif_p hP c
      refine F_M_fail hf hP (fun r30 h31 hP hf => ?_)
      exact hq _ _ hP hf
    · have hP := zif_n hP c
      obtain ⟨ob, hP⟩ := hP
      refine ⟨ob, ?_⟩
      refine zif_i (fun c => ?_) (fun c => ?_)
      · have hP := zif_p hP c
        refine F_M_fail hf hP (fun r7 h8 hP hf => ?_)
        exact hq _ _ hP hf
      · have hP := zif_n hP c
        obtain ⟨ob, hP⟩ := hP
        refine ⟨ob, ?_⟩
        refine zif_i (fun c => ?_) (fun c => ?_)
        · have hP := zif_p hP c
          obtain ⟨ob, hP⟩ := hP
          refine ⟨ob, ?_⟩
          refine F_M_in hf hP (fun r9 h10 hP hf => ?_)
          refine zif_i (fun c => ?_) (fun c => ?_)
          · have hP := zif_p hP c
            refine F_M_fail hf hP (fun r11 h12 hP hf => ?_)
            exact hq _ _ hP hf
          · have hP := zif_n hP c
            obtain ⟨ob, hP⟩ := hP
            refine ⟨ob, ?_⟩
            refine F_M_in hf hP (fun r13 h14 hP hf => ?_)
            refine zif_i (fun c => ?_) (fun c => ?_)
            · have hP := zif_p hP c
              refine F_M_fail hf hP (fun r15 h16 hP hf => ?_)
              exact hq _ _ hP hf
            · have hP := zif_n hP c
              refine zif_i (fun c => ?_) (fun c => ?_)
              · have hP := zif_p hP c
                refine F_M_fail hf hP (fun r17 h18 hP hf => ?_)
                exact hq _ _ hP hf
              · have hP := zif_n hP c
                obtain ⟨ob, hP⟩ := hP
                refine ⟨ob, ?_⟩
                refine zif_i (fun c => ?_) (fun c => ?_)
                · have hP := zif_p hP c
                  refine F_M_fail hf hP (fun r19 h20 hP hf => ?_)
                  exact hq _ _ hP hf
                · have hP := zif_n hP c
                  obtain ⟨ob, hP⟩ := hP
                  refine ⟨ob, ?_⟩
                  refine zif_i (fun c => ?_) (fun c => ?_)
                  · have hP := zif_p hP c
                    obtain ⟨n120, hP⟩ := hP
                    refine ⟨n120, ?_⟩
                    refine F_M_copy_L120 hq (fun h23 hP hf => ?_) _ _ _ hf hP
                    obtain ⟨n157, hP⟩ := hP
                    refine ⟨n157, ?_⟩
                    refine F_M_copy_L157 hq _ _ _ hf hP
                  · have hP := zif_n hP c
                    refine F_M_fail hf hP (fun r26 h27 hP hf => ?_)
                    exact hq _ _ hP hf
        · have hP := zif_n hP c
          refine F_M_fail hf hP (fun r28 h29 hP hf => ?_)
          exact hq _ _ hP hf
theorem F_M_cut {a1 a2 : Int} {h0 h : zH} {Q' Q : Int → zH → Prop} (hf : zF 101 175 h0 h) (hP : P_M_cut a1 a2 h Q') (hq : ∀ r h', Q' r h' → zF 101 175 h0 h' → Q r h') : P_M_cut a1 a2 h Q := by
  unfold P_M_cut at hP ⊢
  refine F_M_isRow hf hP (fun r1 h2 hP hf => ?_)
  refine zif_i (fun c => ?_) (fun c => ?_)
  · have hP := zif_p hP c
    refine F_M_fail hf hP (fun r3 h4 hP hf => ?_)
    exact hq _ _ hP hf
  · have hP := zif_n hP c
    refine zif_i (fun c => ?_) (fun c => ?_)
    · have hP := zif_p hP c
      refine zif_i (fun c => ?_) (fun c => ?_)
      · have hP := zif_p hP c
        obtain ⟨ob, hP⟩ := hP
        refine ⟨ob, ?_⟩
        refine zif_i (fun c => ?_) (fun c => ?_)
        · have hP := zif_p hP c
          obtain ⟨ob, hP⟩ := hP
          refine ⟨ob, ?_⟩
          refine zif_i (fun c => ?_) (fun c => ?_)
          · have hP := zif_p hP c
            obtain ⟨ob, hP⟩ := hP
            refine ⟨ob, ?_⟩
            intro h5 e_h5
            have hP := hP h5 e_h5
            have hf := zF.w hf e_h5 (by decide) (by decide)
            exact hq _ _ hP hf
          · have hP := zif_n hP c
            refine F_M_fail hf hP (fun r6 h7 hP hf => ?_)
            exact hq _ _ hP hf
        · have hP := zif_n hP c
          refine F_M_fail hf hP (fun r8 h9 hP hf => ?_)
          exact hq _ _ hP hf
      · have hP := zif_n hP c
        refine F_M_fail hf hP (fun r10 h11 hP hf => ?_)
        exact hq _ _ hP hf
    · have hP := zif_n hP c
      refine F_M_fail hf hP (fun r12 h13 hP hf => ?_)
      exact hq _ _ hP hf
theorem F_M_feed_L42 {y1 : Int} {h0 : zH} {Q' Q : Int → zH → Prop} (hq : ∀ r h', Q' r h' → zF 101 175 h0 h' → Q r h') : ∀ (n42 : Nat) (y4 : Int) (h : zH), zF 101 175 h0 h → P_M_feed_L42 y1 Q' n42 y4 h → P_M_feed_L42 y1 Q n42 y4 h := by
  intro n42
  induction n42 with
  | zero => intro y4 h hf hP; exact absurd hP id
  | succ n42 ih =>
    intro y4 h hf hP
    unfold P_M_feed_L42 at hP ⊢
    refine zif_i (fun c => ?_) (fun c => ?_)
    · have hP := zif_p hP c
      exact hq _ _ hP hf
    · have hP := zif_n hP c
      obtain ⟨ob, hP⟩ := hP
      refine ⟨ob, ?_⟩
      intro h4 e_h4
      have hP := hP h4 e_h4
      have hf := zF.w hf e_h4 (by decide) (by decide)
      intro h5 e_h5
      have hP := hP h5 e_h5
      have hf := zF.w hf e_h5 (by decide) (by decide)
      intro x4_6 e_x4_6
      have hP := hP x4_6 e_x4_6
      exact ih _ _ hf hP
theorem F_M_feed {a1 a2 : Int} {h0 h : zH} {Q' Q : Int → zH → Prop} (hf : zF 101 175 h0 h) (hP : P_M_feed a1 a2 h Q') (hq : ∀ r h', Q' r h' → zF 101 175 h0 h' → Q r h') : P_M_feed a1 a2 h Q := by
  unfold P_M_feed at hP ⊢
  refine F_M_in hf hP (fun r1 h2 hP hf => ?_)
  refine zif_i (fun c => ?_) (fun c => ?_)
  · have hP := zif_p hP c
    refine F_M_fail hf hP (fun r9 h10 hP hf => ?_)
    exact hq _ _ hP hf
  · have hP := zif_n hP c
    refine zif_i (fun c => ?_) (fun c => ?_)
    · have hP := zif_p hP c
      intro x4_3 e_x4_3
      have hP := hP x4_3 e_x4_3
      obtain ⟨n42, hP⟩ := hP
      refine ⟨n42, ?_⟩
      refine F_M_feed_L42 hq _ _ _ hf hP
    · have hP := zif_n hP c
      refine F_M_fail hf hP (fun r7 h8 hP hf => ?_)
      exact hq _ _ hP hf
theorem F_M_wipe {h0 h : zH} {Q' Q : Int → zH → Prop} (hf : zF 101 175 h0 h) (hP : P_M_wipe h Q') (hq : ∀ r h', Q' r h' → zF 101 175 h0 h' → Q r h') : P_M_wipe h Q := by
  unfold P_M_wipe at hP ⊢
  intro x1_1 e_x1_1
  have hP := hP x1_1 e_x1_1
  intro h2 e_h2
  have hP := hP h2 e_h2
  have hf := zF.w hf e_h2 (by decide) (by decide)
  exact hq _ _ hP hf
theorem F_M_nameOf {a1 : Int} {h0 h : zH} {Q' Q : Int → zH → Prop} (hf : zF 101 175 h0 h) (hP : P_M_nameOf a1 h Q') (hq : ∀ r h', Q' r h' → zF 101 175 h0 h' → Q r h') : P_M_nameOf a1 h Q := by
  unfold P_M_nameOf at hP ⊢
  exact hq _ _ hP hf
theorem F_M_wrongItem {a1 : Int} {h0 h : zH} {Q' Q : Int → zH → Prop} (hf : zF 101 175 h0 h) (hP : P_M_wrongItem a1 h Q') (hq : ∀ r h', Q' r h' → zF 101 175 h0 h' → Q r h') : P_M_wrongItem a1 h Q := by
  unfold P_M_wrongItem at hP ⊢
  refine zif_i (fun c => ?_) (fun c => ?_)
  · have hP := zif_p hP c
    exact hq _ _ hP hf
  · have hP := zif_n hP c
    refine zif_i (fun c => ?_) (fun c => ?_)
    · have hP := zif_p hP c
      exact hq _ _ hP hf
    · have hP := zif_n hP c
      refine zif_i (fun c => ?_) (fun c => ?_)
      · have hP := zif_p hP c
        refine F_M_nameOf hf hP (fun r1 h2 hP hf => ?_)
        exact hq _ _ hP hf
      · have hP := zif_n hP c
        exact hq _ _ hP hf
theorem F_M_takeItems_J70 {y1 y3 s0 : Int} {h0 h : zH} {Q' Q : Int → zH → Prop} {k27' k27 : Int → Int → zH → Prop} (hf : zF 101 175 h0 h) (hP : P_M_takeItems_J70 y1 y3 s0 h Q' k27') (hq : ∀ r h', Q' r h' → zF 101 175 h0 h' → Q r h') (hk27 : ∀ v0 v1 h', k27' v0 v1 h' → zF 101 175 h0 h' → k27 v0 v1 h') : P_M_takeItems_J70 y1 y3 s0 h Q k27 := by
  unfold P_M_takeItems_J70 at hP ⊢
  intro x3_5 e_x3_5
  have hP := hP x3_5 e_x3_5
  exact hk27 _ _ _ hP hf
theorem F_M_takeItems_L27 {y1 : Int} {h0 : zH} {Q' Q : Int → zH → Prop} (hq : ∀ r h', Q' r h' → zF 101 175 h0 h' → Q r h') : ∀ (n27 : Nat) (y2 y3 : Int) (h : zH), zF 101 175 h0 h → P_M_takeItems_L27 y1 Q' n27 y2 y3 h → P_M_takeItems_L27 y1 Q n27 y2 y3 h := by
  intro n27
  induction n27 with
  | zero => intro y2 y3 h hf hP; exact absurd hP id
  | succ n27 ih =>
    intro y2 y3 h hf hP
    unfold P_M_takeItems_L27 at hP ⊢
    refine zif_i (fun c => ?_) (fun c => ?_)
    · have hP := zif_p hP c
      exact hq _ _ hP hf
    · have hP := zif_n hP c
      obtain ⟨ob, hP⟩ := hP
      refine ⟨ob, ?_⟩
      obtain ⟨ob, hP⟩ := hP
      refine ⟨ob, ?_⟩
      intro h2 e_h2
      have hP := hP h2 e_h2
      have hf := zF.w hf e_h2 (by decide) (by decide)
      refine zif_i (fun c => ?_) (fun c => ?_)
      · have hP := zif_p hP c
        obtain ⟨ob, hP⟩ := hP
        refine ⟨ob, ?_⟩
        refine F_M_wrongItem hf hP (fun r3 h4 hP hf => ?_)
        refine F_M_takeItems_J70 hf hP hq (fun v0 v1 h' hP hf => ih v0 v1 h' hf hP)
      · have hP := zif_n hP c
        refine F_M_takeItems_J70 hf hP hq (fun v0 v1 h' hP hf => ih v0 v1 h' hf hP)
theorem F_M_takeItems {a1 : Int} {h0 h : zH} {Q' Q : Int → zH → Prop} (hf : zF 101 175 h0 h) (hP : P_M_takeItems a1 h Q') (hq : ∀ r h', Q' r h' → zF 101 175 h0 h' → Q r h') : P_M_takeItems a1 h Q := by
  unfold P_M_takeItems at hP ⊢
  obtain ⟨ob, hP⟩ := hP
  refine ⟨ob, ?_⟩
  refine zif_i (fun c => ?_) (fun c => ?_)
  · have hP := zif_p hP c
    obtain ⟨ob, hP⟩ := hP
    refine ⟨ob, ?_⟩
    intro h1 e_h1
    have hP := hP h1 e_h1
    have hf := zF.w hf e_h1 (by decide) (by decide)
    obtain ⟨n27, hP⟩ := hP
    refine ⟨n27, ?_⟩
    refine F_M_takeItems_L27 hq _ _ _ _ hf hP
  · have hP := zif_n hP c
    exact hq _ _ hP hf
theorem F_M_beginLaying_J15 {s0 : Int} {h0 h : zH} {Q' Q : Int → zH → Prop} (hf : zF 101 175 h0 h) (hP : P_M_beginLaying_J15 s0 h Q') (hq : ∀ r h', Q' r h' → zF 101 175 h0 h' → Q r h') : P_M_beginLaying_J15 s0 h Q := by
  unfold P_M_beginLaying_J15 at hP ⊢
  obtain ⟨ob, hP⟩ := hP
  refine ⟨ob, ?_⟩
  intro h1 e_h1
  have hP := hP h1 e_h1
  have hf := zF.w hf e_h1 (by decide) (by decide)
  intro h2 e_h2
  have hP := hP h2 e_h2
  have hf := zF.w hf e_h2 (by decide) (by decide)
  intro h3 e_h3
  have hP := hP h3 e_h3
  have hf := zF.w hf e_h3 (by decide) (by decide)
  intro h4 e_h4
  have hP := hP h4 e_h4
  have hf := zF.w hf e_h4 (by decide) (by decide)
  exact hq _ _ hP hf
theorem F_M_beginLaying {h0 h : zH} {Q' Q : Int → zH → Prop} (hf : zF 101 175 h0 h) (hP : P_M_beginLaying h Q') (hq : ∀ r h', Q' r h' → zF 101 175 h0 h' → Q r h') : P_M_beginLaying h Q := by
  unfold P_M_beginLaying at hP ⊢
  refine F_M_beginLaying_J15 hf hP hq
theorem F_M_lay_J31 {y1 y3 s0 : Int} {h0 h : zH} {Q' Q : Int → zH → Prop} {k4' k4 : Int → Int → zH → Prop} (hf : zF 101 175 h0 h) (hP : P_M_lay_J31 y1 y3 s0 h Q' k4') (hq : ∀ r h', Q' r h' → zF 101 175 h0 h' → Q r h') (hk4 : ∀ v0 v1 h', k4' v0 v1 h' → zF 101 175 h0 h' → k4 v0 v1 h') : P_M_lay_J31 y1 y3 s0 h Q k4 := by
  unfold P_M_lay_J31 at hP ⊢
  intro x3_1 e_x3_1
  have hP := hP x3_1 e_x3_1
  exact hk4 _ _ _ hP hf
theorem F_M_lay_L4 {y1 : Int} {h0 : zH} {Q' Q : Int → zH → Prop} {k38' k38 : Int → zH → Prop} (hq : ∀ r h', Q' r h' → zF 101 175 h0 h' → Q r h') (hk38 : ∀ v0 h', k38' v0 h' → zF 101 175 h0 h' → k38 v0 h') : ∀ (n4 : Nat) (y2 y3 : Int) (h : zH), zF 101 175 h0 h → P_M_lay_L4 y1 Q' k38' n4 y2 y3 h → P_M_lay_L4 y1 Q k38 n4 y2 y3 h := by
  intro n4
  induction n4 with
  | zero => intro y2 y3 h hf hP; exact absurd hP id
  | succ n4 ih =>
    intro y2 y3 h hf hP
    unfold P_M_lay_L4 at hP ⊢
    refine zif_i (fun c => ?_) (fun c => ?_)
    · have hP := zif_p hP c
      exact hk38 _ _ hP hf
    · have hP := zif_n hP c
      obtain ⟨ob, hP⟩ := hP
      refine ⟨ob, ?_⟩
      refine F_M_lay_J31 hf hP hq (fun v0 v1 h' hP hf => ih v0 v1 h' hf hP)
theorem F_M_lay {a1 : Int} {h0 h : zH} {Q' Q : Int → zH → Prop} (hf : zF 101 175 h0 h) (hP : P_M_lay a1 h Q') (hq : ∀ r h', Q' r h' → zF 101 175 h0 h' → Q r h') : P_M_lay a1 h Q := by
  unfold P_M_lay at hP ⊢
  obtain ⟨n4, hP⟩ := hP
  refine ⟨n4, ?_⟩
  refine F_M_lay_L4 hq (fun u2_38 h2 hP hf => ?_) _ _ _ _ hf hP
  refine zif_i (fun c => ?_) (fun c => ?_)
  · have hP := zif_p hP c
    obtain ⟨ob, hP⟩ := hP
    refine ⟨ob, ?_⟩
    intro h3 e_h3
    have hP := hP h3 e_h3
    have hf := zF.w hf e_h3 (by decide) (by decide)
    intro h4 e_h4
    have hP := hP h4 e_h4
    have hf := zF.w hf e_h4 (by decide) (by decide)
    exact hq _ _ hP hf
  · have hP := zif_n hP c
    exact hq _ _ hP hf
theorem F_M_endRow_L55 {h0 : zH} {Q' Q : Int → zH → Prop} {k91' k91 : zH → Prop} (hq : ∀ r h', Q' r h' → zF 101 175 h0 h' → Q r h') (hk91 : ∀ h', k91' h' → zF 101 175 h0 h' → k91 h') : ∀ (n55 : Nat) (y1 : Int) (h : zH), zF 101 175 h0 h → P_M_endRow_L55 Q' k91' n55 y1 h → P_M_endRow_L55 Q k91 n55 y1 h := by
  intro n55
  induction n55 with
  | zero => intro y1 h hf hP; exact absurd hP id
  | succ n55 ih =>
    intro y1 h hf hP
    unfold P_M_endRow_L55 at hP ⊢
    refine zif_i (fun c => ?_) (fun c => ?_)
    · have hP := zif_p hP c
      exact hk91 _ hP hf
    · have hP := zif_n hP c
      obtain ⟨ob, hP⟩ := hP
      refine ⟨ob, ?_⟩
      obtain ⟨ob, hP⟩ := hP
      refine ⟨ob, ?_⟩
      obtain ⟨ob, hP⟩ := hP
      refine ⟨ob, ?_⟩
      intro h3 e_h3
      have hP := hP h3 e_h3
      have hf := zF.w hf e_h3 (by decide) (by decide)
      intro x1_4 e_x1_4
      have hP := hP x1_4 e_x1_4
      exact ih _ _ hf hP
theorem F_M_endRow_J43 {s0 : Int} {h0 h : zH} {Q' Q : Int → zH → Prop} (hf : zF 101 175 h0 h) (hP : P_M_endRow_J43 s0 h Q') (hq : ∀ r h', Q' r h' → zF 101 175 h0 h' → Q r h') : P_M_endRow_J43 s0 h Q := by
  unfold P_M_endRow_J43 at hP ⊢
  obtain ⟨ob, hP⟩ := hP
  refine ⟨ob, ?_⟩
  intro h1 e_h1
  have hP := hP h1 e_h1
  have hf := zF.w hf e_h1 (by decide) (by decide)
  refine zif_i (fun c => ?_) (fun c => ?_)
  · have hP := zif_p hP c
    obtain ⟨n55, hP⟩ := hP
    refine ⟨n55, ?_⟩
    refine F_M_endRow_L55 hq (fun h5 hP hf => ?_) _ _ _ hf hP
    obtain ⟨ob, hP⟩ := hP
    refine ⟨ob, ?_⟩
    obtain ⟨ob, hP⟩ := hP
    refine ⟨ob, ?_⟩
    intro h6 e_h6
    have hP := hP h6 e_h6
    have hf := zF.w hf e_h6 (by decide) (by decide)
    intro h7 e_h7
    have hP := hP h7 e_h7
    have hf := zF.w hf e_h7 (by decide) (by decide)
    intro h8 e_h8
    have hP := hP h8 e_h8
    have hf := zF.w hf e_h8 (by decide) (by decide)
    exact hq _ _ hP hf
  · have hP := zif_n hP c
    intro h2 e_h2
    have hP := hP h2 e_h2
    have hf := zF.w hf e_h2 (by decide) (by decide)
    exact hq _ _ hP hf
theorem F_M_endRow {h0 h : zH} {Q' Q : Int → zH → Prop} (hf : zF 101 175 h0 h) (hP : P_M_endRow h Q') (hq : ∀ r h', Q' r h' → zF 101 175 h0 h' → Q r h') : P_M_endRow h Q := by
  unfold P_M_endRow at hP ⊢
  obtain ⟨ob, hP⟩ := hP
  refine ⟨ob, ?_⟩
  refine F_M_endRow_J43 hf hP hq
theorem F_M_keepRule_L75 {y4 : Int} {h0 : zH} {Q' Q : Int → zH → Prop} {k110' k110 : zH → Prop} (hq : ∀ r h', Q' r h' → zF 101 175 h0 h' → Q r h') (hk110 : ∀ h', k110' h' → zF 101 175 h0 h' → k110 h') : ∀ (n75 : Nat) (y5 : Int) (h : zH), zF 101 175 h0 h → P_M_keepRule_L75 y4 Q' k110' n75 y5 h → P_M_keepRule_L75 y4 Q k110 n75 y5 h := by
  intro n75
  induction n75 with
  | zero => intro y5 h hf hP; exact absurd hP id
  | succ n75 ih =>
    intro y5 h hf hP
    unfold P_M_keepRule_L75 at hP ⊢
    refine zif_i (fun c => ?_) (fun c => ?_)
    · have hP := zif_p hP c
      exact hk110 _ hP hf
    · have hP := zif_n hP c
      obtain ⟨ob, hP⟩ := hP
      refine ⟨ob, ?_⟩
      obtain ⟨ob, hP⟩ := hP
      refine ⟨ob, ?_⟩
      intro h6 e_h6
      have hP := hP h6 e_h6
      have hf := zF.w hf e_h6 (by decide) (by decide)
      intro x5_7 e_x5_7
      have hP := hP x5_7 e_x5_7
      exact ih _ _ hf hP
theorem F_M_keepRule {a1 a2 a3 : Int} {h0 h : zH} {Q' Q : Int → zH → Prop} (hf : zF 101 175 h0 h) (hP : P_M_keepRule a1 a2 a3 h Q') (hq : ∀ r h', Q' r h' → zF 101 175 h0 h' → Q r h') : P_M_keepRule a1 a2 a3 h Q := by
  unfold P_M_keepRule at hP ⊢
  refine zif_i (fun c => ?_) (fun c => ?_)
  · have hP := zif_p hP c
    intro x4_1 e_x4_1
    have hP := hP x4_1 e_x4_1
    obtain ⟨ob, hP⟩ := hP
    refine ⟨ob, ?_⟩
    intro h2 e_h2
    have hP := hP h2 e_h2
    have hf := zF.w hf e_h2 (by decide) (by decide)
    obtain ⟨ob, hP⟩ := hP
    refine ⟨ob, ?_⟩
    intro h3 e_h3
    have hP := hP h3 e_h3
    have hf := zF.w hf e_h3 (by decide) (by decide)
    obtain ⟨ob, hP⟩ := hP
    refine ⟨ob, ?_⟩
    intro h4 e_h4
    have hP := hP h4 e_h4
    have hf := zF.w hf e_h4 (by decide) (by decide)
    obtain ⟨ob, hP⟩ := hP
    refine ⟨ob, ?_⟩
    intro h5 e_h5
    have hP := hP h5 e_h5
    have hf := zF.w hf e_h5 (by decide) (by decide)
    obtain ⟨n75, hP⟩ := hP
    refine ⟨n75, ?_⟩
    refine F_M_keepRule_L75 hq (fun h8 hP hf => ?_) _ _ _ hf hP
    obtain ⟨ob, hP⟩ := hP
    refine ⟨ob, ?_⟩
    intro h9 e_h9
    have hP := hP h9 e_h9
    have hf := zF.w hf e_h9 (by decide) (by decide)
    obtain ⟨ob, hP⟩ := hP
    refine ⟨ob, ?_⟩
    intro h10 e_h10
    have hP := hP h10 e_h10
    have hf := zF.w hf e_h10 (by decide) (by decide)
    intro h11 e_h11
    have hP := hP h11 e_h11
    have hf := zF.w hf e_h11 (by decide) (by decide)
    intro h12 e_h12
    have hP := hP h12 e_h12
    have hf := zF.w hf e_h12 (by decide) (by decide)
    exact hq _ _ hP hf
  · have hP := zif_n hP c
    intro h13 e_h13
    have hP := hP h13 e_h13
    have hf := zF.w hf e_h13 (by decide) (by decide)
    intro h14 e_h14
    have hP := hP h14 e_h14
    have hf := zF.w hf e_h14 (by decide) (by decide)
    refine F_M_fail hf hP (fun r15 h16 hP hf => ?_)
    exact hq _ _ hP hf
theorem F_M_clause_L37 {h0 : zH} {Q' Q : Int → zH → Prop} (hq : ∀ r h', Q' r h' → zF 101 175 h0 h' → Q r h') : ∀ (n37 : Nat) (y3 : Int) (h : zH), zF 101 175 h0 h → P_M_clause_L37 Q' n37 y3 h → P_M_clause_L37 Q n37 y3 h := by
  intro n37
  induction n37 with
  | zero => intro y3 h hf hP; exact absurd hP id
  | succ n37 ih =>
    intro y3 h hf hP
    unfold P_M_clause_L37 at hP ⊢
    refine zif_i (fun c => ?_) (fun c => ?_)
    · have hP := zif_p hP c
      refine F_M_endRow hf hP (fun r7 h8 hP hf => ?_)
      refine F_M_keepRule hf hP (fun r9 h10 hP hf => ?_)
      exact hq _ _ hP hf
    · have hP := zif_n hP c
      obtain ⟨ob, hP⟩ := hP
      refine ⟨ob, ?_⟩
      refine F_M_lay hf hP (fun r11 h12 hP hf => ?_)
      intro x3_13 e_x3_13
      have hP := hP x3_13 e_x3_13
      exact ih _ _ hf hP
theorem F_M_clause {a1 : Int} {h0 h : zH} {Q' Q : Int → zH → Prop} (hf : zF 101 175 h0 h) (hP : P_M_clause a1 h Q') (hq : ∀ r h', Q' r h' → zF 101 175 h0 h' → Q r h') : P_M_clause a1 h Q := by
  unfold P_M_clause at hP ⊢
  refine F_M_isRow hf hP (fun r1 h2 hP hf => ?_)
  refine zif_i (fun c => ?_) (fun c => ?_)
  · have hP := zif_p hP c
    refine F_M_fail hf hP (fun r16 h17 hP hf => ?_)
    exact hq _ _ hP hf
  · have hP := zif_n hP c
    refine F_M_takeItems hf hP (fun r3 h4 hP hf => ?_)
    refine zif_i (fun c => ?_) (fun c => ?_)
    · have hP := zif_p hP c
      refine F_M_beginLaying hf hP (fun r5 h6 hP hf => ?_)
      obtain ⟨n37, hP⟩ := hP
      refine ⟨n37, ?_⟩
      refine F_M_clause_L37 hq _ _ _ hf hP
    · have hP := zif_n hP c
      refine F_M_fail hf hP (fun r14 h15 hP hf => ?_)
      exact hq _ _ hP hf
theorem F_M_newName_J43 {s0 s1 : Int} {h0 h : zH} {Q' Q : Int → zH → Prop} (hf : zF 101 175 h0 h) (hP : P_M_newName_J43 s0 s1 h Q') (hq : ∀ r h', Q' r h' → zF 101 175 h0 h' → Q r h') : P_M_newName_J43 s0 s1 h Q := by
  unfold P_M_newName_J43 at hP ⊢
  intro h2 e_h2
  have hP := hP h2 e_h2
  have hf := zF.w hf e_h2 (by decide) (by decide)
  exact hq _ _ hP hf
theorem F_M_newName_J23 {s0 : Int} {h0 h : zH} {Q' Q : Int → zH → Prop} (hf : zF 101 175 h0 h) (hP : P_M_newName_J23 s0 h Q') (hq : ∀ r h', Q' r h' → zF 101 175 h0 h' → Q r h') : P_M_newName_J23 s0 h Q := by
  unfold P_M_newName_J23 at hP ⊢
  obtain ⟨ob, hP⟩ := hP
  refine ⟨ob, ?_⟩
  intro h1 e_h1
  have hP := hP h1 e_h1
  have hf := zF.w hf e_h1 (by decide) (by decide)
  refine F_M_newName_J43 hf hP hq
theorem F_M_newName {h0 h : zH} {Q' Q : Int → zH → Prop} (hf : zF 101 175 h0 h) (hP : P_M_newName h Q') (hq : ∀ r h', Q' r h' → zF 101 175 h0 h' → Q r h') : P_M_newName h Q := by
  unfold P_M_newName at hP ⊢
  refine F_M_newName_J23 hf hP hq
theorem F_M_layTwo {a1 a2 : Int} {h0 h : zH} {Q' Q : Int → zH → Prop} (hf : zF 101 175 h0 h) (hP : P_M_layTwo a1 a2 h Q') (hq : ∀ r h', Q' r h' → zF 101 175 h0 h' → Q r h') : P_M_layTwo a1 a2 h Q := by
  unfold P_M_layTwo at hP ⊢
  refine F_M_lay hf hP (fun r1 h2 hP hf => ?_)
  refine F_M_lay hf hP (fun r3 h4 hP hf => ?_)
  refine F_M_endRow hf hP (fun r5 h6 hP hf => ?_)
  exact hq _ _ hP hf
theorem F_M_layThree {a1 a2 a3 : Int} {h0 h : zH} {Q' Q : Int → zH → Prop} (hf : zF 101 175 h0 h) (hP : P_M_layThree a1 a2 a3 h Q') (hq : ∀ r h', Q' r h' → zF 101 175 h0 h' → Q r h') : P_M_layThree a1 a2 a3 h Q := by
  unfold P_M_layThree at hP ⊢
  refine F_M_lay hf hP (fun r1 h2 hP hf => ?_)
  refine F_M_lay hf hP (fun r3 h4 hP hf => ?_)
  refine F_M_lay hf hP (fun r5 h6 hP hf => ?_)
  refine F_M_endRow hf hP (fun r7 h8 hP hf => ?_)
  exact hq _ _ hP hf
theorem F_M_layAtMost_J200 {y1 y2 y3 y4 y5 : Int} {h0 h : zH} {Q' Q : Int → zH → Prop} {k23' k23 : Int → zH → Prop} (hf : zF 101 175 h0 h) (hP : P_M_layAtMost_J200 y1 y2 y3 y4 y5 h Q' k23') (hq : ∀ r h', Q' r h' → zF 101 175 h0 h' → Q r h') (hk23 : ∀ v0 h', k23' v0 h' → zF 101 175 h0 h' → k23 v0 h') : P_M_layAtMost_J200 y1 y2 y3 y4 y5 h Q k23 := by
  unfold P_M_layAtMost_J200 at hP ⊢
  intro x5_11 e_x5_11
  have hP := hP x5_11 e_x5_11
  exact hk23 _ _ hP hf
theorem F_M_layAtMost_J191 {y1 y2 y3 y4 y5 y6 : Int} {h0 h : zH} {Q' Q : Int → zH → Prop} {k23' k23 : Int → zH → Prop} (hf : zF 101 175 h0 h) (hP : P_M_layAtMost_J191 y1 y2 y3 y4 y5 y6 h Q' k23') (hq : ∀ r h', Q' r h' → zF 101 175 h0 h' → Q r h') (hk23 : ∀ v0 h', k23' v0 h' → zF 101 175 h0 h' → k23 v0 h') : P_M_layAtMost_J191 y1 y2 y3 y4 y5 y6 h Q k23 := by
  unfold P_M_layAtMost_J191 at hP ⊢
  obtain ⟨ob, hP⟩ := hP
  refine ⟨ob, ?_⟩
  intro h10 e_h10
  have hP := hP h10 e_h10
  have hf := zF.w hf e_h10 (by decide) (by decide)
  refine F_M_layAtMost_J200 hf hP hq hk23
theorem F_M_layAtMost_J176 {y1 y2 y3 y4 y5 y6 y8 : Int} {h0 h : zH} {Q' Q : Int → zH → Prop} {k23' k23 : Int → zH → Prop} (hf : zF 101 175 h0 h) (hP : P_M_layAtMost_J176 y1 y2 y3 y4 y5 y6 y8 h Q' k23') (hq : ∀ r h', Q' r h' → zF 101 175 h0 h' → Q r h') (hk23 : ∀ v0 h', k23' v0 h' → zF 101 175 h0 h' → k23 v0 h') : P_M_layAtMost_J176 y1 y2 y3 y4 y5 y6 y8 h Q k23 := by
  unfold P_M_layAtMost_J176 at hP ⊢
  refine zif_i (fun c => ?_) (fun c => ?_)
  · have hP := zif_p hP c
    refine F_M_layTwo hf hP (fun r12 h13 hP hf => ?_)
    refine F_M_layAtMost_J191 hf hP hq hk23
  · have hP := zif_n hP c
    refine F_M_layAtMost_J191 hf hP hq hk23
theorem F_M_layAtMost_J153 {y1 y2 y3 y4 y5 y6 y7 y8 : Int} {h0 h : zH} {Q' Q : Int → zH → Prop} {k23' k23 : Int → zH → Prop} (hf : zF 101 175 h0 h) (hP : P_M_layAtMost_J153 y1 y2 y3 y4 y5 y6 y7 y8 h Q' k23') (hq : ∀ r h', Q' r h' → zF 101 175 h0 h' → Q r h') (hk23 : ∀ v0 h', k23' v0 h' → zF 101 175 h0 h' → k23 v0 h') : P_M_layAtMost_J153 y1 y2 y3 y4 y5 y6 y7 y8 h Q k23 := by
  unfold P_M_layAtMost_J153 at hP ⊢
  refine zif_i (fun c => ?_) (fun c => ?_)
  · have hP := zif_p hP c
    refine F_M_layAtMost_J176 hf hP hq hk23
  · have hP := zif_n hP c
    refine zif_i (fun c => ?_) (fun c => ?_)
    · have hP := zif_p hP c
      refine F_M_layAtMost_J176 hf hP hq hk23
    · have hP := zif_n hP c
      refine F_M_layThree hf hP (fun r14 h15 hP hf => ?_)
      refine F_M_layAtMost_J176 hf hP hq hk23
theorem F_M_layAtMost_J124 {y1 y2 y3 y4 y5 y6 y7 y8 : Int} {h0 h : zH} {Q' Q : Int → zH → Prop} {k23' k23 : Int → zH → Prop} (hf : zF 101 175 h0 h) (hP : P_M_layAtMost_J124 y1 y2 y3 y4 y5 y6 y7 y8 h Q' k23') (hq : ∀ r h', Q' r h' → zF 101 175 h0 h' → Q r h') (hk23 : ∀ v0 h', k23' v0 h' → zF 101 175 h0 h' → k23 v0 h') : P_M_layAtMost_J124 y1 y2 y3 y4 y5 y6 y7 y8 h Q k23 := by
  unfold P_M_layAtMost_J124 at hP ⊢
  refine zif_i (fun c => ?_) (fun c => ?_)
  · have hP := zif_p hP c
    refine F_M_layTwo hf hP (fun r16 h17 hP hf => ?_)
    refine F_M_layAtMost_J153 hf hP hq hk23
  · have hP := zif_n hP c
    refine F_M_layThree hf hP (fun r8 h9 hP hf => ?_)
    refine F_M_layAtMost_J153 hf hP hq hk23
theorem F_M_layAtMost_J94 {y1 y2 y3 y4 y5 y6 y7 y8 : Int} {h0 h : zH} {Q' Q : Int → zH → Prop} {k23' k23 : Int → zH → Prop} (hf : zF 101 175 h0 h) (hP : P_M_layAtMost_J94 y1 y2 y3 y4 y5 y6 y7 y8 h Q' k23') (hq : ∀ r h', Q' r h' → zF 101 175 h0 h' → Q r h') (hk23 : ∀ v0 h', k23' v0 h' → zF 101 175 h0 h' → k23 v0 h') : P_M_layAtMost_J94 y1 y2 y3 y4 y5 y6 y7 y8 h Q k23 := by
  unfold P_M_layAtMost_J94 at hP ⊢
  refine zif_i (fun c => ?_) (fun c => ?_)
  · have hP := zif_p hP c
    refine F_M_layTwo hf hP (fun r18 h19 hP hf => ?_)
    refine F_M_layAtMost_J124 hf hP hq hk23
  · have hP := zif_n hP c
    refine F_M_layThree hf hP (fun r6 h7 hP hf => ?_)
    refine F_M_layAtMost_J124 hf hP hq hk23
theorem F_M_layAtMost_L23 {y1 y2 y3 y4 : Int} {h0 : zH} {Q' Q : Int → zH → Prop} {k206' k206 : zH → Prop} (hq : ∀ r h', Q' r h' → zF 101 175 h0 h' → Q r h') (hk206 : ∀ h', k206' h' → zF 101 175 h0 h' → k206 h') : ∀ (n23 : Nat) (y5 : Int) (h : zH), zF 101 175 h0 h → P_M_layAtMost_L23 y1 y2 y3 y4 Q' k206' n23 y5 h → P_M_layAtMost_L23 y1 y2 y3 y4 Q k206 n23 y5 h := by
  intro n23
  induction n23 with
  | zero => intro y5 h hf hP; exact absurd hP id
  | succ n23 ih =>
    intro y5 h hf hP
    unfold P_M_layAtMost_L23 at hP ⊢
    refine zif_i (fun c => ?_) (fun c => ?_)
    · have hP := zif_p hP c
      exact hk206 _ hP hf
    · have hP := zif_n hP c
      refine zif_i (fun c => ?_) (fun c => ?_)
      · have hP := zif_p hP c
        exact hk206 _ hP hf
      · have hP := zif_n hP c
        refine zif_i (fun c => ?_) (fun c => ?_)
        · have hP := zif_p hP c
          intro h22 e_h22
          have hP := hP h22 e_h22
          have hf := zF.w hf e_h22 (by decide) (by decide)
          refine F_M_layAtMost_J200 hf hP hq (fun v0 h' hP hf => ih v0 h' hf hP)
        · have hP := zif_n hP c
          refine F_M_newName hf hP (fun r2 h3 hP hf => ?_)
          obtain ⟨ob, hP⟩ := hP
          refine ⟨ob, ?_⟩
          intro x7_4 e_x7_4
          have hP := hP x7_4 e_x7_4
          obtain ⟨ob, hP⟩ := hP
          refine ⟨ob, ?_⟩
          intro x8_5 e_x8_5
          have hP := hP x8_5 e_x8_5
          refine zif_i (fun c => ?_) (fun c => ?_)
          · have hP := zif_p hP c
            refine F_M_layAtMost_J94 hf hP hq (fun v0 h' hP hf => ih v0 h' hf hP)
          · have hP := zif_n hP c
            refine F_M_layTwo hf hP (fun r20 h21 hP hf => ?_)
            refine F_M_layAtMost_J94 hf hP hq (fun v0 h' hP hf => ih v0 h' hf hP)
theorem F_M_layAtMost_L209 {y1 y2 y3 : Int} {h0 : zH} {Q' Q : Int → zH → Prop} {k236' k236 : zH → Prop} (hq : ∀ r h', Q' r h' → zF 101 175 h0 h' → Q r h') (hk236 : ∀ h', k236' h' → zF 101 175 h0 h' → k236 h') : ∀ (n209 : Nat) (y5 : Int) (h : zH), zF 101 175 h0 h → P_M_layAtMost_L209 y1 y2 y3 Q' k236' n209 y5 h → P_M_layAtMost_L209 y1 y2 y3 Q k236 n209 y5 h := by
  intro n209
  induction n209 with
  | zero => intro y5 h hf hP; exact absurd hP id
  | succ n209 ih =>
    intro y5 h hf hP
    unfold P_M_layAtMost_L209 at hP ⊢
    refine zif_i (fun c => ?_) (fun c => ?_)
    · have hP := zif_p hP c
      exact hk236 _ hP hf
    · have hP := zif_n hP c
      obtain ⟨ob, hP⟩ := hP
      refine ⟨ob, ?_⟩
      obtain ⟨ob, hP⟩ := hP
      refine ⟨ob, ?_⟩
      intro h24 e_h24
      have hP := hP h24 e_h24
      have hf := zF.w hf e_h24 (by decide) (by decide)
      intro x5_25 e_x5_25
      have hP := hP x5_25 e_x5_25
      exact ih _ _ hf hP
theorem F_M_layAtMost_J206 {y1 y2 y3 : Int} {h0 h : zH} {Q' Q : Int → zH → Prop} {k2' k2 : Int → zH → Prop} (hf : zF 101 175 h0 h) (hP : P_M_layAtMost_J206 y1 y2 y3 h Q' k2') (hq : ∀ r h', Q' r h' → zF 101 175 h0 h' → Q r h') (hk2 : ∀ v0 h', k2' v0 h' → zF 101 175 h0 h' → k2 v0 h') : P_M_layAtMost_J206 y1 y2 y3 h Q k2 := by
  unfold P_M_layAtMost_J206 at hP ⊢
  obtain ⟨n209, hP⟩ := hP
  refine ⟨n209, ?_⟩
  refine F_M_layAtMost_L209 hq (fun h26 hP hf => ?_) _ _ _ hf hP
  intro x3_27 e_x3_27
  have hP := hP x3_27 e_x3_27
  exact hk2 _ _ hP hf
theorem F_M_layAtMost_L2 {y1 y2 : Int} {h0 : zH} {Q' Q : Int → zH → Prop} {k242' k242 : zH → Prop} (hq : ∀ r h', Q' r h' → zF 101 175 h0 h' → Q r h') (hk242 : ∀ h', k242' h' → zF 101 175 h0 h' → k242 h') : ∀ (n2 : Nat) (y3 : Int) (h : zH), zF 101 175 h0 h → P_M_layAtMost_L2 y1 y2 Q' k242' n2 y3 h → P_M_layAtMost_L2 y1 y2 Q k242 n2 y3 h := by
  intro n2
  induction n2 with
  | zero => intro y3 h hf hP; exact absurd hP id
  | succ n2 ih =>
    intro y3 h hf hP
    unfold P_M_layAtMost_L2 at hP ⊢
    refine zif_i (fun c => ?_) (fun c => ?_)
    · have hP := zif_p hP c
      exact hk242 _ hP hf
    · have hP := zif_n hP c
      obtain ⟨ob, hP⟩ := hP
      refine ⟨ob, ?_⟩
      intro x4_1 e_x4_1
      have hP := hP x4_1 e_x4_1
      obtain ⟨n23, hP⟩ := hP
      refine ⟨n23, ?_⟩
      refine F_M_layAtMost_L23 hq (fun h23 hP hf => ?_) _ _ _ hf hP
      refine F_M_layAtMost_J206 hf hP hq (fun v0 h' hP hf => ih v0 h' hf hP)
theorem F_M_layAtMost_J286 {y1 y2 : Int} {h0 h : zH} {Q' Q : Int → zH → Prop} (hf : zF 101 175 h0 h) (hP : P_M_layAtMost_J286 y1 y2 h Q') (hq : ∀ r h', Q' r h' → zF 101 175 h0 h' → Q r h') : P_M_layAtMost_J286 y1 y2 h Q := by
  unfold P_M_layAtMost_J286 at hP ⊢
  refine zif_i (fun c => ?_) (fun c => ?_)
  · have hP := zif_p hP c
    exact hq _ _ hP hf
  · have hP := zif_n hP c
    refine zif_i (fun c => ?_) (fun c => ?_)
    · have hP := zif_p hP c
      exact hq _ _ hP hf
    · have hP := zif_n hP c
      obtain ⟨ob, hP⟩ := hP
      refine ⟨ob, ?_⟩
      refine F_M_lay hf hP (fun r29 h30 hP hf => ?_)
      refine F_M_endRow hf hP (fun r31 h32 hP hf => ?_)
      exact hq _ _ hP hf
theorem F_M_layAtMost_J267 {y1 y2 : Int} {h0 h : zH} {Q' Q : Int → zH → Prop} (hf : zF 101 175 h0 h) (hP : P_M_layAtMost_J267 y1 y2 h Q') (hq : ∀ r h', Q' r h' → zF 101 175 h0 h' → Q r h') : P_M_layAtMost_J267 y1 y2 h Q := by
  unfold P_M_layAtMost_J267 at hP ⊢
  refine zif_i (fun c => ?_) (fun c => ?_)
  · have hP := zif_p hP c
    refine F_M_layAtMost_J286 hf hP hq
  · have hP := zif_n hP c
    refine zif_i (fun c => ?_) (fun c => ?_)
    · have hP := zif_p hP c
      refine F_M_layAtMost_J286 hf hP hq
    · have hP := zif_n hP c
      refine F_M_endRow hf hP (fun r33 h34 hP hf => ?_)
      exact hq _ _ hP hf
theorem F_M_layAtMost {a1 a2 : Int} {h0 h : zH} {Q' Q : Int → zH → Prop} (hf : zF 101 175 h0 h) (hP : P_M_layAtMost a1 a2 h Q') (hq : ∀ r h', Q' r h' → zF 101 175 h0 h' → Q r h') : P_M_layAtMost a1 a2 h Q := by
  unfold P_M_layAtMost at hP ⊢
  obtain ⟨n2, hP⟩ := hP
  refine ⟨n2, ?_⟩
  refine F_M_layAtMost_L2 hq (fun h28 hP hf => ?_) _ _ _ hf hP
  refine zif_i (fun c => ?_) (fun c => ?_)
  · have hP := zif_p hP c
    refine F_M_layAtMost_J267 hf hP hq
  · have hP := zif_n hP c
    obtain ⟨ob, hP⟩ := hP
    refine ⟨ob, ?_⟩
    refine F_M_lay hf hP (fun r35 h36 hP hf => ?_)
    refine F_M_endRow hf hP (fun r37 h38 hP hf => ?_)
    refine F_M_layAtMost_J267 hf hP hq
theorem F_M_summed {a1 a2 a3 : Int} {h0 h : zH} {Q' Q : Int → zH → Prop} (hf : zF 101 175 h0 h) (hP : P_M_summed a1 a2 a3 h Q') (hq : ∀ r h', Q' r h' → zF 101 175 h0 h' → Q r h') : P_M_summed a1 a2 a3 h Q := by
  unfold P_M_summed at hP ⊢
  refine F_M_isRow hf hP (fun r1 h2 hP hf => ?_)
  refine zif_i (fun c => ?_) (fun c => ?_)
  · have hP := zif_p hP c
    refine F_M_fail hf hP (fun r3 h4 hP hf => ?_)
    exact hq _ _ hP hf
  · have hP := zif_n hP c
    refine F_M_in hf hP (fun r5 h6 hP hf => ?_)
    refine zif_i (fun c => ?_) (fun c => ?_)
    · have hP := zif_p hP c
      refine F_M_fail hf hP (fun r17 h18 hP hf => ?_)
      exact hq _ _ hP hf
    · have hP := zif_n hP c
      refine F_M_takeItems hf hP (fun r7 h8 hP hf => ?_)
      refine zif_i (fun c => ?_) (fun c => ?_)
      · have hP := zif_p hP c
        refine F_M_beginLaying hf hP (fun r9 h10 hP hf => ?_)
        refine F_M_layAtMost hf hP (fun r11 h12 hP hf => ?_)
        refine F_M_keepRule hf hP (fun r13 h14 hP hf => ?_)
        exact hq _ _ hP hf
      · have hP := zif_n hP c
        refine F_M_fail hf hP (fun r15 h16 hP hf => ?_)
        exact hq _ _ hP hf
theorem F_M_atMost {a1 a2 : Int} {h0 h : zH} {Q' Q : Int → zH → Prop} (hf : zF 101 175 h0 h) (hP : P_M_atMost a1 a2 h Q') (hq : ∀ r h', Q' r h' → zF 101 175 h0 h' → Q r h') : P_M_atMost a1 a2 h Q := by
  unfold P_M_atMost at hP ⊢
  refine F_M_summed hf hP (fun r1 h2 hP hf => ?_)
  exact hq _ _ hP hf
theorem F_M_group {a1 a2 : Int} {h0 h : zH} {Q' Q : Int → zH → Prop} (hf : zF 101 175 h0 h) (hP : P_M_group a1 a2 h Q') (hq : ∀ r h', Q' r h' → zF 101 175 h0 h' → Q r h') : P_M_group a1 a2 h Q := by
  unfold P_M_group at hP ⊢
  refine F_M_summed hf hP (fun r1 h2 hP hf => ?_)
  exact hq _ _ hP hf
theorem F_M_layParity_J81 {y1 y2 y3 : Int} {h0 h : zH} {Q' Q : Int → zH → Prop} {k4' k4 : Int → Int → zH → Prop} (hf : zF 101 175 h0 h) (hP : P_M_layParity_J81 y1 y2 y3 h Q' k4') (hq : ∀ r h', Q' r h' → zF 101 175 h0 h' → Q r h') (hk4 : ∀ v0 v1 h', k4' v0 v1 h' → zF 101 175 h0 h' → k4 v0 v1 h') : P_M_layParity_J81 y1 y2 y3 h Q k4 := by
  unfold P_M_layParity_J81 at hP ⊢
  intro x3_12 e_x3_12
  have hP := hP x3_12 e_x3_12
  exact hk4 _ _ _ hP hf
theorem F_M_layParity_L4 {y1 : Int} {h0 : zH} {Q' Q : Int → zH → Prop} {k87' k87 : Int → zH → Prop} (hq : ∀ r h', Q' r h' → zF 101 175 h0 h' → Q r h') (hk87 : ∀ v0 h', k87' v0 h' → zF 101 175 h0 h' → k87 v0 h') : ∀ (n4 : Nat) (y2 y3 : Int) (h : zH), zF 101 175 h0 h → P_M_layParity_L4 y1 Q' k87' n4 y2 y3 h → P_M_layParity_L4 y1 Q k87 n4 y2 y3 h := by
  intro n4
  induction n4 with
  | zero => intro y2 y3 h hf hP; exact absurd hP id
  | succ n4 ih =>
    intro y2 y3 h hf hP
    unfold P_M_layParity_L4 at hP ⊢
    refine zif_i (fun c => ?_) (fun c => ?_)
    · have hP := zif_p hP c
      exact hk87 _ _ hP hf
    · have hP := zif_n hP c
      obtain ⟨ob, hP⟩ := hP
      refine ⟨ob, ?_⟩
      intro x4_1 e_x4_1
      have hP := hP x4_1 e_x4_1
      refine zif_i (fun c => ?_) (fun c => ?_)
      · have hP := zif_p hP c
        refine F_M_layParity_J81 hf hP hq (fun v0 v1 h' hP hf => ih v0 v1 h' hf hP)
      · have hP := zif_n hP c
        refine F_M_newName hf hP (fun r2 h3 hP hf => ?_)
        refine F_M_layThree hf hP (fun r4 h5 hP hf => ?_)
        refine F_M_layThree hf hP (fun r6 h7 hP hf => ?_)
        refine F_M_layThree hf hP (fun r8 h9 hP hf => ?_)
        refine F_M_layThree hf hP (fun r10 h11 hP hf => ?_)
        refine F_M_layParity_J81 hf hP hq (fun v0 v1 h' hP hf => ih v0 v1 h' hf hP)
theorem F_M_layParity {a1 : Int} {h0 h : zH} {Q' Q : Int → zH → Prop} (hf : zF 101 175 h0 h) (hP : P_M_layParity a1 h Q') (hq : ∀ r h', Q' r h' → zF 101 175 h0 h' → Q r h') : P_M_layParity a1 h Q := by
  unfold P_M_layParity at hP ⊢
  obtain ⟨n4, hP⟩ := hP
  refine ⟨n4, ?_⟩
  refine F_M_layParity_L4 hq (fun u2_87 h13 hP hf => ?_) _ _ _ _ hf hP
  refine zif_i (fun c => ?_) (fun c => ?_)
  · have hP := zif_p hP c
    refine zif_i (fun c => ?_) (fun c => ?_)
    · have hP := zif_p hP c
      exact hq _ _ hP hf
    · have hP := zif_n hP c
      refine F_M_endRow hf hP (fun r14 h15 hP hf => ?_)
      exact hq _ _ hP hf
  · have hP := zif_n hP c
    refine F_M_lay hf hP (fun r16 h17 hP hf => ?_)
    refine F_M_endRow hf hP (fun r18 h19 hP hf => ?_)
    exact hq _ _ hP hf
theorem F_M_parity {a1 a2 : Int} {h0 h : zH} {Q' Q : Int → zH → Prop} (hf : zF 101 175 h0 h) (hP : P_M_parity a1 a2 h Q') (hq : ∀ r h', Q' r h' → zF 101 175 h0 h' → Q r h') : P_M_parity a1 a2 h Q := by
  unfold P_M_parity at hP ⊢
  refine F_M_isRow hf hP (fun r1 h2 hP hf => ?_)
  refine zif_i (fun c => ?_) (fun c => ?_)
  · have hP := zif_p hP c
    refine F_M_fail hf hP (fun r13 h14 hP hf => ?_)
    exact hq _ _ hP hf
  · have hP := zif_n hP c
    refine F_M_takeItems hf hP (fun r3 h4 hP hf => ?_)
    refine zif_i (fun c => ?_) (fun c => ?_)
    · have hP := zif_p hP c
      refine F_M_beginLaying hf hP (fun r5 h6 hP hf => ?_)
      refine F_M_layParity hf hP (fun r7 h8 hP hf => ?_)
      refine F_M_keepRule hf hP (fun r9 h10 hP hf => ?_)
      exact hq _ _ hP hf
    · have hP := zif_n hP c
      refine F_M_fail hf hP (fun r11 h12 hP hf => ?_)
      exact hq _ _ hP hf
theorem F_M_byteAt {a1 : Int} {h0 h : zH} {Q' Q : Int → zH → Prop} (hf : zF 101 175 h0 h) (hP : P_M_byteAt a1 h Q') (hq : ∀ r h', Q' r h' → zF 101 175 h0 h' → Q r h') : P_M_byteAt a1 h Q := by
  unfold P_M_byteAt at hP ⊢
  obtain ⟨ob, hP⟩ := hP
  refine ⟨ob, ?_⟩
  exact hq _ _ hP hf
theorem F_M_isDigit {a1 : Int} {h0 h : zH} {Q' Q : Int → zH → Prop} (hf : zF 101 175 h0 h) (hP : P_M_isDigit a1 h Q') (hq : ∀ r h', Q' r h' → zF 101 175 h0 h' → Q r h') : P_M_isDigit a1 h Q := by
  unfold P_M_isDigit at hP ⊢
  exact hq _ _ hP hf
theorem F_M_beginPart_J255 {y1 : Int} {h0 h : zH} {Q' Q : Int → zH → Prop} (hf : zF 101 175 h0 h) (hP : P_M_beginPart_J255 y1 h Q') (hq : ∀ r h', Q' r h' → zF 101 175 h0 h' → Q r h') : P_M_beginPart_J255 y1 h Q := by
  unfold P_M_beginPart_J255 at hP ⊢
  intro h3 e_h3
  have hP := hP h3 e_h3
  have hf := zF.w hf e_h3 (by decide) (by decide)
  refine F_M_byteAt hf hP (fun r4 h5 hP hf => ?_)
  refine zif_i (fun c => ?_) (fun c => ?_)
  · have hP := zif_p hP c
    refine zif_i (fun c => ?_) (fun c => ?_)
    · have hP := zif_p hP c
      exact hq _ _ hP hf
    · have hP := zif_n hP c
      intro h6 e_h6
      have hP := hP h6 e_h6
      have hf := zF.w hf e_h6 (by decide) (by decide)
      intro h7 e_h7
      have hP := hP h7 e_h7
      have hf := zF.w hf e_h7 (by decide) (by decide)
      obtain ⟨ob, hP⟩ := hP
      refine ⟨ob, ?_⟩
      intro h8 e_h8
      have hP := hP h8 e_h8
      have hf := zF.w hf e_h8 (by decide) (by decide)
      obtain ⟨ob, hP⟩ := hP
      refine ⟨ob, ?_⟩
      intro h9 e_h9
      have hP := hP h9 e_h9
      have hf := zF.w hf e_h9 (by decide) (by decide)
      intro h10 e_h10
      have hP := hP h10 e_h10
      have hf := zF.w hf e_h10 (by decide) (by decide)
      exact hq _ _ hP hf
  · have hP := zif_n hP c
    exact hq _ _ hP hf
theorem F_M_beginPart_L68 {h0 : zH} {Q' Q : Int → zH → Prop} {k120' k120 : Int → Int → zH → Prop} (hq : ∀ r h', Q' r h' → zF 101 175 h0 h' → Q r h') (hk120 : ∀ v0 v1 h', k120' v0 v1 h' → zF 101 175 h0 h' → k120 v0 v1 h') : ∀ (n68 : Nat) (y2 y3 : Int) (h : zH), zF 101 175 h0 h → P_M_beginPart_L68 Q' k120' n68 y2 y3 h → P_M_beginPart_L68 Q k120 n68 y2 y3 h := by
  intro n68
  induction n68 with
  | zero => intro y2 y3 h hf hP; exact absurd hP id
  | succ n68 ih =>
    intro y2 y3 h hf hP
    unfold P_M_beginPart_L68 at hP ⊢
    refine zif_i (fun c => ?_) (fun c => ?_)
    · have hP := zif_p hP c
      exact hk120 _ _ _ hP hf
    · have hP := zif_n hP c
      refine F_M_byteAt hf hP (fun r15 h16 hP hf => ?_)
      refine F_M_isDigit hf hP (fun r17 h18 hP hf => ?_)
      refine zif_i (fun c => ?_) (fun c => ?_)
      · have hP := zif_p hP c
        exact hk120 _ _ _ hP hf
      · have hP := zif_n hP c
        refine F_M_byteAt hf hP (fun r19 h20 hP hf => ?_)
        intro x2_21 e_x2_21
        have hP := hP x2_21 e_x2_21
        intro x3_22 e_x3_22
        have hP := hP x3_22 e_x3_22
        intro h23 e_h23
        have hP := hP h23 e_h23
        have hf := zF.w hf e_h23 (by decide) (by decide)
        exact ih _ _ _ hf hP
theorem F_M_beginPart_J120 {y2 y3 : Int} {h0 h : zH} {Q' Q : Int → zH → Prop} (hf : zF 101 175 h0 h) (hP : P_M_beginPart_J120 y2 y3 h Q') (hq : ∀ r h', Q' r h' → zF 101 175 h0 h' → Q r h') : P_M_beginPart_J120 y2 y3 h Q := by
  unfold P_M_beginPart_J120 at hP ⊢
  refine zif_i (fun c => ?_) (fun c => ?_)
  · have hP := zif_p hP c
    exact hq _ _ hP hf
  · have hP := zif_n hP c
    refine F_M_byteAt hf hP (fun r25 h26 hP hf => ?_)
    refine F_M_isDigit hf hP (fun r27 h28 hP hf => ?_)
    refine zif_i (fun c => ?_) (fun c => ?_)
    · have hP := zif_p hP c
      obtain ⟨ob, hP⟩ := hP
      refine ⟨ob, ?_⟩
      intro h29 e_h29
      have hP := hP h29 e_h29
      have hf := zF.w hf e_h29 (by decide) (by decide)
      intro h30 e_h30
      have hP := hP h30 e_h30
      have hf := zF.w hf e_h30 (by decide) (by decide)
      obtain ⟨ob, hP⟩ := hP
      refine ⟨ob, ?_⟩
      intro h31 e_h31
      have hP := hP h31 e_h31
      have hf := zF.w hf e_h31 (by decide) (by decide)
      intro h32 e_h32
      have hP := hP h32 e_h32
      have hf := zF.w hf e_h32 (by decide) (by decide)
      intro h33 e_h33
      have hP := hP h33 e_h33
      have hf := zF.w hf e_h33 (by decide) (by decide)
      exact hq _ _ hP hf
    · have hP := zif_n hP c
      exact hq _ _ hP hf
theorem F_M_beginPart_J48 {y1 : Int} {h0 h : zH} {Q' Q : Int → zH → Prop} (hf : zF 101 175 h0 h) (hP : P_M_beginPart_J48 y1 h Q') (hq : ∀ r h', Q' r h' → zF 101 175 h0 h' → Q r h') : P_M_beginPart_J48 y1 h Q := by
  unfold P_M_beginPart_J48 at hP ⊢
  refine zif_i (fun c => ?_) (fun c => ?_)
  · have hP := zif_p hP c
    intro h14 e_h14
    have hP := hP h14 e_h14
    have hf := zF.w hf e_h14 (by decide) (by decide)
    obtain ⟨n68, hP⟩ := hP
    refine ⟨n68, ?_⟩
    refine F_M_beginPart_L68 hq (fun u2_120 u3_120 h24 hP hf => ?_) _ _ _ _ hf hP
    refine F_M_beginPart_J120 hf hP hq
  · have hP := zif_n hP c
    refine zif_i (fun c => ?_) (fun c => ?_)
    · have hP := zif_p hP c
      obtain ⟨ob, hP⟩ := hP
      refine ⟨ob, ?_⟩
      intro h11 e_h11
      have hP := hP h11 e_h11
      have hf := zF.w hf e_h11 (by decide) (by decide)
      intro h12 e_h12
      have hP := hP h12 e_h12
      have hf := zF.w hf e_h12 (by decide) (by decide)
      intro h13 e_h13
      have hP := hP h13 e_h13
      have hf := zF.w hf e_h13 (by decide) (by decide)
      exact hq _ _ hP hf
    · have hP := zif_n hP c
      refine zif_i (fun c => ?_) (fun c => ?_)
      · have hP := zif_p hP c
        refine F_M_beginPart_J255 hf hP hq
      · have hP := zif_n hP c
        refine zif_i (fun c => ?_) (fun c => ?_)
        · have hP := zif_p hP c
          refine F_M_beginPart_J255 hf hP hq
        · have hP := zif_n hP c
          refine zif_i (fun c => ?_) (fun c => ?_)
          · have hP := zif_p hP c
            refine F_M_beginPart_J255 hf hP hq
          · have hP := zif_n hP c
            refine zif_i (fun c => ?_) (fun c => ?_)
            · have hP := zif_p hP c
              refine F_M_beginPart_J255 hf hP hq
            · have hP := zif_n hP c
              exact hq _ _ hP hf
theorem F_M_beginPart {h0 h : zH} {Q' Q : Int → zH → Prop} (hf : zF 101 175 h0 h) (hP : P_M_beginPart h Q') (hq : ∀ r h', Q' r h' → zF 101 175 h0 h' → Q r h') : P_M_beginPart h Q := by
  unfold P_M_beginPart at hP ⊢
  refine F_M_byteAt hf hP (fun r1 h2 hP hf => ?_)
  refine zif_i (fun c => ?_) (fun c => ?_)
  · have hP := zif_p hP c
    refine F_M_beginPart_J48 hf hP hq
  · have hP := zif_n hP c
    obtain ⟨ob, hP⟩ := hP
    refine ⟨ob, ?_⟩
    refine zif_i (fun c => ?_) (fun c => ?_)
    · have hP := zif_p hP c
      refine F_M_beginPart_J48 hf hP hq
    · have hP := zif_n hP c
      obtain ⟨ob, hP⟩ := hP
      refine ⟨ob, ?_⟩
      refine zif_i (fun c => ?_) (fun c => ?_)
      · have hP := zif_p hP c
        exact hq _ _ hP hf
      · have hP := zif_n hP c
        refine F_M_beginPart_J48 hf hP hq
theorem F_M_endPart_L0 {h0 : zH} {Q' Q : Int → zH → Prop} {k54' k54 : zH → Prop} (hq : ∀ r h', Q' r h' → zF 101 175 h0 h' → Q r h') (hk54 : ∀ h', k54' h' → zF 101 175 h0 h' → k54 h') : ∀ (n0 : Nat) (h : zH), zF 101 175 h0 h → P_M_endPart_L0 Q' k54' n0 h → P_M_endPart_L0 Q k54 n0 h := by
  intro n0
  induction n0 with
  | zero => intro h hf hP; exact absurd hP id
  | succ n0 ih =>
    intro h hf hP
    unfold P_M_endPart_L0 at hP ⊢
    refine zif_i (fun c => ?_) (fun c => ?_)
    · have hP := zif_p hP c
      exact hk54 _ hP hf
    · have hP := zif_n hP c
      obtain ⟨ob, hP⟩ := hP
      refine ⟨ob, ?_⟩
      refine zif_i (fun c => ?_) (fun c => ?_)
      · have hP := zif_p hP c
        obtain ⟨ob, hP⟩ := hP
        refine ⟨ob, ?_⟩
        intro h1 e_h1
        have hP := hP h1 e_h1
        have hf := zF.w hf e_h1 (by decide) (by decide)
        intro h2 e_h2
        have hP := hP h2 e_h2
        have hf := zF.w hf e_h2 (by decide) (by decide)
        intro h3 e_h3
        have hP := hP h3 e_h3
        have hf := zF.w hf e_h3 (by decide) (by decide)
        exact ih _ hf hP
      · have hP := zif_n hP c
        exact hk54 _ hP hf
theorem F_M_endPart_J165 {y1 : Int} {h0 h : zH} {Q' Q : Int → zH → Prop} (hf : zF 101 175 h0 h) (hP : P_M_endPart_J165 y1 h Q') (hq : ∀ r h', Q' r h' → zF 101 175 h0 h' → Q r h') : P_M_endPart_J165 y1 h Q := by
  unfold P_M_endPart_J165 at hP ⊢
  obtain ⟨ob, hP⟩ := hP
  refine ⟨ob, ?_⟩
  obtain ⟨ob, hP⟩ := hP
  refine ⟨ob, ?_⟩
  obtain ⟨ob, hP⟩ := hP
  refine ⟨ob, ?_⟩
  intro h9 e_h9
  have hP := hP h9 e_h9
  have hf := zF.w hf e_h9 (by decide) (by decide)
  intro h10 e_h10
  have hP := hP h10 e_h10
  have hf := zF.w hf e_h10 (by decide) (by decide)
  intro h11 e_h11
  have hP := hP h11 e_h11
  have hf := zF.w hf e_h11 (by decide) (by decide)
  intro h12 e_h12
  have hP := hP h12 e_h12
  have hf := zF.w hf e_h12 (by decide) (by decide)
  intro h13 e_h13
  have hP := hP h13 e_h13
  have hf := zF.w hf e_h13 (by decide) (by decide)
  exact hq _ _ hP hf
theorem F_M_endPart_J143 {y1 y2 y3 : Int} {h0 h : zH} {Q' Q : Int → zH → Prop} (hf : zF 101 175 h0 h) (hP : P_M_endPart_J143 y1 y2 y3 h Q') (hq : ∀ r h', Q' r h' → zF 101 175 h0 h' → Q r h') : P_M_endPart_J143 y1 y2 y3 h Q := by
  unfold P_M_endPart_J143 at hP ⊢
  refine zif_i (fun c => ?_) (fun c => ?_)
  · have hP := zif_p hP c
    refine zif_i (fun c => ?_) (fun c => ?_)
    · have hP := zif_p hP c
      refine F_M_endPart_J165 hf hP hq
    · have hP := zif_n hP c
      obtain ⟨ob, hP⟩ := hP
      refine ⟨ob, ?_⟩
      refine zif_i (fun c => ?_) (fun c => ?_)
      · have hP := zif_p hP c
        refine F_M_endPart_J165 hf hP hq
      · have hP := zif_n hP c
        exact hq _ _ hP hf
  · have hP := zif_n hP c
    exact hq _ _ hP hf
theorem F_M_endPart_J126 {h0 h : zH} {Q' Q : Int → zH → Prop} (hf : zF 101 175 h0 h) (hP : P_M_endPart_J126 h Q') (hq : ∀ r h', Q' r h' → zF 101 175 h0 h' → Q r h') : P_M_endPart_J126 h Q := by
  unfold P_M_endPart_J126 at hP ⊢
  intro h14 e_h14
  have hP := hP h14 e_h14
  have hf := zF.w hf e_h14 (by decide) (by decide)
  intro h15 e_h15
  have hP := hP h15 e_h15
  have hf := zF.w hf e_h15 (by decide) (by decide)
  exact hq _ _ hP hf
theorem F_M_endPart_J105 {y1 y2 s0 : Int} {h0 h : zH} {Q' Q : Int → zH → Prop} (hf : zF 101 175 h0 h) (hP : P_M_endPart_J105 y1 y2 s0 h Q') (hq : ∀ r h', Q' r h' → zF 101 175 h0 h' → Q r h') : P_M_endPart_J105 y1 y2 s0 h Q := by
  unfold P_M_endPart_J105 at hP ⊢
  refine zif_i (fun c => ?_) (fun c => ?_)
  · have hP := zif_p hP c
    refine zif_i (fun c => ?_) (fun c => ?_)
    · have hP := zif_p hP c
      refine F_M_endPart_J126 hf hP hq
    · have hP := zif_n hP c
      obtain ⟨ob, hP⟩ := hP
      refine ⟨ob, ?_⟩
      refine zif_i (fun c => ?_) (fun c => ?_)
      · have hP := zif_p hP c
        refine F_M_endPart_J143 hf hP hq
      · have hP := zif_n hP c
        refine F_M_endPart_J126 hf hP hq
  · have hP := zif_n hP c
    refine F_M_endPart_J143 hf hP hq
theorem F_M_endPart_J54 {h0 h : zH} {Q' Q : Int → zH → Prop} (hf : zF 101 175 h0 h) (hP : P_M_endPart_J54 h Q') (hq : ∀ r h', Q' r h' → zF 101 175 h0 h' → Q r h') : P_M_endPart_J54 h Q := by
  unfold P_M_endPart_J54 at hP ⊢
  refine zif_i (fun c => ?_) (fun c => ?_)
  · have hP := zif_p hP c
    exact hq _ _ hP hf
  · have hP := zif_n hP c
    intro x1_5 e_x1_5
    have hP := hP x1_5 e_x1_5
    obtain ⟨ob, hP⟩ := hP
    refine ⟨ob, ?_⟩
    obtain ⟨ob, hP⟩ := hP
    refine ⟨ob, ?_⟩
    intro h6 e_h6
    have hP := hP h6 e_h6
    have hf := zF.w hf e_h6 (by decide) (by decide)
    refine F_M_byteAt hf hP (fun r7 h8 hP hf => ?_)
    obtain ⟨ob, hP⟩ := hP
    refine ⟨ob, ?_⟩
    refine F_M_endPart_J105 hf hP hq
theorem F_M_endPart {h0 h : zH} {Q' Q : Int → zH → Prop} (hf : zF 101 175 h0 h) (hP : P_M_endPart h Q') (hq : ∀ r h', Q' r h' → zF 101 175 h0 h' → Q r h') : P_M_endPart h Q := by
  unfold P_M_endPart at hP ⊢
  obtain ⟨n0, hP⟩ := hP
  refine ⟨n0, ?_⟩
  refine F_M_endPart_L0 hq (fun h4 hP hf => ?_) _ _ hf hP
  refine F_M_endPart_J54 hf hP hq
theorem F_M_faultOfTape_J54 {s0 : Int} {h0 h : zH} {Q' Q : Int → zH → Prop} {k32' k32 : Int → zH → Prop} (hf : zF 101 175 h0 h) (hP : P_M_faultOfTape_J54 s0 h Q' k32') (hq : ∀ r h', Q' r h' → zF 101 175 h0 h' → Q r h') (hk32 : ∀ v0 h', k32' v0 h' → zF 101 175 h0 h' → k32 v0 h') : P_M_faultOfTape_J54 s0 h Q k32 := by
  unfold P_M_faultOfTape_J54 at hP ⊢
  exact hk32 _ _ hP hf
theorem F_M_faultOfTape_L32 {h0 : zH} {Q' Q : Int → zH → Prop} {k58' k58 : zH → Prop} (hq : ∀ r h', Q' r h' → zF 101 175 h0 h' → Q r h') (hk58 : ∀ h', k58' h' → zF 101 175 h0 h' → k58 h') : ∀ (n32 : Nat) (y1 : Int) (h : zH), zF 101 175 h0 h → P_M_faultOfTape_L32 Q' k58' n32 y1 h → P_M_faultOfTape_L32 Q k58 n32 y1 h := by
  intro n32
  induction n32 with
  | zero => intro y1 h hf hP; exact absurd hP id
  | succ n32 ih =>
    intro y1 h hf hP
    unfold P_M_faultOfTape_L32 at hP ⊢
    refine zif_i (fun c => ?_) (fun c => ?_)
    · have hP := zif_p hP c
      exact hk58 _ hP hf
    · have hP := zif_n hP c
      refine zif_i (fun c => ?_) (fun c => ?_)
      · have hP := zif_p hP c
        refine F_M_endPart hf hP (fun r7 h8 hP hf => ?_)
        refine F_M_faultOfTape_J54 hf hP hq (fun v0 h' hP hf => ih v0 h' hf hP)
      · have hP := zif_n hP c
        refine F_M_beginPart hf hP (fun r9 h10 hP hf => ?_)
        refine F_M_faultOfTape_J54 hf hP hq (fun v0 h' hP hf => ih v0 h' hf hP)
theorem F_M_faultOfTape {h0 h : zH} {Q' Q : Int → zH → Prop} (hf : zF 101 175 h0 h) (hP : P_M_faultOfTape h Q') (hq : ∀ r h', Q' r h' → zF 101 175 h0 h' → Q r h') : P_M_faultOfTape h Q := by
  unfold P_M_faultOfTape at hP ⊢
  intro h1 e_h1
  have hP := hP h1 e_h1
  have hf := zF.w hf e_h1 (by decide) (by decide)
  intro h2 e_h2
  have hP := hP h2 e_h2
  have hf := zF.w hf e_h2 (by decide) (by decide)
  intro h3 e_h3
  have hP := hP h3 e_h3
  have hf := zF.w hf e_h3 (by decide) (by decide)
  intro h4 e_h4
  have hP := hP h4 e_h4
  have hf := zF.w hf e_h4 (by decide) (by decide)
  intro h5 e_h5
  have hP := hP h5 e_h5
  have hf := zF.w hf e_h5 (by decide) (by decide)
  intro h6 e_h6
  have hP := hP h6 e_h6
  have hf := zF.w hf e_h6 (by decide) (by decide)
  obtain ⟨n32, hP⟩ := hP
  refine ⟨n32, ?_⟩
  refine F_M_faultOfTape_L32 hq (fun h11 hP hf => ?_) _ _ _ hf hP
  exact hq _ _ hP hf
theorem F_M_layJust_L3 {y1 y2 y3 : Int} {h0 : zH} {Q' Q : Int → zH → Prop} {k28' k28 : zH → Prop} (hq : ∀ r h', Q' r h' → zF 101 175 h0 h' → Q r h') (hk28 : ∀ h', k28' h' → zF 101 175 h0 h' → k28 h') : ∀ (n3 : Nat) (y4 : Int) (h : zH), zF 101 175 h0 h → P_M_layJust_L3 y1 y2 y3 Q' k28' n3 y4 h → P_M_layJust_L3 y1 y2 y3 Q k28 n3 y4 h := by
  intro n3
  induction n3 with
  | zero => intro y4 h hf hP; exact absurd hP id
  | succ n3 ih =>
    intro y4 h hf hP
    unfold P_M_layJust_L3 at hP ⊢
    refine zif_i (fun c => ?_) (fun c => ?_)
    · have hP := zif_p hP c
      exact hk28 _ hP hf
    · have hP := zif_n hP c
      obtain ⟨ob, hP⟩ := hP
      refine ⟨ob, ?_⟩
      refine F_M_lay hf hP (fun r1 h2 hP hf => ?_)
      intro x4_3 e_x4_3
      have hP := hP x4_3 e_x4_3
      exact ih _ _ hf hP
theorem F_M_layJust_L53 {y1 y2 y3 y4 : Int} {h0 : zH} {Q' Q : Int → zH → Prop} {k91' k91 : zH → Prop} (hq : ∀ r h', Q' r h' → zF 101 175 h0 h' → Q r h') (hk91 : ∀ h', k91' h' → zF 101 175 h0 h' → k91 h') : ∀ (n53 : Nat) (y5 : Int) (h : zH), zF 101 175 h0 h → P_M_layJust_L53 y1 y2 y3 y4 Q' k91' n53 y5 h → P_M_layJust_L53 y1 y2 y3 y4 Q k91 n53 y5 h := by
  intro n53
  induction n53 with
  | zero => intro y5 h hf hP; exact absurd hP id
  | succ n53 ih =>
    intro y5 h hf hP
    unfold P_M_layJust_L53 at hP ⊢
    refine zif_i (fun c => ?_) (fun c => ?_)
    · have hP := zif_p hP c
      exact hk91 _ hP hf
    · have hP := zif_n hP c
      obtain ⟨ob, hP⟩ := hP
      refine ⟨ob, ?_⟩
      obtain ⟨ob, hP⟩ := hP
      refine ⟨ob, ?_⟩
      refine F_M_layThree hf hP (fun r10 h11 hP hf => ?_)
      intro x5_12 e_x5_12
      have hP := hP x5_12 e_x5_12
      exact ih _ _ hf hP
theorem F_M_layJust_L41 {y1 y2 y3 : Int} {h0 : zH} {Q' Q : Int → zH → Prop} {k97' k97 : zH → Prop} (hq : ∀ r h', Q' r h' → zF 101 175 h0 h' → Q r h') (hk97 : ∀ h', k97' h' → zF 101 175 h0 h' → k97 h') : ∀ (n41 : Nat) (y4 : Int) (h : zH), zF 101 175 h0 h → P_M_layJust_L41 y1 y2 y3 Q' k97' n41 y4 h → P_M_layJust_L41 y1 y2 y3 Q k97 n41 y4 h := by
  intro n41
  induction n41 with
  | zero => intro y4 h hf hP; exact absurd hP id
  | succ n41 ih =>
    intro y4 h hf hP
    unfold P_M_layJust_L41 at hP ⊢
    refine zif_i (fun c => ?_) (fun c => ?_)
    · have hP := zif_p hP c
      exact hk97 _ hP hf
    · have hP := zif_n hP c
      intro x5_9 e_x5_9
      have hP := hP x5_9 e_x5_9
      obtain ⟨n53, hP⟩ := hP
      refine ⟨n53, ?_⟩
      refine F_M_layJust_L53 hq (fun h13 hP hf => ?_) _ _ _ hf hP
      intro x4_14 e_x4_14
      have hP := hP x4_14 e_x4_14
      exact ih _ _ hf hP
theorem F_M_layJust_J154 {y1 y2 y3 y4 y5 : Int} {h0 h : zH} {Q' Q : Int → zH → Prop} {k128' k128 : Int → zH → Prop} (hf : zF 101 175 h0 h) (hP : P_M_layJust_J154 y1 y2 y3 y4 y5 h Q' k128') (hq : ∀ r h', Q' r h' → zF 101 175 h0 h' → Q r h') (hk128 : ∀ v0 h', k128' v0 h' → zF 101 175 h0 h' → k128 v0 h') : P_M_layJust_J154 y1 y2 y3 y4 y5 h Q k128 := by
  unfold P_M_layJust_J154 at hP ⊢
  intro x5_20 e_x5_20
  have hP := hP x5_20 e_x5_20
  exact hk128 _ _ hP hf
theorem F_M_layJust_L128 {y1 y2 y3 y4 : Int} {h0 : zH} {Q' Q : Int → zH → Prop} {k160' k160 : zH → Prop} (hq : ∀ r h', Q' r h' → zF 101 175 h0 h' → Q r h') (hk160 : ∀ h', k160' h' → zF 101 175 h0 h' → k160 h') : ∀ (n128 : Nat) (y5 : Int) (h : zH), zF 101 175 h0 h → P_M_layJust_L128 y1 y2 y3 y4 Q' k160' n128 y5 h → P_M_layJust_L128 y1 y2 y3 y4 Q k160 n128 y5 h := by
  intro n128
  induction n128 with
  | zero => intro y5 h hf hP; exact absurd hP id
  | succ n128 ih =>
    intro y5 h hf hP
    unfold P_M_layJust_L128 at hP ⊢
    refine zif_i (fun c => ?_) (fun c => ?_)
    · have hP := zif_p hP c
      exact hk160 _ hP hf
    · have hP := zif_n hP c
      refine zif_i (fun c => ?_) (fun c => ?_)
      · have hP := zif_p hP c
        refine F_M_layJust_J154 hf hP hq (fun v0 h' hP hf => ih v0 h' hf hP)
      · have hP := zif_n hP c
        obtain ⟨ob, hP⟩ := hP
        refine ⟨ob, ?_⟩
        refine F_M_lay hf hP (fun r21 h22 hP hf => ?_)
        refine F_M_layJust_J154 hf hP hq (fun v0 h' hP hf => ih v0 h' hf hP)
theorem F_M_layJust_L100 {y1 y2 y3 : Int} {h0 : zH} {Q' Q : Int → zH → Prop} (hq : ∀ r h', Q' r h' → zF 101 175 h0 h' → Q r h') : ∀ (n100 : Nat) (y4 : Int) (h : zH), zF 101 175 h0 h → P_M_layJust_L100 y1 y2 y3 Q' n100 y4 h → P_M_layJust_L100 y1 y2 y3 Q n100 y4 h := by
  intro n100
  induction n100 with
  | zero => intro y4 h hf hP; exact absurd hP id
  | succ n100 ih =>
    intro y4 h hf hP
    unfold P_M_layJust_L100 at hP ⊢
    refine zif_i (fun c => ?_) (fun c => ?_)
    · have hP := zif_p hP c
      exact hq _ _ hP hf
    · have hP := zif_n hP c
      refine F_M_lay hf hP (fun r16 h17 hP hf => ?_)
      obtain ⟨ob, hP⟩ := hP
      refine ⟨ob, ?_⟩
      refine F_M_lay hf hP (fun r18 h19 hP hf => ?_)
      obtain ⟨n128, hP⟩ := hP
      refine ⟨n128, ?_⟩
      refine F_M_layJust_L128 hq (fun h23 hP hf => ?_) _ _ _ hf hP
      refine F_M_endRow hf hP (fun r24 h25 hP hf => ?_)
      intro x4_26 e_x4_26
      have hP := hP x4_26 e_x4_26
      exact ih _ _ hf hP
theorem F_M_layJust {a1 a2 a3 : Int} {h0 h : zH} {Q' Q : Int → zH → Prop} (hf : zF 101 175 h0 h) (hP : P_M_layJust a1 a2 a3 h Q') (hq : ∀ r h', Q' r h' → zF 101 175 h0 h' → Q r h') : P_M_layJust a1 a2 a3 h Q := by
  unfold P_M_layJust at hP ⊢
  obtain ⟨n3, hP⟩ := hP
  refine ⟨n3, ?_⟩
  refine F_M_layJust_L3 hq (fun h4 hP hf => ?_) _ _ _ hf hP
  refine F_M_lay hf hP (fun r5 h6 hP hf => ?_)
  refine F_M_endRow hf hP (fun r7 h8 hP hf => ?_)
  obtain ⟨n41, hP⟩ := hP
  refine ⟨n41, ?_⟩
  refine F_M_layJust_L41 hq (fun h15 hP hf => ?_) _ _ _ hf hP
  obtain ⟨n100, hP⟩ := hP
  refine ⟨n100, ?_⟩
  refine F_M_layJust_L100 hq _ _ _ hf hP
theorem F_M_layPart_J316 {y4 y5 : Int} {h0 h : zH} {Q' Q : Int → zH → Prop} (hf : zF 101 175 h0 h) (hP : P_M_layPart_J316 y4 y5 h Q') (hq : ∀ r h', Q' r h' → zF 101 175 h0 h' → Q r h') : P_M_layPart_J316 y4 y5 h Q := by
  unfold P_M_layPart_J316 at hP ⊢
  intro h8 e_h8
  have hP := hP h8 e_h8
  have hf := zF.w hf e_h8 (by decide) (by decide)
  obtain ⟨ob, hP⟩ := hP
  refine ⟨ob, ?_⟩
  intro h9 e_h9
  have hP := hP h9 e_h9
  have hf := zF.w hf e_h9 (by decide) (by decide)
  exact hq _ _ hP hf
theorem F_M_layPart_L177 {y2 y4 y5 : Int} {h0 : zH} {Q' Q : Int → zH → Prop} {k206' k206 : zH → Prop} (hq : ∀ r h', Q' r h' → zF 101 175 h0 h' → Q r h') (hk206 : ∀ h', k206' h' → zF 101 175 h0 h' → k206 h') : ∀ (n177 : Nat) (y6 : Int) (h : zH), zF 101 175 h0 h → P_M_layPart_L177 y2 y4 y5 Q' k206' n177 y6 h → P_M_layPart_L177 y2 y4 y5 Q k206 n177 y6 h := by
  intro n177
  induction n177 with
  | zero => intro y6 h hf hP; exact absurd hP id
  | succ n177 ih =>
    intro y6 h hf hP
    unfold P_M_layPart_L177 at hP ⊢
    refine zif_i (fun c => ?_) (fun c => ?_)
    · have hP := zif_p hP c
      exact hk206 _ hP hf
    · have hP := zif_n hP c
      obtain ⟨ob, hP⟩ := hP
      refine ⟨ob, ?_⟩
      refine F_M_layTwo hf hP (fun r18 h19 hP hf => ?_)
      intro x6_20 e_x6_20
      have hP := hP x6_20 e_x6_20
      exact ih _ _ hf hP
theorem F_M_layPart_L209 {y2 y4 y5 : Int} {h0 : zH} {Q' Q : Int → zH → Prop} {k235' k235 : zH → Prop} (hq : ∀ r h', Q' r h' → zF 101 175 h0 h' → Q r h') (hk235 : ∀ h', k235' h' → zF 101 175 h0 h' → k235 h') : ∀ (n209 : Nat) (y6 : Int) (h : zH), zF 101 175 h0 h → P_M_layPart_L209 y2 y4 y5 Q' k235' n209 y6 h → P_M_layPart_L209 y2 y4 y5 Q k235 n209 y6 h := by
  intro n209
  induction n209 with
  | zero => intro y6 h hf hP; exact absurd hP id
  | succ n209 ih =>
    intro y6 h hf hP
    unfold P_M_layPart_L209 at hP ⊢
    refine zif_i (fun c => ?_) (fun c => ?_)
    · have hP := zif_p hP c
      exact hk235 _ hP hf
    · have hP := zif_n hP c
      obtain ⟨ob, hP⟩ := hP
      refine ⟨ob, ?_⟩
      refine F_M_lay hf hP (fun r22 h23 hP hf => ?_)
      intro x6_24 e_x6_24
      have hP := hP x6_24 e_x6_24
      exact ih _ _ hf hP
theorem F_M_layPart_L96 {y2 y4 y5 : Int} {h0 : zH} {Q' Q : Int → zH → Prop} {k125' k125 : zH → Prop} (hq : ∀ r h', Q' r h' → zF 101 175 h0 h' → Q r h') (hk125 : ∀ h', k125' h' → zF 101 175 h0 h' → k125 h') : ∀ (n96 : Nat) (y6 : Int) (h : zH), zF 101 175 h0 h → P_M_layPart_L96 y2 y4 y5 Q' k125' n96 y6 h → P_M_layPart_L96 y2 y4 y5 Q k125 n96 y6 h := by
  intro n96
  induction n96 with
  | zero => intro y6 h hf hP; exact absurd hP id
  | succ n96 ih =>
    intro y6 h hf hP
    unfold P_M_layPart_L96 at hP ⊢
    refine zif_i (fun c => ?_) (fun c => ?_)
    · have hP := zif_p hP c
      exact hk125 _ hP hf
    · have hP := zif_n hP c
      obtain ⟨ob, hP⟩ := hP
      refine ⟨ob, ?_⟩
      refine F_M_layTwo hf hP (fun r30 h31 hP hf => ?_)
      intro x6_32 e_x6_32
      have hP := hP x6_32 e_x6_32
      exact ih _ _ hf hP
theorem F_M_layPart_L134 {y2 y4 y5 : Int} {h0 : zH} {Q' Q : Int → zH → Prop} {k161' k161 : zH → Prop} (hq : ∀ r h', Q' r h' → zF 101 175 h0 h' → Q r h') (hk161 : ∀ h', k161' h' → zF 101 175 h0 h' → k161 h') : ∀ (n134 : Nat) (y6 : Int) (h : zH), zF 101 175 h0 h → P_M_layPart_L134 y2 y4 y5 Q' k161' n134 y6 h → P_M_layPart_L134 y2 y4 y5 Q k161 n134 y6 h := by
  intro n134
  induction n134 with
  | zero => intro y6 h hf hP; exact absurd hP id
  | succ n134 ih =>
    intro y6 h hf hP
    unfold P_M_layPart_L134 at hP ⊢
    refine zif_i (fun c => ?_) (fun c => ?_)
    · have hP := zif_p hP c
      exact hk161 _ hP hf
    · have hP := zif_n hP c
      obtain ⟨ob, hP⟩ := hP
      refine ⟨ob, ?_⟩
      refine F_M_lay hf hP (fun r36 h37 hP hf => ?_)
      intro x6_38 e_x6_38
      have hP := hP x6_38 e_x6_38
      exact ih _ _ hf hP
theorem F_M_layPart {a1 : Int} {h0 h : zH} {Q' Q : Int → zH → Prop} (hf : zF 101 175 h0 h) (hP : P_M_layPart a1 h Q') (hq : ∀ r h', Q' r h' → zF 101 175 h0 h' → Q r h') : P_M_layPart a1 h Q := by
  unfold P_M_layPart at hP ⊢
  refine zif_i (fun c => ?_) (fun c => ?_)
  · have hP := zif_p hP c
    refine zif_i (fun c => ?_) (fun c => ?_)
    · have hP := zif_p hP c
      obtain ⟨ob, hP⟩ := hP
      refine ⟨ob, ?_⟩
      obtain ⟨ob, hP⟩ := hP
      refine ⟨ob, ?_⟩
      intro h42 e_h42
      have hP := hP h42 e_h42
      have hf := zF.w hf e_h42 (by decide) (by decide)
      exact hq _ _ hP hf
    · have hP := zif_n hP c
      intro x2_1 e_x2_1
      have hP := hP x2_1 e_x2_1
      intro x3_2 e_x3_2
      have hP := hP x3_2 e_x3_2
      refine F_M_newName hf hP (fun r3 h4 hP hf => ?_)
      intro x5_5 e_x5_5
      have hP := hP x5_5 e_x5_5
      refine zif_i (fun c => ?_) (fun c => ?_)
      · have hP := zif_p hP c
        obtain ⟨n96, hP⟩ := hP
        refine ⟨n96, ?_⟩
        refine F_M_layPart_L96 hq (fun h33 hP hf => ?_) _ _ _ hf hP
        refine F_M_lay hf hP (fun r34 h35 hP hf => ?_)
        obtain ⟨n134, hP⟩ := hP
        refine ⟨n134, ?_⟩
        refine F_M_layPart_L134 hq (fun h39 hP hf => ?_) _ _ _ hf hP
        refine F_M_endRow hf hP (fun r40 h41 hP hf => ?_)
        refine F_M_layPart_J316 hf hP hq
      · have hP := zif_n hP c
        refine zif_i (fun c => ?_) (fun c => ?_)
        · have hP := zif_p hP c
          obtain ⟨n177, hP⟩ := hP
          refine ⟨n177, ?_⟩
          refine F_M_layPart_L177 hq (fun h21 hP hf => ?_) _ _ _ hf hP
          obtain ⟨n209, hP⟩ := hP
          refine ⟨n209, ?_⟩
          refine F_M_layPart_L209 hq (fun h25 hP hf => ?_) _ _ _ hf hP
          refine F_M_lay hf hP (fun r26 h27 hP hf => ?_)
          refine F_M_endRow hf hP (fun r28 h29 hP hf => ?_)
          refine F_M_layPart_J316 hf hP hq
        · have hP := zif_n hP c
          refine zif_i (fun c => ?_) (fun c => ?_)
          · have hP := zif_p hP c
            obtain ⟨ob, hP⟩ := hP
            refine ⟨ob, ?_⟩
            intro x6_10 e_x6_10
            have hP := hP x6_10 e_x6_10
            obtain ⟨ob, hP⟩ := hP
            refine ⟨ob, ?_⟩
            intro x7_11 e_x7_11
            have hP := hP x7_11 e_x7_11
            refine F_M_layTwo hf hP (fun r12 h13 hP hf => ?_)
            refine F_M_layTwo hf hP (fun r14 h15 hP hf => ?_)
            refine F_M_layThree hf hP (fun r16 h17 hP hf => ?_)
            refine F_M_layPart_J316 hf hP hq
          · have hP := zif_n hP c
            refine F_M_layJust hf hP (fun r6 h7 hP hf => ?_)
            refine F_M_layPart_J316 hf hP hq
  · have hP := zif_n hP c
    obtain ⟨ob, hP⟩ := hP
    refine ⟨ob, ?_⟩
    obtain ⟨ob, hP⟩ := hP
    refine ⟨ob, ?_⟩
    intro h43 e_h43
    have hP := hP h43 e_h43
    have hf := zF.w hf e_h43 (by decide) (by decide)
    intro h44 e_h44
    have hP := hP h44 e_h44
    have hf := zF.w hf e_h44 (by decide) (by decide)
    exact hq _ _ hP hf
theorem F_M_told_J62 {y2 y4 s0 : Int} {h0 h : zH} {Q' Q : Int → zH → Prop} {k34' k34 : Int → Int → zH → Prop} (hf : zF 101 175 h0 h) (hP : P_M_told_J62 y2 y4 s0 h Q' k34') (hq : ∀ r h', Q' r h' → zF 101 175 h0 h' → Q r h') (hk34 : ∀ v0 v1 h', k34' v0 v1 h' → zF 101 175 h0 h' → k34 v0 v1 h') : P_M_told_J62 y2 y4 s0 h Q k34 := by
  unfold P_M_told_J62 at hP ⊢
  intro x4_7 e_x4_7
  have hP := hP x4_7 e_x4_7
  exact hk34 _ _ _ hP hf
theorem F_M_told_L34 {y2 : Int} {h0 : zH} {Q' Q : Int → zH → Prop} {k69' k69 : Int → zH → Prop} (hq : ∀ r h', Q' r h' → zF 101 175 h0 h' → Q r h') (hk69 : ∀ v0 h', k69' v0 h' → zF 101 175 h0 h' → k69 v0 h') : ∀ (n34 : Nat) (y3 y4 : Int) (h : zH), zF 101 175 h0 h → P_M_told_L34 y2 Q' k69' n34 y3 y4 h → P_M_told_L34 y2 Q k69 n34 y3 y4 h := by
  intro n34
  induction n34 with
  | zero => intro y3 y4 h hf hP; exact absurd hP id
  | succ n34 ih =>
    intro y3 y4 h hf hP
    unfold P_M_told_L34 at hP ⊢
    refine zif_i (fun c => ?_) (fun c => ?_)
    · have hP := zif_p hP c
      exact hk69 _ _ hP hf
    · have hP := zif_n hP c
      refine zif_i (fun c => ?_) (fun c => ?_)
      · have hP := zif_p hP c
        obtain ⟨ob, hP⟩ := hP
        refine ⟨ob, ?_⟩
        refine F_M_wrongItem hf hP (fun r5 h6 hP hf => ?_)
        refine F_M_told_J62 hf hP hq (fun v0 v1 h' hP hf => ih v0 v1 h' hf hP)
      · have hP := zif_n hP c
        refine F_M_told_J62 hf hP hq (fun v0 v1 h' hP hf => ih v0 v1 h' hf hP)
theorem F_M_told_L91 {y2 : Int} {h0 : zH} {Q' Q : Int → zH → Prop} {k117' k117 : zH → Prop} (hq : ∀ r h', Q' r h' → zF 101 175 h0 h' → Q r h') (hk117 : ∀ h', k117' h' → zF 101 175 h0 h' → k117 h') : ∀ (n91 : Nat) (y4 : Int) (h : zH), zF 101 175 h0 h → P_M_told_L91 y2 Q' k117' n91 y4 h → P_M_told_L91 y2 Q k117 n91 y4 h := by
  intro n91
  induction n91 with
  | zero => intro y4 h hf hP; exact absurd hP id
  | succ n91 ih =>
    intro y4 h hf hP
    unfold P_M_told_L91 at hP ⊢
    refine zif_i (fun c => ?_) (fun c => ?_)
    · have hP := zif_p hP c
      exact hk117 _ hP hf
    · have hP := zif_n hP c
      obtain ⟨ob, hP⟩ := hP
      refine ⟨ob, ?_⟩
      refine F_M_layPart hf hP (fun r12 h13 hP hf => ?_)
      intro x4_14 e_x4_14
      have hP := hP x4_14 e_x4_14
      exact ih _ _ hf hP
theorem F_M_told_L156 {y2 y4 : Int} {h0 : zH} {Q' Q : Int → zH → Prop} {k188' k188 : zH → Prop} (hq : ∀ r h', Q' r h' → zF 101 175 h0 h' → Q r h') (hk188 : ∀ h', k188' h' → zF 101 175 h0 h' → k188 h') : ∀ (n156 : Nat) (y5 : Int) (h : zH), zF 101 175 h0 h → P_M_told_L156 y2 y4 Q' k188' n156 y5 h → P_M_told_L156 y2 y4 Q k188 n156 y5 h := by
  intro n156
  induction n156 with
  | zero => intro y5 h hf hP; exact absurd hP id
  | succ n156 ih =>
    intro y5 h hf hP
    unfold P_M_told_L156 at hP ⊢
    refine zif_i (fun c => ?_) (fun c => ?_)
    · have hP := zif_p hP c
      exact hk188 _ hP hf
    · have hP := zif_n hP c
      obtain ⟨ob, hP⟩ := hP
      refine ⟨ob, ?_⟩
      obtain ⟨ob, hP⟩ := hP
      refine ⟨ob, ?_⟩
      intro h23 e_h23
      have hP := hP h23 e_h23
      have hf := zF.w hf e_h23 (by decide) (by decide)
      intro x5_24 e_x5_24
      have hP := hP x5_24 e_x5_24
      exact ih _ _ hf hP
theorem F_M_told_L202 {y4 : Int} {h0 : zH} {Q' Q : Int → zH → Prop} (hq : ∀ r h', Q' r h' → zF 101 175 h0 h' → Q r h') : ∀ (n202 : Nat) (y5 : Int) (h : zH), zF 101 175 h0 h → P_M_told_L202 y4 Q' n202 y5 h → P_M_told_L202 y4 Q n202 y5 h := by
  intro n202
  induction n202 with
  | zero => intro y5 h hf hP; exact absurd hP id
  | succ n202 ih =>
    intro y5 h hf hP
    unfold P_M_told_L202 at hP ⊢
    refine zif_i (fun c => ?_) (fun c => ?_)
    · have hP := zif_p hP c
      exact hq _ _ hP hf
    · have hP := zif_n hP c
      obtain ⟨ob, hP⟩ := hP
      refine ⟨ob, ?_⟩
      obtain ⟨ob, hP⟩ := hP
      refine ⟨ob, ?_⟩
      intro h27 e_h27
      have hP := hP h27 e_h27
      have hf := zF.w hf e_h27 (by decide) (by decide)
      intro x5_28 e_x5_28
      have hP := hP x5_28 e_x5_28
      exact ih _ _ hf hP
theorem F_M_told {h0 h : zH} {Q' Q : Int → zH → Prop} (hf : zF 101 175 h0 h) (hP : P_M_told h Q') (hq : ∀ r h', Q' r h' → zF 101 175 h0 h' → Q r h') : P_M_told h Q := by
  unfold P_M_told at hP ⊢
  refine F_M_faultOfTape hf hP (fun r1 h2 hP hf => ?_)
  intro x2_3 e_x2_3
  have hP := hP x2_3 e_x2_3
  intro h4 e_h4
  have hP := hP h4 e_h4
  have hf := zF.w hf e_h4 (by decide) (by decide)
  refine zif_i (fun c => ?_) (fun c => ?_)
  · have hP := zif_p hP c
    obtain ⟨n34, hP⟩ := hP
    refine ⟨n34, ?_⟩
    refine F_M_told_L34 hq (fun u3_69 h8 hP hf => ?_) _ _ _ _ hf hP
    refine zif_i (fun c => ?_) (fun c => ?_)
    · have hP := zif_p hP c
      refine F_M_beginLaying hf hP (fun r9 h10 hP hf => ?_)
      intro h11 e_h11
      have hP := hP h11 e_h11
      have hf := zF.w hf e_h11 (by decide) (by decide)
      obtain ⟨n91, hP⟩ := hP
      refine ⟨n91, ?_⟩
      refine F_M_told_L91 hq (fun h15 hP hf => ?_) _ _ _ hf hP
      refine F_M_lay hf hP (fun r16 h17 hP hf => ?_)
      refine F_M_endRow hf hP (fun r18 h19 hP hf => ?_)
      refine F_M_keepRule hf hP (fun r20 h21 hP hf => ?_)
      refine zif_i (fun c => ?_) (fun c => ?_)
      · have hP := zif_p hP c
        exact hq _ _ hP hf
      · have hP := zif_n hP c
        obtain ⟨ob, hP⟩ := hP
        refine ⟨ob, ?_⟩
        intro h22 e_h22
        have hP := hP h22 e_h22
        have hf := zF.w hf e_h22 (by decide) (by decide)
        obtain ⟨n156, hP⟩ := hP
        refine ⟨n156, ?_⟩
        refine F_M_told_L156 hq (fun h25 hP hf => ?_) _ _ _ hf hP
        obtain ⟨ob, hP⟩ := hP
        refine ⟨ob, ?_⟩
        intro h26 e_h26
        have hP := hP h26 e_h26
        have hf := zF.w hf e_h26 (by decide) (by decide)
        obtain ⟨n202, hP⟩ := hP
        refine ⟨n202, ?_⟩
        refine F_M_told_L202 hq _ _ _ hf hP
    · have hP := zif_n hP c
      refine F_M_fail hf hP (fun r29 h30 hP hf => ?_)
      exact hq _ _ hP hf
  · have hP := zif_n hP c
    refine F_M_fail hf hP (fun r31 h32 hP hf => ?_)
    exact hq _ _ hP hf
theorem F_M_isRule {a1 : Int} {h0 h : zH} {Q' Q : Int → zH → Prop} (hf : zF 101 175 h0 h) (hP : P_M_isRule a1 h Q') (hq : ∀ r h', Q' r h' → zF 101 175 h0 h' → Q r h') : P_M_isRule a1 h Q := by
  unfold P_M_isRule at hP ⊢
  refine F_M_in hf hP (fun r1 h2 hP hf => ?_)
  obtain ⟨ob, hP⟩ := hP
  refine ⟨ob, ?_⟩
  exact hq _ _ hP hf
theorem F_M_kind {a1 : Int} {h0 h : zH} {Q' Q : Int → zH → Prop} (hf : zF 101 175 h0 h) (hP : P_M_kind a1 h Q') (hq : ∀ r h', Q' r h' → zF 101 175 h0 h' → Q r h') : P_M_kind a1 h Q := by
  unfold P_M_kind at hP ⊢
  refine F_M_isRule hf hP (fun r1 h2 hP hf => ?_)
  refine zif_i (fun c => ?_) (fun c => ?_)
  · have hP := zif_p hP c
    refine F_M_fail hf hP (fun r3 h4 hP hf => ?_)
    exact hq _ _ hP hf
  · have hP := zif_n hP c
    obtain ⟨ob, hP⟩ := hP
    refine ⟨ob, ?_⟩
    exact hq _ _ hP hf
theorem F_M_as_J61 {s0 : Int} {h0 h : zH} {Q' Q : Int → zH → Prop} (hf : zF 101 175 h0 h) (hP : P_M_as_J61 s0 h Q') (hq : ∀ r h', Q' r h' → zF 101 175 h0 h' → Q r h') : P_M_as_J61 s0 h Q := by
  unfold P_M_as_J61 at hP ⊢
  refine zif_i (fun c => ?_) (fun c => ?_)
  · have hP := zif_p hP c
    refine F_M_fail hf hP (fun r8 h9 hP hf => ?_)
    exact hq _ _ hP hf
  · have hP := zif_n hP c
    exact hq _ _ hP hf
theorem F_M_as {a1 a2 : Int} {h0 h : zH} {Q' Q : Int → zH → Prop} (hf : zF 101 175 h0 h) (hP : P_M_as a1 a2 h Q') (hq : ∀ r h', Q' r h' → zF 101 175 h0 h' → Q r h') : P_M_as a1 a2 h Q := by
  unfold P_M_as at hP ⊢
  refine F_M_isRule hf hP (fun r1 h2 hP hf => ?_)
  refine zif_i (fun c => ?_) (fun c => ?_)
  · have hP := zif_p hP c
    refine F_M_fail hf hP (fun r3 h4 hP hf => ?_)
    exact hq _ _ hP hf
  · have hP := zif_n hP c
    refine F_M_in hf hP (fun r5 h6 hP hf => ?_)
    refine zif_i (fun c => ?_) (fun c => ?_)
    · have hP := zif_p hP c
      refine F_M_fail hf hP (fun r10 h11 hP hf => ?_)
      exact hq _ _ hP hf
    · have hP := zif_n hP c
      obtain ⟨ob, hP⟩ := hP
      refine ⟨ob, ?_⟩
      intro x3_7 e_x3_7
      have hP := hP x3_7 e_x3_7
      refine F_M_as_J61 hf hP hq
theorem F_M_item {a1 a2 : Int} {h0 h : zH} {Q' Q : Int → zH → Prop} (hf : zF 101 175 h0 h) (hP : P_M_item a1 a2 h Q') (hq : ∀ r h', Q' r h' → zF 101 175 h0 h' → Q r h') : P_M_item a1 a2 h Q := by
  unfold P_M_item at hP ⊢
  refine F_M_isRule hf hP (fun r1 h2 hP hf => ?_)
  refine zif_i (fun c => ?_) (fun c => ?_)
  · have hP := zif_p hP c
    refine F_M_fail hf hP (fun r5 h6 hP hf => ?_)
    exact hq _ _ hP hf
  · have hP := zif_n hP c
    refine zif_i (fun c => ?_) (fun c => ?_)
    · have hP := zif_p hP c
      obtain ⟨ob, hP⟩ := hP
      refine ⟨ob, ?_⟩
      exact hq _ _ hP hf
    · have hP := zif_n hP c
      obtain ⟨ob, hP⟩ := hP
      refine ⟨ob, ?_⟩
      refine F_M_in hf hP (fun r3 h4 hP hf => ?_)
      obtain ⟨ob, hP⟩ := hP
      refine ⟨ob, ?_⟩
      exact hq _ _ hP hf
theorem F_M_rows {a1 a2 : Int} {h0 h : zH} {Q' Q : Int → zH → Prop} (hf : zF 101 175 h0 h) (hP : P_M_rows a1 a2 h Q') (hq : ∀ r h', Q' r h' → zF 101 175 h0 h' → Q r h') : P_M_rows a1 a2 h Q := by
  unfold P_M_rows at hP ⊢
  refine F_M_isRule hf hP (fun r1 h2 hP hf => ?_)
  refine zif_i (fun c => ?_) (fun c => ?_)
  · have hP := zif_p hP c
    refine F_M_fail hf hP (fun r5 h6 hP hf => ?_)
    exact hq _ _ hP hf
  · have hP := zif_n hP c
    obtain ⟨ob, hP⟩ := hP
    refine ⟨ob, ?_⟩
    refine F_M_in hf hP (fun r3 h4 hP hf => ?_)
    obtain ⟨ob, hP⟩ := hP
    refine ⟨ob, ?_⟩
    exact hq _ _ hP hf
theorem F_M_sizeOf {a1 a2 : Int} {h0 h : zH} {Q' Q : Int → zH → Prop} (hf : zF 101 175 h0 h) (hP : P_M_sizeOf a1 a2 h Q') (hq : ∀ r h', Q' r h' → zF 101 175 h0 h' → Q r h') : P_M_sizeOf a1 a2 h Q := by
  unfold P_M_sizeOf at hP ⊢
  refine zif_i (fun c => ?_) (fun c => ?_)
  · have hP := zif_p hP c
    obtain ⟨ob, hP⟩ := hP
    refine ⟨ob, ?_⟩
    exact hq _ _ hP hf
  · have hP := zif_n hP c
    obtain ⟨ob, hP⟩ := hP
    refine ⟨ob, ?_⟩
    obtain ⟨ob, hP⟩ := hP
    refine ⟨ob, ?_⟩
    exact hq _ _ hP hf
theorem F_M_itemOf {a1 a2 a3 : Int} {h0 h : zH} {Q' Q : Int → zH → Prop} (hf : zF 101 175 h0 h) (hP : P_M_itemOf a1 a2 a3 h Q') (hq : ∀ r h', Q' r h' → zF 101 175 h0 h' → Q r h') : P_M_itemOf a1 a2 a3 h Q := by
  unfold P_M_itemOf at hP ⊢
  refine zif_i (fun c => ?_) (fun c => ?_)
  · have hP := zif_p hP c
    obtain ⟨ob, hP⟩ := hP
    refine ⟨ob, ?_⟩
    exact hq _ _ hP hf
  · have hP := zif_n hP c
    obtain ⟨ob, hP⟩ := hP
    refine ⟨ob, ?_⟩
    obtain ⟨ob, hP⟩ := hP
    refine ⟨ob, ?_⟩
    exact hq _ _ hP hf
theorem F_M_line_J64 {y1 y2 s0 : Int} {h0 h : zH} {Q' Q : Int → zH → Prop} (hf : zF 101 175 h0 h) (hP : P_M_line_J64 y1 y2 s0 h Q') (hq : ∀ r h', Q' r h' → zF 101 175 h0 h' → Q r h') : P_M_line_J64 y1 y2 s0 h Q := by
  unfold P_M_line_J64 at hP ⊢
  refine zif_i (fun c => ?_) (fun c => ?_)
  · have hP := zif_p hP c
    refine zif_i (fun c => ?_) (fun c => ?_)
    · have hP := zif_p hP c
      exact hq _ _ hP hf
    · have hP := zif_n hP c
      refine F_M_in hf hP (fun r5 h6 hP hf => ?_)
      refine zif_i (fun c => ?_) (fun c => ?_)
      · have hP := zif_p hP c
        exact hq _ _ hP hf
      · have hP := zif_n hP c
        refine F_M_itemOf hf hP (fun r7 h8 hP hf => ?_)
        exact hq _ _ hP hf
  · have hP := zif_n hP c
    exact hq _ _ hP hf
theorem F_M_line_J52 {y1 y2 : Int} {h0 h : zH} {Q' Q : Int → zH → Prop} (hf : zF 101 175 h0 h) (hP : P_M_line_J52 y1 y2 h Q') (hq : ∀ r h', Q' r h' → zF 101 175 h0 h' → Q r h') : P_M_line_J52 y1 y2 h Q := by
  unfold P_M_line_J52 at hP ⊢
  refine F_M_sizeOf hf hP (fun r3 h4 hP hf => ?_)
  refine F_M_line_J64 hf hP hq
theorem F_M_line {a1 a2 : Int} {h0 h : zH} {Q' Q : Int → zH → Prop} (hf : zF 101 175 h0 h) (hP : P_M_line a1 a2 h Q') (hq : ∀ r h', Q' r h' → zF 101 175 h0 h' → Q r h') : P_M_line a1 a2 h Q := by
  unfold P_M_line at hP ⊢
  refine F_M_in hf hP (fun r1 h2 hP hf => ?_)
  refine zif_i (fun c => ?_) (fun c => ?_)
  · have hP := zif_p hP c
    refine F_M_in hf hP (fun r9 h10 hP hf => ?_)
    refine zif_i (fun c => ?_) (fun c => ?_)
    · have hP := zif_p hP c
      refine F_M_in hf hP (fun r11 h12 hP hf => ?_)
      refine zif_i (fun c => ?_) (fun c => ?_)
      · have hP := zif_p hP c
        refine F_M_line_J64 hf hP hq
      · have hP := zif_n hP c
        refine F_M_line_J52 hf hP hq
    · have hP := zif_n hP c
      refine F_M_line_J52 hf hP hq
  · have hP := zif_n hP c
    refine F_M_line_J52 hf hP hq
theorem F_M_mark {a1 : Int} {h0 h : zH} {Q' Q : Int → zH → Prop} (hf : zF 101 175 h0 h) (hP : P_M_mark a1 h Q') (hq : ∀ r h', Q' r h' → zF 101 175 h0 h' → Q r h') : P_M_mark a1 h Q := by
  unfold P_M_mark at hP ⊢
  obtain ⟨ob, hP⟩ := hP
  refine ⟨ob, ?_⟩
  intro h1 e_h1
  have hP := hP h1 e_h1
  have hf := zF.w hf e_h1 (by decide) (by decide)
  intro h2 e_h2
  have hP := hP h2 e_h2
  have hf := zF.w hf e_h2 (by decide) (by decide)
  exact hq _ _ hP hf
theorem F_M_isTrue {a1 : Int} {h0 h : zH} {Q' Q : Int → zH → Prop} (hf : zF 101 175 h0 h) (hP : P_M_isTrue a1 h Q') (hq : ∀ r h', Q' r h' → zF 101 175 h0 h' → Q r h') : P_M_isTrue a1 h Q := by
  unfold P_M_isTrue at hP ⊢
  obtain ⟨ob, hP⟩ := hP
  refine ⟨ob, ?_⟩
  exact hq _ _ hP hf
theorem F_M_isTextSo_J142 {y1 y2 y3 y5 y6 y8 s0 s1 : Int} {h0 h : zH} {Q' Q : Int → zH → Prop} {k119' k119 : Int → Int → zH → Prop} (hf : zF 101 175 h0 h) (hP : P_M_isTextSo_J142 y1 y2 y3 y5 y6 y8 s0 s1 h Q' k119') (hq : ∀ r h', Q' r h' → zF 101 175 h0 h' → Q r h') (hk119 : ∀ v0 v1 h', k119' v0 v1 h' → zF 101 175 h0 h' → k119 v0 v1 h') : P_M_isTextSo_J142 y1 y2 y3 y5 y6 y8 s0 s1 h Q k119 := by
  unfold P_M_isTextSo_J142 at hP ⊢
  intro x7_5 e_x7_5
  have hP := hP x7_5 e_x7_5
  intro x8_6 e_x8_6
  have hP := hP x8_6 e_x8_6
  exact hk119 _ _ _ hP hf
theorem F_M_isTextSo_L119 {y1 y2 y3 y5 y6 : Int} {h0 : zH} {Q' Q : Int → zH → Prop} {k151' k151 : Int → zH → Prop} (hq : ∀ r h', Q' r h' → zF 101 175 h0 h' → Q r h') (hk151 : ∀ v0 h', k151' v0 h' → zF 101 175 h0 h' → k151 v0 h') : ∀ (n119 : Nat) (y7 y8 : Int) (h : zH), zF 101 175 h0 h → P_M_isTextSo_L119 y1 y2 y3 y5 y6 Q' k151' n119 y7 y8 h → P_M_isTextSo_L119 y1 y2 y3 y5 y6 Q k151 n119 y7 y8 h := by
  intro n119
  induction n119 with
  | zero => intro y7 y8 h hf hP; exact absurd hP id
  | succ n119 ih =>
    intro y7 y8 h hf hP
    unfold P_M_isTextSo_L119 at hP ⊢
    refine zif_i (fun c => ?_) (fun c => ?_)
    · have hP := zif_p hP c
      exact hk151 _ _ hP hf
    · have hP := zif_n hP c
      obtain ⟨ob, hP⟩ := hP
      refine ⟨ob, ?_⟩
      refine F_M_isTextSo_J142 hf hP hq (fun v0 v1 h' hP hf => ih v0 v1 h' hf hP)
theorem F_M_isTextSo_J264 {y1 y2 y3 : Int} {h0 h : zH} {Q' Q : Int → zH → Prop} {k4' k4 : Int → Int → zH → Prop} (hf : zF 101 175 h0 h) (hP : P_M_isTextSo_J264 y1 y2 y3 h Q' k4') (hq : ∀ r h', Q' r h' → zF 101 175 h0 h' → Q r h') (hk4 : ∀ v0 v1 h', k4' v0 v1 h' → zF 101 175 h0 h' → k4 v0 v1 h') : P_M_isTextSo_J264 y1 y2 y3 h Q k4 := by
  unfold P_M_isTextSo_J264 at hP ⊢
  intro x3_13 e_x3_13
  have hP := hP x3_13 e_x3_13
  exact hk4 _ _ _ hP hf
theorem F_M_isTextSo_J260 {y1 y2 y3 s0 s1 : Int} {h0 h : zH} {Q' Q : Int → zH → Prop} {k4' k4 : Int → Int → zH → Prop} (hf : zF 101 175 h0 h) (hP : P_M_isTextSo_J260 y1 y2 y3 s0 s1 h Q' k4') (hq : ∀ r h', Q' r h' → zF 101 175 h0 h' → Q r h') (hk4 : ∀ v0 v1 h', k4' v0 v1 h' → zF 101 175 h0 h' → k4 v0 v1 h') : P_M_isTextSo_J260 y1 y2 y3 s0 s1 h Q k4 := by
  unfold P_M_isTextSo_J260 at hP ⊢
  obtain ⟨ob, hP⟩ := hP
  refine ⟨ob, ?_⟩
  intro h11 e_h11
  have hP := hP h11 e_h11
  have hf := zF.w hf e_h11 (by decide) (by decide)
  intro x2_12 e_x2_12
  have hP := hP x2_12 e_x2_12
  refine F_M_isTextSo_J264 hf hP hq hk4
theorem F_M_isTextSo_J90 {y1 y2 y3 s0 s1 : Int} {h0 h : zH} {Q' Q : Int → zH → Prop} {k4' k4 : Int → Int → zH → Prop} (hf : zF 101 175 h0 h) (hP : P_M_isTextSo_J90 y1 y2 y3 s0 s1 h Q' k4') (hq : ∀ r h', Q' r h' → zF 101 175 h0 h' → Q r h') (hk4 : ∀ v0 v1 h', k4' v0 v1 h' → zF 101 175 h0 h' → k4 v0 v1 h') : P_M_isTextSo_J90 y1 y2 y3 s0 s1 h Q k4 := by
  unfold P_M_isTextSo_J90 at hP ⊢
  obtain ⟨ob, hP⟩ := hP
  refine ⟨ob, ?_⟩
  intro h14 e_h14
  have hP := hP h14 e_h14
  have hf := zF.w hf e_h14 (by decide) (by decide)
  refine F_M_isTextSo_J264 hf hP hq hk4
theorem F_M_isTextSo_L4 {y1 : Int} {h0 : zH} {Q' Q : Int → zH → Prop} (hq : ∀ r h', Q' r h' → zF 101 175 h0 h' → Q r h') : ∀ (n4 : Nat) (y2 y3 : Int) (h : zH), zF 101 175 h0 h → P_M_isTextSo_L4 y1 Q' n4 y2 y3 h → P_M_isTextSo_L4 y1 Q n4 y2 y3 h := by
  intro n4
  induction n4 with
  | zero => intro y2 y3 h hf hP; exact absurd hP id
  | succ n4 ih =>
    intro y2 y3 h hf hP
    unfold P_M_isTextSo_L4 at hP ⊢
    obtain ⟨ob, hP⟩ := hP
    refine ⟨ob, ?_⟩
    refine zif_i (fun c => ?_) (fun c => ?_)
    · have hP := zif_p hP c
      obtain ⟨ob, hP⟩ := hP
      refine ⟨ob, ?_⟩
      exact hq _ _ hP hf
    · have hP := zif_n hP c
      obtain ⟨ob, hP⟩ := hP
      refine ⟨ob, ?_⟩
      intro x4_1 e_x4_1
      have hP := hP x4_1 e_x4_1
      refine zif_i (fun c => ?_) (fun c => ?_)
      · have hP := zif_p hP c
        refine zif_i (fun c => ?_) (fun c => ?_)
        · have hP := zif_p hP c
          obtain ⟨ob, hP⟩ := hP
          refine ⟨ob, ?_⟩
          refine F_M_isTextSo_J90 hf hP hq (fun v0 v1 h' hP hf => ih v0 v1 h' hf hP)
        · have hP := zif_n hP c
          intro x5_2 e_x5_2
          have hP := hP x5_2 e_x5_2
          intro x6_3 e_x6_3
          have hP := hP x6_3 e_x6_3
          intro x8_4 e_x8_4
          have hP := hP x8_4 e_x8_4
          obtain ⟨n119, hP⟩ := hP
          refine ⟨n119, ?_⟩
          refine F_M_isTextSo_L119 hq (fun u7_151 h7 hP hf => ?_) _ _ _ _ hf hP
          obtain ⟨ob, hP⟩ := hP
          refine ⟨ob, ?_⟩
          intro x8_8 e_x8_8
          have hP := hP x8_8 e_x8_8
          obtain ⟨ob, hP⟩ := hP
          refine ⟨ob, ?_⟩
          intro x9_9 e_x9_9
          have hP := hP x9_9 e_x9_9
          intro x2_10 e_x2_10
          have hP := hP x2_10 e_x2_10
          refine F_M_isTextSo_J260 hf hP hq (fun v0 v1 h' hP hf => ih v0 v1 h' hf hP)
      · have hP := zif_n hP c
        obtain ⟨ob, hP⟩ := hP
        refine ⟨ob, ?_⟩
        refine F_M_isTrue hf hP (fun r15 h16 hP hf => ?_)
        obtain ⟨ob, hP⟩ := hP
        refine ⟨ob, ?_⟩
        intro h17 e_h17
        have hP := hP h17 e_h17
        have hf := zF.w hf e_h17 (by decide) (by decide)
        intro x2_18 e_x2_18
        have hP := hP x2_18 e_x2_18
        refine F_M_isTextSo_J264 hf hP hq (fun v0 v1 h' hP hf => ih v0 v1 h' hf hP)
theorem F_M_isTextSo {a1 : Int} {h0 h : zH} {Q' Q : Int → zH → Prop} (hf : zF 101 175 h0 h) (hP : P_M_isTextSo a1 h Q') (hq : ∀ r h', Q' r h' → zF 101 175 h0 h' → Q r h') : P_M_isTextSo a1 h Q := by
  unfold P_M_isTextSo at hP ⊢
  obtain ⟨n4, hP⟩ := hP
  refine ⟨n4, ?_⟩
  refine F_M_isTextSo_L4 hq _ _ _ _ hf hP
theorem F_M_truesOf_J38 {y1 y3 s0 s1 : Int} {h0 h : zH} {Q' Q : Int → zH → Prop} {k4' k4 : Int → Int → zH → Prop} (hf : zF 101 175 h0 h) (hP : P_M_truesOf_J38 y1 y3 s0 s1 h Q' k4') (hq : ∀ r h', Q' r h' → zF 101 175 h0 h' → Q r h') (hk4 : ∀ v0 v1 h', k4' v0 v1 h' → zF 101 175 h0 h' → k4 v0 v1 h') : P_M_truesOf_J38 y1 y3 s0 s1 h Q k4 := by
  unfold P_M_truesOf_J38 at hP ⊢
  intro x2_3 e_x2_3
  have hP := hP x2_3 e_x2_3
  intro x3_4 e_x3_4
  have hP := hP x3_4 e_x3_4
  exact hk4 _ _ _ hP hf
theorem F_M_truesOf_L4 {y1 : Int} {h0 : zH} {Q' Q : Int → zH → Prop} (hq : ∀ r h', Q' r h' → zF 101 175 h0 h' → Q r h') : ∀ (n4 : Nat) (y2 y3 : Int) (h : zH), zF 101 175 h0 h → P_M_truesOf_L4 y1 Q' n4 y2 y3 h → P_M_truesOf_L4 y1 Q n4 y2 y3 h := by
  intro n4
  induction n4 with
  | zero => intro y2 y3 h hf hP; exact absurd hP id
  | succ n4 ih =>
    intro y2 y3 h hf hP
    unfold P_M_truesOf_L4 at hP ⊢
    obtain ⟨ob, hP⟩ := hP
    refine ⟨ob, ?_⟩
    refine zif_i (fun c => ?_) (fun c => ?_)
    · have hP := zif_p hP c
      exact hq _ _ hP hf
    · have hP := zif_n hP c
      obtain ⟨ob, hP⟩ := hP
      refine ⟨ob, ?_⟩
      refine F_M_isTrue hf hP (fun r1 h2 hP hf => ?_)
      refine F_M_truesOf_J38 hf hP hq (fun v0 v1 h' hP hf => ih v0 v1 h' hf hP)
theorem F_M_truesOf {a1 : Int} {h0 h : zH} {Q' Q : Int → zH → Prop} (hf : zF 101 175 h0 h) (hP : P_M_truesOf a1 h Q') (hq : ∀ r h', Q' r h' → zF 101 175 h0 h' → Q r h') : P_M_truesOf a1 h Q := by
  unfold P_M_truesOf at hP ⊢
  obtain ⟨n4, hP⟩ := hP
  refine ⟨n4, ?_⟩
  refine F_M_truesOf_L4 hq _ _ _ _ hf hP
theorem F_M_holds {a1 : Int} {h0 h : zH} {Q' Q : Int → zH → Prop} (hf : zF 101 175 h0 h) (hP : P_M_holds a1 h Q') (hq : ∀ r h', Q' r h' → zF 101 175 h0 h' → Q r h') : P_M_holds a1 h Q := by
  unfold P_M_holds at hP ⊢
  obtain ⟨ob, hP⟩ := hP
  refine ⟨ob, ?_⟩
  intro x2_1 e_x2_1
  have hP := hP x2_1 e_x2_1
  refine F_M_mark hf hP (fun r2 h3 hP hf => ?_)
  refine zif_i (fun c => ?_) (fun c => ?_)
  · have hP := zif_p hP c
    refine F_M_isTextSo hf hP (fun r8 h9 hP hf => ?_)
    obtain ⟨ob, hP⟩ := hP
    refine ⟨ob, ?_⟩
    exact hq _ _ hP hf
  · have hP := zif_n hP c
    refine F_M_truesOf hf hP (fun r4 h5 hP hf => ?_)
    refine zif_i (fun c => ?_) (fun c => ?_)
    · have hP := zif_p hP c
      refine F_M_mark hf hP (fun r6 h7 hP hf => ?_)
      obtain ⟨ob, hP⟩ := hP
      refine ⟨ob, ?_⟩
      exact hq _ _ hP hf
    · have hP := zif_n hP c
      obtain ⟨ob, hP⟩ := hP
      refine ⟨ob, ?_⟩
      exact hq _ _ hP hf
theorem F_M_leastTrue_J61 {y2 : Int} {h0 h : zH} {Q' Q : Int → zH → Prop} (hf : zF 101 175 h0 h) (hP : P_M_leastTrue_J61 y2 h Q') (hq : ∀ r h', Q' r h' → zF 101 175 h0 h' → Q r h') : P_M_leastTrue_J61 y2 h Q := by
  unfold P_M_leastTrue_J61 at hP ⊢
  refine F_M_mark hf hP (fun r1 h2 hP hf => ?_)
  refine F_M_mark hf hP (fun r3 h4 hP hf => ?_)
  exact hq _ _ hP hf
theorem F_M_leastTrue {a1 a2 : Int} {h0 h : zH} {Q' Q : Int → zH → Prop} (hf : zF 101 175 h0 h) (hP : P_M_leastTrue a1 a2 h Q') (hq : ∀ r h', Q' r h' → zF 101 175 h0 h' → Q r h') : P_M_leastTrue a1 a2 h Q := by
  unfold P_M_leastTrue at hP ⊢
  refine zif_i (fun c => ?_) (fun c => ?_)
  · have hP := zif_p hP c
    refine F_M_mark hf hP (fun r11 h12 hP hf => ?_)
    obtain ⟨ob, hP⟩ := hP
    refine ⟨ob, ?_⟩
    exact hq _ _ hP hf
  · have hP := zif_n hP c
    refine zif_i (fun c => ?_) (fun c => ?_)
    · have hP := zif_p hP c
      refine F_M_mark hf hP (fun r7 h8 hP hf => ?_)
      refine F_M_mark hf hP (fun r9 h10 hP hf => ?_)
      obtain ⟨ob, hP⟩ := hP
      refine ⟨ob, ?_⟩
      exact hq _ _ hP hf
    · have hP := zif_n hP c
      refine zif_i (fun c => ?_) (fun c => ?_)
      · have hP := zif_p hP c
        refine F_M_mark hf hP (fun r5 h6 hP hf => ?_)
        refine F_M_leastTrue_J61 hf hP hq
      · have hP := zif_n hP c
        refine F_M_leastTrue_J61 hf hP hq
theorem F_M_mostTrue_J79 {y1 y3 s0 : Int} {h0 h : zH} {Q' Q : Int → zH → Prop} (hf : zF 101 175 h0 h) (hP : P_M_mostTrue_J79 y1 y3 s0 h Q') (hq : ∀ r h', Q' r h' → zF 101 175 h0 h' → Q r h') : P_M_mostTrue_J79 y1 y3 s0 h Q := by
  unfold P_M_mostTrue_J79 at hP ⊢
  obtain ⟨ob, hP⟩ := hP
  refine ⟨ob, ?_⟩
  exact hq _ _ hP hf
theorem F_M_mostTrue_J50 {y1 y2 y3 : Int} {h0 h : zH} {Q' Q : Int → zH → Prop} (hf : zF 101 175 h0 h) (hP : P_M_mostTrue_J50 y1 y2 y3 h Q') (hq : ∀ r h', Q' r h' → zF 101 175 h0 h' → Q r h') : P_M_mostTrue_J50 y1 y2 y3 h Q := by
  unfold P_M_mostTrue_J50 at hP ⊢
  refine F_M_mark hf hP (fun r4 h5 hP hf => ?_)
  refine zif_i (fun c => ?_) (fun c => ?_)
  · have hP := zif_p hP c
    exact hq _ _ hP hf
  · have hP := zif_n hP c
    refine zif_i (fun c => ?_) (fun c => ?_)
    · have hP := zif_p hP c
      refine F_M_mostTrue_J79 hf hP hq
    · have hP := zif_n hP c
      obtain ⟨ob, hP⟩ := hP
      refine ⟨ob, ?_⟩
      obtain ⟨ob, hP⟩ := hP
      refine ⟨ob, ?_⟩
      exact hq _ _ hP hf
theorem F_M_mostTrue_J30 {y1 y2 y3 : Int} {h0 h : zH} {Q' Q : Int → zH → Prop} (hf : zF 101 175 h0 h) (hP : P_M_mostTrue_J30 y1 y2 y3 h Q') (hq : ∀ r h', Q' r h' → zF 101 175 h0 h' → Q r h') : P_M_mostTrue_J30 y1 y2 y3 h Q := by
  unfold P_M_mostTrue_J30 at hP ⊢
  refine F_M_mark hf hP (fun r2 h3 hP hf => ?_)
  refine F_M_mostTrue_J50 hf hP hq
theorem F_M_mostTrue {a1 a2 : Int} {h0 h : zH} {Q' Q : Int → zH → Prop} (hf : zF 101 175 h0 h) (hP : P_M_mostTrue a1 a2 h Q') (hq : ∀ r h', Q' r h' → zF 101 175 h0 h' → Q r h') : P_M_mostTrue a1 a2 h Q := by
  unfold P_M_mostTrue at hP ⊢
  obtain ⟨ob, hP⟩ := hP
  refine ⟨ob, ?_⟩
  intro x3_1 e_x3_1
  have hP := hP x3_1 e_x3_1
  refine zif_i (fun c => ?_) (fun c => ?_)
  · have hP := zif_p hP c
    refine F_M_mark hf hP (fun r8 h9 hP hf => ?_)
    exact hq _ _ hP hf
  · have hP := zif_n hP c
    refine zif_i (fun c => ?_) (fun c => ?_)
    · have hP := zif_p hP c
      refine F_M_mostTrue_J30 hf hP hq
    · have hP := zif_n hP c
      refine zif_i (fun c => ?_) (fun c => ?_)
      · have hP := zif_p hP c
        refine F_M_mostTrue_J30 hf hP hq
      · have hP := zif_n hP c
        refine zif_i (fun c => ?_) (fun c => ?_)
        · have hP := zif_p hP c
          refine F_M_mark hf hP (fun r6 h7 hP hf => ?_)
          refine F_M_mostTrue_J50 hf hP hq
        · have hP := zif_n hP c
          refine F_M_mostTrue_J50 hf hP hq
theorem F_M_ask_J55 {y1 y2 : Int} {h0 h : zH} {Q' Q : Int → zH → Prop} (hf : zF 101 175 h0 h) (hP : P_M_ask_J55 y1 y2 h Q') (hq : ∀ r h', Q' r h' → zF 101 175 h0 h' → Q r h') : P_M_ask_J55 y1 y2 h Q := by
  unfold P_M_ask_J55 at hP ⊢
  refine zif_i (fun c => ?_) (fun c => ?_)
  · have hP := zif_p hP c
    refine F_M_holds hf hP (fun r7 h8 hP hf => ?_)
    exact hq _ _ hP hf
  · have hP := zif_n hP c
    refine zif_i (fun c => ?_) (fun c => ?_)
    · have hP := zif_p hP c
      obtain ⟨ob, hP⟩ := hP
      refine ⟨ob, ?_⟩
      refine F_M_leastTrue hf hP (fun r9 h10 hP hf => ?_)
      exact hq _ _ hP hf
    · have hP := zif_n hP c
      refine zif_i (fun c => ?_) (fun c => ?_)
      · have hP := zif_p hP c
        obtain ⟨ob, hP⟩ := hP
        refine ⟨ob, ?_⟩
        refine F_M_mostTrue hf hP (fun r11 h12 hP hf => ?_)
        exact hq _ _ hP hf
      · have hP := zif_n hP c
        refine F_M_mark hf hP (fun r13 h14 hP hf => ?_)
        obtain ⟨ob, hP⟩ := hP
        refine ⟨ob, ?_⟩
        exact hq _ _ hP hf
theorem F_M_ask {a1 a2 : Int} {h0 h : zH} {Q' Q : Int → zH → Prop} (hf : zF 101 175 h0 h) (hP : P_M_ask a1 a2 h Q') (hq : ∀ r h', Q' r h' → zF 101 175 h0 h' → Q r h') : P_M_ask a1 a2 h Q := by
  unfold P_M_ask at hP ⊢
  refine F_M_isRule hf hP (fun r1 h2 hP hf => ?_)
  refine zif_i (fun c => ?_) (fun c => ?_)
  · have hP := zif_p hP c
    refine F_M_fail hf hP (fun r3 h4 hP hf => ?_)
    exact hq _ _ hP hf
  · have hP := zif_n hP c
    refine F_M_in hf hP (fun r5 h6 hP hf => ?_)
    refine zif_i (fun c => ?_) (fun c => ?_)
    · have hP := zif_p hP c
      refine F_M_fail hf hP (fun r19 h20 hP hf => ?_)
      exact hq _ _ hP hf
    · have hP := zif_n hP c
      refine zif_i (fun c => ?_) (fun c => ?_)
      · have hP := zif_p hP c
        refine zif_i (fun c => ?_) (fun c => ?_)
        · have hP := zif_p hP c
          refine zif_i (fun c => ?_) (fun c => ?_)
          · have hP := zif_p hP c
            refine F_M_ask_J55 hf hP hq
          · have hP := zif_n hP c
            refine F_M_fail hf hP (fun r17 h18 hP hf => ?_)
            exact hq _ _ hP hf
        · have hP := zif_n hP c
          refine F_M_fail hf hP (fun r15 h16 hP hf => ?_)
          exact hq _ _ hP hf
      · have hP := zif_n hP c
        refine F_M_ask_J55 hf hP hq
theorem F_M_write {a1 : Int} {h0 h : zH} {Q' Q : Int → zH → Prop} (hf : zF 101 175 h0 h) (hP : P_M_write a1 h Q') (hq : ∀ r h', Q' r h' → zF 101 175 h0 h' → Q r h') : P_M_write a1 h Q := by
  unfold P_M_write at hP ⊢
  obtain ⟨ob, hP⟩ := hP
  refine ⟨ob, ?_⟩
  intro h1 e_h1
  have hP := hP h1 e_h1
  have hf := zF.w hf e_h1 (by decide) (by decide)
  intro h2 e_h2
  have hP := hP h2 e_h2
  have hf := zF.w hf e_h2 (by decide) (by decide)
  exact hq _ _ hP hf
theorem F_M_writeWord_L2 {h0 : zH} {Q' Q : Int → zH → Prop} (hq : ∀ r h', Q' r h' → zF 101 175 h0 h' → Q r h') : ∀ (n2 : Nat) (y2 : Int) (h : zH), zF 101 175 h0 h → P_M_writeWord_L2 Q' n2 y2 h → P_M_writeWord_L2 Q n2 y2 h := by
  intro n2
  induction n2 with
  | zero => intro y2 h hf hP; exact absurd hP id
  | succ n2 ih =>
    intro y2 h hf hP
    unfold P_M_writeWord_L2 at hP ⊢
    obtain ⟨ob, hP⟩ := hP
    refine ⟨ob, ?_⟩
    refine zif_i (fun c => ?_) (fun c => ?_)
    · have hP := zif_p hP c
      exact hq _ _ hP hf
    · have hP := zif_n hP c
      obtain ⟨ob, hP⟩ := hP
      refine ⟨ob, ?_⟩
      refine F_M_write hf hP (fun r1 h2 hP hf => ?_)
      intro x2_3 e_x2_3
      have hP := hP x2_3 e_x2_3
      exact ih _ _ hf hP
theorem F_M_writeWord {a1 : Int} {h0 h : zH} {Q' Q : Int → zH → Prop} (hf : zF 101 175 h0 h) (hP : P_M_writeWord a1 h Q') (hq : ∀ r h', Q' r h' → zF 101 175 h0 h' → Q r h') : P_M_writeWord a1 h Q := by
  unfold P_M_writeWord at hP ⊢
  obtain ⟨n2, hP⟩ := hP
  refine ⟨n2, ?_⟩
  refine F_M_writeWord_L2 hq _ _ _ hf hP
theorem F_M_writeNumber_J32 {y2 : Int} {h0 h : zH} {Q' Q : Int → zH → Prop} (hf : zF 101 175 h0 h) (hP : P_M_writeNumber_J32 y2 h Q') (hq : ∀ r h', Q' r h' → zF 101 175 h0 h' → Q r h') : P_M_writeNumber_J32 y2 h Q := by
  unfold P_M_writeNumber_J32 at hP ⊢
  refine zif_i (fun c => ?_) (fun c => ?_)
  · have hP := zif_p hP c
    refine F_M_write hf hP (fun r1 h2 hP hf => ?_)
    exact hq _ _ hP hf
  · have hP := zif_n hP c
    refine F_M_write hf hP (fun r3 h4 hP hf => ?_)
    refine F_M_write hf hP (fun r5 h6 hP hf => ?_)
    exact hq _ _ hP hf
theorem F_M_writeNumber_J15 {y2 : Int} {h0 h : zH} {Q' Q : Int → zH → Prop} (hf : zF 101 175 h0 h) (hP : P_M_writeNumber_J15 y2 h Q') (hq : ∀ r h', Q' r h' → zF 101 175 h0 h' → Q r h') : P_M_writeNumber_J15 y2 h Q := by
  unfold P_M_writeNumber_J15 at hP ⊢
  refine zif_i (fun c => ?_) (fun c => ?_)
  · have hP := zif_p hP c
    refine F_M_writeNumber_J32 hf hP hq
  · have hP := zif_n hP c
    refine F_M_write hf hP (fun r7 h8 hP hf => ?_)
    refine F_M_writeNumber_J32 hf hP hq
theorem F_M_writeNumber {a1 : Int} {h0 h : zH} {Q' Q : Int → zH → Prop} (hf : zF 101 175 h0 h) (hP : P_M_writeNumber a1 h Q') (hq : ∀ r h', Q' r h' → zF 101 175 h0 h' → Q r h') : P_M_writeNumber a1 h Q := by
  unfold P_M_writeNumber at hP ⊢
  refine zif_i (fun c => ?_) (fun c => ?_)
  · have hP := zif_p hP c
    refine F_M_writeNumber_J15 hf hP hq
  · have hP := zif_n hP c
    refine F_M_write hf hP (fun r9 h10 hP hf => ?_)
    intro x2_11 e_x2_11
    have hP := hP x2_11 e_x2_11
    refine F_M_writeNumber_J15 hf hP hq
theorem F_M_writeList_J34 {y1 y2 : Int} {h0 h : zH} {Q' Q : Int → zH → Prop} {k14' k14 : Int → zH → Prop} (hf : zF 101 175 h0 h) (hP : P_M_writeList_J34 y1 y2 h Q' k14') (hq : ∀ r h', Q' r h' → zF 101 175 h0 h' → Q r h') (hk14 : ∀ v0 h', k14' v0 h' → zF 101 175 h0 h' → k14 v0 h') : P_M_writeList_J34 y1 y2 h Q k14 := by
  unfold P_M_writeList_J34 at hP ⊢
  obtain ⟨ob, hP⟩ := hP
  refine ⟨ob, ?_⟩
  refine F_M_writeNumber hf hP (fun r7 h8 hP hf => ?_)
  intro x2_9 e_x2_9
  have hP := hP x2_9 e_x2_9
  exact hk14 _ _ hP hf
theorem F_M_writeList_L14 {y1 : Int} {h0 : zH} {Q' Q : Int → zH → Prop} (hq : ∀ r h', Q' r h' → zF 101 175 h0 h' → Q r h') : ∀ (n14 : Nat) (y2 : Int) (h : zH), zF 101 175 h0 h → P_M_writeList_L14 y1 Q' n14 y2 h → P_M_writeList_L14 y1 Q n14 y2 h := by
  intro n14
  induction n14 with
  | zero => intro y2 h hf hP; exact absurd hP id
  | succ n14 ih =>
    intro y2 h hf hP
    unfold P_M_writeList_L14 at hP ⊢
    obtain ⟨ob, hP⟩ := hP
    refine ⟨ob, ?_⟩
    refine zif_i (fun c => ?_) (fun c => ?_)
    · have hP := zif_p hP c
      refine F_M_write hf hP (fun r5 h6 hP hf => ?_)
      exact hq _ _ hP hf
    · have hP := zif_n hP c
      refine zif_i (fun c => ?_) (fun c => ?_)
      · have hP := zif_p hP c
        refine F_M_writeList_J34 hf hP hq (fun v0 h' hP hf => ih v0 h' hf hP)
      · have hP := zif_n hP c
        refine F_M_write hf hP (fun r10 h11 hP hf => ?_)
        refine F_M_writeList_J34 hf hP hq (fun v0 h' hP hf => ih v0 h' hf hP)
theorem F_M_writeList {a1 : Int} {h0 h : zH} {Q' Q : Int → zH → Prop} (hf : zF 101 175 h0 h) (hP : P_M_writeList a1 h Q') (hq : ∀ r h', Q' r h' → zF 101 175 h0 h' → Q r h') : P_M_writeList a1 h Q := by
  unfold P_M_writeList at hP ⊢
  refine F_M_mark hf hP (fun r1 h2 hP hf => ?_)
  refine F_M_write hf hP (fun r3 h4 hP hf => ?_)
  obtain ⟨n14, hP⟩ := hP
  refine ⟨n14, ?_⟩
  refine F_M_writeList_L14 hq _ _ _ hf hP
theorem F_M_print_J108 {y1 : Int} {h0 h : zH} {Q' Q : Int → zH → Prop} (hf : zF 101 175 h0 h) (hP : P_M_print_J108 y1 h Q') (hq : ∀ r h', Q' r h' → zF 101 175 h0 h' → Q r h') : P_M_print_J108 y1 h Q := by
  unfold P_M_print_J108 at hP ⊢
  refine F_M_writeWord hf hP (fun r7 h8 hP hf => ?_)
  obtain ⟨ob, hP⟩ := hP
  refine ⟨ob, ?_⟩
  refine F_M_writeNumber hf hP (fun r9 h10 hP hf => ?_)
  refine F_M_writeList hf hP (fun r11 h12 hP hf => ?_)
  exact hq _ _ hP hf
theorem F_M_print_J98 {y1 y2 : Int} {h0 h : zH} {Q' Q : Int → zH → Prop} (hf : zF 101 175 h0 h) (hP : P_M_print_J98 y1 y2 h Q') (hq : ∀ r h', Q' r h' → zF 101 175 h0 h' → Q r h') : P_M_print_J98 y1 y2 h Q := by
  unfold P_M_print_J98 at hP ⊢
  refine zif_i (fun c => ?_) (fun c => ?_)
  · have hP := zif_p hP c
    refine F_M_print_J108 hf hP hq
  · have hP := zif_n hP c
    refine zif_i (fun c => ?_) (fun c => ?_)
    · have hP := zif_p hP c
      refine F_M_print_J108 hf hP hq
    · have hP := zif_n hP c
      obtain ⟨ob, hP⟩ := hP
      refine ⟨ob, ?_⟩
      refine F_M_writeWord hf hP (fun r13 h14 hP hf => ?_)
      refine F_M_writeList hf hP (fun r15 h16 hP hf => ?_)
      exact hq _ _ hP hf
theorem F_M_print_L45 {y1 : Int} {h0 : zH} {Q' Q : Int → zH → Prop} (hq : ∀ r h', Q' r h' → zF 101 175 h0 h' → Q r h') : ∀ (n45 : Nat) (y3 : Int) (h : zH), zF 101 175 h0 h → P_M_print_L45 y1 Q' n45 y3 h → P_M_print_L45 y1 Q n45 y3 h := by
  intro n45
  induction n45 with
  | zero => intro y3 h hf hP; exact absurd hP id
  | succ n45 ih =>
    intro y3 h hf hP
    unfold P_M_print_L45 at hP ⊢
    obtain ⟨ob, hP⟩ := hP
    refine ⟨ob, ?_⟩
    refine zif_i (fun c => ?_) (fun c => ?_)
    · have hP := zif_p hP c
      exact hq _ _ hP hf
    · have hP := zif_n hP c
      obtain ⟨ob, hP⟩ := hP
      refine ⟨ob, ?_⟩
      refine F_M_write hf hP (fun r21 h22 hP hf => ?_)
      intro x3_23 e_x3_23
      have hP := hP x3_23 e_x3_23
      exact ih _ _ hf hP
theorem F_M_print {a1 : Int} {h0 h : zH} {Q' Q : Int → zH → Prop} (hf : zF 101 175 h0 h) (hP : P_M_print a1 h Q') (hq : ∀ r h', Q' r h' → zF 101 175 h0 h' → Q r h') : P_M_print a1 h Q := by
  unfold P_M_print at hP ⊢
  refine F_M_isRule hf hP (fun r1 h2 hP hf => ?_)
  refine zif_i (fun c => ?_) (fun c => ?_)
  · have hP := zif_p hP c
    refine F_M_fail hf hP (fun r24 h25 hP hf => ?_)
    exact hq _ _ hP hf
  · have hP := zif_n hP c
    intro h3 e_h3
    have hP := hP h3 e_h3
    have hf := zF.w hf e_h3 (by decide) (by decide)
    obtain ⟨ob, hP⟩ := hP
    refine ⟨ob, ?_⟩
    intro x2_4 e_x2_4
    have hP := hP x2_4 e_x2_4
    refine F_M_mark hf hP (fun r5 h6 hP hf => ?_)
    refine zif_i (fun c => ?_) (fun c => ?_)
    · have hP := zif_p hP c
      obtain ⟨n45, hP⟩ := hP
      refine ⟨n45, ?_⟩
      refine F_M_print_L45 hq _ _ _ hf hP
    · have hP := zif_n hP c
      refine zif_i (fun c => ?_) (fun c => ?_)
      · have hP := zif_p hP c
        refine F_M_writeWord hf hP (fun r17 h18 hP hf => ?_)
        refine F_M_mark hf hP (fun r19 h20 hP hf => ?_)
        refine F_M_print_J98 hf hP hq
      · have hP := zif_n hP c
        refine F_M_print_J98 hf hP hq
theorem F_M_export_L22 {y1 : Int} {h0 : zH} {Q' Q : Int → zH → Prop} {k56' k56 : zH → Prop} (hq : ∀ r h', Q' r h' → zF 101 175 h0 h' → Q r h') (hk56 : ∀ h', k56' h' → zF 101 175 h0 h' → k56 h') : ∀ (n22 : Nat) (y2 : Int) (h : zH), zF 101 175 h0 h → P_M_export_L22 y1 Q' k56' n22 y2 h → P_M_export_L22 y1 Q k56 n22 y2 h := by
  intro n22
  induction n22 with
  | zero => intro y2 h hf hP; exact absurd hP id
  | succ n22 ih =>
    intro y2 h hf hP
    unfold P_M_export_L22 at hP ⊢
    obtain ⟨ob, hP⟩ := hP
    refine ⟨ob, ?_⟩
    refine zif_i (fun c => ?_) (fun c => ?_)
    · have hP := zif_p hP c
      exact hk56 _ hP hf
    · have hP := zif_n hP c
      obtain ⟨ob, hP⟩ := hP
      refine ⟨ob, ?_⟩
      refine F_M_writeNumber hf hP (fun r3 h4 hP hf => ?_)
      refine F_M_write hf hP (fun r5 h6 hP hf => ?_)
      intro x2_7 e_x2_7
      have hP := hP x2_7 e_x2_7
      exact ih _ _ hf hP
theorem F_M_export_L7 {h0 : zH} {Q' Q : Int → zH → Prop} (hq : ∀ r h', Q' r h' → zF 101 175 h0 h' → Q r h') : ∀ (n7 : Nat) (y1 : Int) (h : zH), zF 101 175 h0 h → P_M_export_L7 Q' n7 y1 h → P_M_export_L7 Q n7 y1 h := by
  intro n7
  induction n7 with
  | zero => intro y1 h hf hP; exact absurd hP id
  | succ n7 ih =>
    intro y1 h hf hP
    unfold P_M_export_L7 at hP ⊢
    refine zif_i (fun c => ?_) (fun c => ?_)
    · have hP := zif_p hP c
      exact hq _ _ hP hf
    · have hP := zif_n hP c
      obtain ⟨ob, hP⟩ := hP
      refine ⟨ob, ?_⟩
      intro x2_2 e_x2_2
      have hP := hP x2_2 e_x2_2
      obtain ⟨n22, hP⟩ := hP
      refine ⟨n22, ?_⟩
      refine F_M_export_L22 hq (fun h8 hP hf => ?_) _ _ _ hf hP
      refine F_M_write hf hP (fun r9 h10 hP hf => ?_)
      refine F_M_write hf hP (fun r11 h12 hP hf => ?_)
      intro x1_13 e_x1_13
      have hP := hP x1_13 e_x1_13
      exact ih _ _ hf hP
theorem F_M_export {h0 h : zH} {Q' Q : Int → zH → Prop} (hf : zF 101 175 h0 h) (hP : P_M_export h Q') (hq : ∀ r h', Q' r h' → zF 101 175 h0 h' → Q r h') : P_M_export h Q := by
  unfold P_M_export at hP ⊢
  intro h1 e_h1
  have hP := hP h1 e_h1
  have hf := zF.w hf e_h1 (by decide) (by decide)
  obtain ⟨n7, hP⟩ := hP
  refine ⟨n7, ?_⟩
  refine F_M_export_L7 hq _ _ _ hf hP
theorem F_M_out {a1 : Int} {h0 h : zH} {Q' Q : Int → zH → Prop} (hf : zF 101 175 h0 h) (hP : P_M_out a1 h Q') (hq : ∀ r h', Q' r h' → zF 101 175 h0 h' → Q r h') : P_M_out a1 h Q := by
  unfold P_M_out at hP ⊢
  refine F_M_in hf hP (fun r1 h2 hP hf => ?_)
  obtain ⟨ob, hP⟩ := hP
  refine ⟨ob, ?_⟩
  exact hq _ _ hP hf
theorem F_M_trace_J20 {y1 s0 s1 s2 : Int} {h0 h : zH} {Q' Q : Int → zH → Prop} (hf : zF 101 175 h0 h) (hP : P_M_trace_J20 y1 s0 s1 s2 h Q') (hq : ∀ r h', Q' r h' → zF 101 175 h0 h' → Q r h') : P_M_trace_J20 y1 s0 s1 s2 h Q := by
  unfold P_M_trace_J20 at hP ⊢
  refine F_M_in hf hP (fun r1 h2 hP hf => ?_)
  obtain ⟨ob, hP⟩ := hP
  refine ⟨ob, ?_⟩
  exact hq _ _ hP hf
theorem F_M_trace {a1 : Int} {h0 h : zH} {Q' Q : Int → zH → Prop} (hf : zF 101 175 h0 h) (hP : P_M_trace a1 h Q') (hq : ∀ r h', Q' r h' → zF 101 175 h0 h' → Q r h') : P_M_trace a1 h Q := by
  unfold P_M_trace at hP ⊢
  refine F_M_trace_J20 hf hP hq
theorem F_M_wrongToAssume_J37 {y1 y3 s0 : Int} {h0 h : zH} {Q' Q : Int → zH → Prop} {k8' k8 : Int → Int → zH → Prop} (hf : zF 101 175 h0 h) (hP : P_M_wrongToAssume_J37 y1 y3 s0 h Q' k8') (hq : ∀ r h', Q' r h' → zF 101 175 h0 h' → Q r h') (hk8 : ∀ v0 v1 h', k8' v0 v1 h' → zF 101 175 h0 h' → k8 v0 v1 h') : P_M_wrongToAssume_J37 y1 y3 s0 h Q k8 := by
  unfold P_M_wrongToAssume_J37 at hP ⊢
  intro x3_3 e_x3_3
  have hP := hP x3_3 e_x3_3
  exact hk8 _ _ _ hP hf
theorem F_M_wrongToAssume_L8 {y1 : Int} {h0 : zH} {Q' Q : Int → zH → Prop} {k44' k44 : Int → zH → Prop} (hq : ∀ r h', Q' r h' → zF 101 175 h0 h' → Q r h') (hk44 : ∀ v0 h', k44' v0 h' → zF 101 175 h0 h' → k44 v0 h') : ∀ (n8 : Nat) (y2 y3 : Int) (h : zH), zF 101 175 h0 h → P_M_wrongToAssume_L8 y1 Q' k44' n8 y2 y3 h → P_M_wrongToAssume_L8 y1 Q k44 n8 y2 y3 h := by
  intro n8
  induction n8 with
  | zero => intro y2 y3 h hf hP; exact absurd hP id
  | succ n8 ih =>
    intro y2 y3 h hf hP
    unfold P_M_wrongToAssume_L8 at hP ⊢
    refine zif_i (fun c => ?_) (fun c => ?_)
    · have hP := zif_p hP c
      exact hk44 _ _ hP hf
    · have hP := zif_n hP c
      refine zif_i (fun c => ?_) (fun c => ?_)
      · have hP := zif_p hP c
        obtain ⟨ob, hP⟩ := hP
        refine ⟨ob, ?_⟩
        refine F_M_wrongToAssume_J37 hf hP hq (fun v0 v1 h' hP hf => ih v0 v1 h' hf hP)
      · have hP := zif_n hP c
        exact hk44 _ _ hP hf
theorem F_M_wrongToAssume_J44 {y2 : Int} {h0 h : zH} {Q' Q : Int → zH → Prop} (hf : zF 101 175 h0 h) (hP : P_M_wrongToAssume_J44 y2 h Q') (hq : ∀ r h', Q' r h' → zF 101 175 h0 h' → Q r h') : P_M_wrongToAssume_J44 y2 h Q := by
  unfold P_M_wrongToAssume_J44 at hP ⊢
  exact hq _ _ hP hf
theorem F_M_wrongToAssume {a1 : Int} {h0 h : zH} {Q' Q : Int → zH → Prop} (hf : zF 101 175 h0 h) (hP : P_M_wrongToAssume a1 h Q') (hq : ∀ r h', Q' r h' → zF 101 175 h0 h' → Q r h') : P_M_wrongToAssume a1 h Q := by
  unfold P_M_wrongToAssume at hP ⊢
  refine F_M_wrongItem hf hP (fun r1 h2 hP hf => ?_)
  obtain ⟨n8, hP⟩ := hP
  refine ⟨n8, ?_⟩
  refine F_M_wrongToAssume_L8 hq (fun u2_44 h4 hP hf => ?_) _ _ _ _ hf hP
  refine F_M_wrongToAssume_J44 hf hP hq
theorem F_M_assume {a1 : Int} {h0 h : zH} {Q' Q : Int → zH → Prop} (hf : zF 101 175 h0 h) (hP : P_M_assume a1 h Q') (hq : ∀ r h', Q' r h' → zF 101 175 h0 h' → Q r h') : P_M_assume a1 h Q := by
  unfold P_M_assume at hP ⊢
  refine F_M_wrongToAssume hf hP (fun r1 h2 hP hf => ?_)
  refine zif_i (fun c => ?_) (fun c => ?_)
  · have hP := zif_p hP c
    obtain ⟨ob, hP⟩ := hP
    refine ⟨ob, ?_⟩
    intro h3 e_h3
    have hP := hP h3 e_h3
    have hf := zF.w hf e_h3 (by decide) (by decide)
    intro h4 e_h4
    have hP := hP h4 e_h4
    have hf := zF.w hf e_h4 (by decide) (by decide)
    intro h5 e_h5
    have hP := hP h5 e_h5
    have hf := zF.w hf e_h5 (by decide) (by decide)
    exact hq _ _ hP hf
  · have hP := zif_n hP c
    refine F_M_fail hf hP (fun r6 h7 hP hf => ?_)
    exact hq _ _ hP hf
theorem F_M_free {h0 h : zH} {Q' Q : Int → zH → Prop} (hf : zF 101 175 h0 h) (hP : P_M_free h Q') (hq : ∀ r h', Q' r h' → zF 101 175 h0 h' → Q r h') : P_M_free h Q := by
  unfold P_M_free at hP ⊢
  intro x1_1 e_x1_1
  have hP := hP x1_1 e_x1_1
  intro h2 e_h2
  have hP := hP h2 e_h2
  have hf := zF.w hf e_h2 (by decide) (by decide)
  intro h3 e_h3
  have hP := hP h3 e_h3
  have hf := zF.w hf e_h3 (by decide) (by decide)
  exact hq _ _ hP hf
theorem F_M_isName {a1 : Int} {h0 h : zH} {Q' Q : Int → zH → Prop} (hf : zF 101 175 h0 h) (hP : P_M_isName a1 h Q') (hq : ∀ r h', Q' r h' → zF 101 175 h0 h' → Q r h') : P_M_isName a1 h Q := by
  unfold P_M_isName at hP ⊢
  refine F_M_in hf hP (fun r1 h2 hP hf => ?_)
  obtain ⟨ob, hP⟩ := hP
  refine ⟨ob, ?_⟩
  exact hq _ _ hP hf
theorem F_M_weight {a1 a2 : Int} {h0 h : zH} {Q' Q : Int → zH → Prop} (hf : zF 101 175 h0 h) (hP : P_M_weight a1 a2 h Q') (hq : ∀ r h', Q' r h' → zF 101 175 h0 h' → Q r h') : P_M_weight a1 a2 h Q := by
  unfold P_M_weight at hP ⊢
  refine F_M_isName hf hP (fun r1 h2 hP hf => ?_)
  refine zif_i (fun c => ?_) (fun c => ?_)
  · have hP := zif_p hP c
    refine F_M_fail hf hP (fun r3 h4 hP hf => ?_)
    exact hq _ _ hP hf
  · have hP := zif_n hP c
    refine F_M_in hf hP (fun r5 h6 hP hf => ?_)
    refine zif_i (fun c => ?_) (fun c => ?_)
    · have hP := zif_p hP c
      refine F_M_fail hf hP (fun r10 h11 hP hf => ?_)
      exact hq _ _ hP hf
    · have hP := zif_n hP c
      obtain ⟨ob, hP⟩ := hP
      refine ⟨ob, ?_⟩
      intro x3_7 e_x3_7
      have hP := hP x3_7 e_x3_7
      obtain ⟨ob, hP⟩ := hP
      refine ⟨ob, ?_⟩
      intro h8 e_h8
      have hP := hP h8 e_h8
      have hf := zF.w hf e_h8 (by decide) (by decide)
      intro h9 e_h9
      have hP := hP h9 e_h9
      have hf := zF.w hf e_h9 (by decide) (by decide)
      exact hq _ _ hP hf
theorem F_M_weighs {a1 : Int} {h0 h : zH} {Q' Q : Int → zH → Prop} (hf : zF 101 175 h0 h) (hP : P_M_weighs a1 h Q') (hq : ∀ r h', Q' r h' → zF 101 175 h0 h' → Q r h') : P_M_weighs a1 h Q := by
  unfold P_M_weighs at hP ⊢
  refine F_M_isName hf hP (fun r1 h2 hP hf => ?_)
  refine zif_i (fun c => ?_) (fun c => ?_)
  · have hP := zif_p hP c
    refine F_M_fail hf hP (fun r3 h4 hP hf => ?_)
    exact hq _ _ hP hf
  · have hP := zif_n hP c
    obtain ⟨ob, hP⟩ := hP
    refine ⟨ob, ?_⟩
    exact hq _ _ hP hf
theorem F_M_begin {a1 : Int} {h0 h : zH} {Q' Q : Int → zH → Prop} (hf : zF 101 175 h0 h) (hP : P_M_begin a1 h Q') (hq : ∀ r h', Q' r h' → zF 101 175 h0 h' → Q r h') : P_M_begin a1 h Q := by
  unfold P_M_begin at hP ⊢
  refine F_M_in hf hP (fun r1 h2 hP hf => ?_)
  refine zif_i (fun c => ?_) (fun c => ?_)
  · have hP := zif_p hP c
    refine F_M_fail hf hP (fun r6 h7 hP hf => ?_)
    exact hq _ _ hP hf
  · have hP := zif_n hP c
    intro x2_3 e_x2_3
    have hP := hP x2_3 e_x2_3
    intro h4 e_h4
    have hP := hP h4 e_h4
    have hf := zF.w hf e_h4 (by decide) (by decide)
    intro h5 e_h5
    have hP := hP h5 e_h5
    have hf := zF.w hf e_h5 (by decide) (by decide)
    exact hq _ _ hP hf
theorem F_M_forget {a1 : Int} {h0 h : zH} {Q' Q : Int → zH → Prop} (hf : zF 101 175 h0 h) (hP : P_M_forget a1 h Q') (hq : ∀ r h', Q' r h' → zF 101 175 h0 h' → Q r h') : P_M_forget a1 h Q := by
  unfold P_M_forget at hP ⊢
  refine F_M_in hf hP (fun r1 h2 hP hf => ?_)
  refine zif_i (fun c => ?_) (fun c => ?_)
  · have hP := zif_p hP c
    refine F_M_fail hf hP (fun r6 h7 hP hf => ?_)
    exact hq _ _ hP hf
  · have hP := zif_n hP c
    intro x2_3 e_x2_3
    have hP := hP x2_3 e_x2_3
    intro h4 e_h4
    have hP := hP h4 e_h4
    have hf := zF.w hf e_h4 (by decide) (by decide)
    intro h5 e_h5
    have hP := hP h5 e_h5
    have hf := zF.w hf e_h5 (by decide) (by decide)
    exact hq _ _ hP hf
theorem F_M_areSteps {a1 : Int} {h0 h : zH} {Q' Q : Int → zH → Prop} (hf : zF 101 175 h0 h) (hP : P_M_areSteps a1 h Q') (hq : ∀ r h', Q' r h' → zF 101 175 h0 h' → Q r h') : P_M_areSteps a1 h Q := by
  unfold P_M_areSteps at hP ⊢
  refine F_M_in hf hP (fun r1 h2 hP hf => ?_)
  obtain ⟨ob, hP⟩ := hP
  refine ⟨ob, ?_⟩
  exact hq _ _ hP hf
theorem F_M_prepare_L22 {y1 : Int} {h0 : zH} {Q' Q : Int → zH → Prop} {k48' k48 : zH → Prop} (hq : ∀ r h', Q' r h' → zF 101 175 h0 h' → Q r h') (hk48 : ∀ h', k48' h' → zF 101 175 h0 h' → k48 h') : ∀ (n22 : Nat) (y2 : Int) (h : zH), zF 101 175 h0 h → P_M_prepare_L22 y1 Q' k48' n22 y2 h → P_M_prepare_L22 y1 Q k48 n22 y2 h := by
  intro n22
  induction n22 with
  | zero => intro y2 h hf hP; exact absurd hP id
  | succ n22 ih =>
    intro y2 h hf hP
    unfold P_M_prepare_L22 at hP ⊢
    refine zif_i (fun c => ?_) (fun c => ?_)
    · have hP := zif_p hP c
      exact hk48 _ hP hf
    · have hP := zif_n hP c
      obtain ⟨ob, hP⟩ := hP
      refine ⟨ob, ?_⟩
      intro h3 e_h3
      have hP := hP h3 e_h3
      have hf := zF.w hf e_h3 (by decide) (by decide)
      intro x2_4 e_x2_4
      have hP := hP x2_4 e_x2_4
      exact ih _ _ hf hP
theorem F_M_prepare_L72 {y1 : Int} {h0 : zH} {Q' Q : Int → zH → Prop} {k130' k130 : zH → Prop} (hq : ∀ r h', Q' r h' → zF 101 175 h0 h' → Q r h') (hk130 : ∀ h', k130' h' → zF 101 175 h0 h' → k130 h') : ∀ (n72 : Nat) (y2 : Int) (h : zH), zF 101 175 h0 h → P_M_prepare_L72 y1 Q' k130' n72 y2 h → P_M_prepare_L72 y1 Q k130 n72 y2 h := by
  intro n72
  induction n72 with
  | zero => intro y2 h hf hP; exact absurd hP id
  | succ n72 ih =>
    intro y2 h hf hP
    unfold P_M_prepare_L72 at hP ⊢
    refine zif_i (fun c => ?_) (fun c => ?_)
    · have hP := zif_p hP c
      exact hk130 _ hP hf
    · have hP := zif_n hP c
      obtain ⟨ob, hP⟩ := hP
      refine ⟨ob, ?_⟩
      intro h7 e_h7
      have hP := hP h7 e_h7
      have hf := zF.w hf e_h7 (by decide) (by decide)
      obtain ⟨ob, hP⟩ := hP
      refine ⟨ob, ?_⟩
      intro h8 e_h8
      have hP := hP h8 e_h8
      have hf := zF.w hf e_h8 (by decide) (by decide)
      obtain ⟨ob, hP⟩ := hP
      refine ⟨ob, ?_⟩
      obtain ⟨ob, hP⟩ := hP
      refine ⟨ob, ?_⟩
      intro h9 e_h9
      have hP := hP h9 e_h9
      have hf := zF.w hf e_h9 (by decide) (by decide)
      intro x2_10 e_x2_10
      have hP := hP x2_10 e_x2_10
      exact ih _ _ hf hP
theorem F_M_prepare_L194 {y1 : Int} {h0 : zH} {Q' Q : Int → zH → Prop} (hq : ∀ r h', Q' r h' → zF 101 175 h0 h' → Q r h') : ∀ (n194 : Nat) (y2 : Int) (h : zH), zF 101 175 h0 h → P_M_prepare_L194 y1 Q' n194 y2 h → P_M_prepare_L194 y1 Q n194 y2 h := by
  intro n194
  induction n194 with
  | zero => intro y2 h hf hP; exact absurd hP id
  | succ n194 ih =>
    intro y2 h hf hP
    unfold P_M_prepare_L194 at hP ⊢
    refine zif_i (fun c => ?_) (fun c => ?_)
    · have hP := zif_p hP c
      exact hq _ _ hP hf
    · have hP := zif_n hP c
      obtain ⟨ob, hP⟩ := hP
      refine ⟨ob, ?_⟩
      intro h20 e_h20
      have hP := hP h20 e_h20
      have hf := zF.w hf e_h20 (by decide) (by decide)
      intro x2_21 e_x2_21
      have hP := hP x2_21 e_x2_21
      exact ih _ _ hf hP
theorem F_M_prepare_J70 {y1 : Int} {h0 h : zH} {Q' Q : Int → zH → Prop} (hf : zF 101 175 h0 h) (hP : P_M_prepare_J70 y1 h Q') (hq : ∀ r h', Q' r h' → zF 101 175 h0 h' → Q r h') : P_M_prepare_J70 y1 h Q := by
  unfold P_M_prepare_J70 at hP ⊢
  obtain ⟨n72, hP⟩ := hP
  refine ⟨n72, ?_⟩
  refine F_M_prepare_L72 hq (fun h11 hP hf => ?_) _ _ _ hf hP
  obtain ⟨ob, hP⟩ := hP
  refine ⟨ob, ?_⟩
  intro h12 e_h12
  have hP := hP h12 e_h12
  have hf := zF.w hf e_h12 (by decide) (by decide)
  obtain ⟨ob, hP⟩ := hP
  refine ⟨ob, ?_⟩
  intro h13 e_h13
  have hP := hP h13 e_h13
  have hf := zF.w hf e_h13 (by decide) (by decide)
  obtain ⟨ob, hP⟩ := hP
  refine ⟨ob, ?_⟩
  intro h14 e_h14
  have hP := hP h14 e_h14
  have hf := zF.w hf e_h14 (by decide) (by decide)
  obtain ⟨ob, hP⟩ := hP
  refine ⟨ob, ?_⟩
  intro h15 e_h15
  have hP := hP h15 e_h15
  have hf := zF.w hf e_h15 (by decide) (by decide)
  obtain ⟨ob, hP⟩ := hP
  refine ⟨ob, ?_⟩
  intro h16 e_h16
  have hP := hP h16 e_h16
  have hf := zF.w hf e_h16 (by decide) (by decide)
  obtain ⟨ob, hP⟩ := hP
  refine ⟨ob, ?_⟩
  intro h17 e_h17
  have hP := hP h17 e_h17
  have hf := zF.w hf e_h17 (by decide) (by decide)
  obtain ⟨ob, hP⟩ := hP
  refine ⟨ob, ?_⟩
  intro h18 e_h18
  have hP := hP h18 e_h18
  have hf := zF.w hf e_h18 (by decide) (by decide)
  obtain ⟨ob, hP⟩ := hP
  refine ⟨ob, ?_⟩
  intro h19 e_h19
  have hP := hP h19 e_h19
  have hf := zF.w hf e_h19 (by decide) (by decide)
  obtain ⟨n194, hP⟩ := hP
  refine ⟨n194, ?_⟩
  refine F_M_prepare_L194 hq _ _ _ hf hP
theorem F_M_prepare {a1 : Int} {h0 h : zH} {Q' Q : Int → zH → Prop} (hf : zF 101 175 h0 h) (hP : P_M_prepare a1 h Q') (hq : ∀ r h', Q' r h' → zF 101 175 h0 h' → Q r h') : P_M_prepare a1 h Q := by
  unfold P_M_prepare at hP ⊢
  obtain ⟨ob, hP⟩ := hP
  refine ⟨ob, ?_⟩
  intro h1 e_h1
  have hP := hP h1 e_h1
  have hf := zF.w hf e_h1 (by decide) (by decide)
  obtain ⟨ob, hP⟩ := hP
  refine ⟨ob, ?_⟩
  intro h2 e_h2
  have hP := hP h2 e_h2
  have hf := zF.w hf e_h2 (by decide) (by decide)
  obtain ⟨n22, hP⟩ := hP
  refine ⟨n22, ?_⟩
  refine F_M_prepare_L22 hq (fun h5 hP hf => ?_) _ _ _ hf hP
  obtain ⟨ob, hP⟩ := hP
  refine ⟨ob, ?_⟩
  intro h6 e_h6
  have hP := hP h6 e_h6
  have hf := zF.w hf e_h6 (by decide) (by decide)
  refine zif_i (fun c => ?_) (fun c => ?_)
  · have hP := zif_p hP c
    intro h22 e_h22
    have hP := hP h22 e_h22
    have hf := zF.w hf e_h22 (by decide) (by decide)
    intro h23 e_h23
    have hP := hP h23 e_h23
    have hf := zF.w hf e_h23 (by decide) (by decide)
    refine F_M_prepare_J70 hf hP hq
  · have hP := zif_n hP c
    refine F_M_prepare_J70 hf hP hq
theorem F_M_askAll_L2 {y1 : Int} {h0 : zH} {Q' Q : Int → zH → Prop} (hq : ∀ r h', Q' r h' → zF 101 175 h0 h' → Q r h') : ∀ (n2 : Nat) (y2 : Int) (h : zH), zF 101 175 h0 h → P_M_askAll_L2 y1 Q' n2 y2 h → P_M_askAll_L2 y1 Q n2 y2 h := by
  intro n2
  induction n2 with
  | zero => intro y2 h hf hP; exact absurd hP id
  | succ n2 ih =>
    intro y2 h hf hP
    unfold P_M_askAll_L2 at hP ⊢
    refine zif_i (fun c => ?_) (fun c => ?_)
    · have hP := zif_p hP c
      obtain ⟨ob, hP⟩ := hP
      refine ⟨ob, ?_⟩
      intro h1 e_h1
      have hP := hP h1 e_h1
      have hf := zF.w hf e_h1 (by decide) (by decide)
      exact hq _ _ hP hf
    · have hP := zif_n hP c
      obtain ⟨ob, hP⟩ := hP
      refine ⟨ob, ?_⟩
      obtain ⟨ob, hP⟩ := hP
      refine ⟨ob, ?_⟩
      intro h2 e_h2
      have hP := hP h2 e_h2
      have hf := zF.w hf e_h2 (by decide) (by decide)
      intro x2_3 e_x2_3
      have hP := hP x2_3 e_x2_3
      exact ih _ _ hf hP
theorem F_M_askAll {a1 : Int} {h0 h : zH} {Q' Q : Int → zH → Prop} (hf : zF 101 175 h0 h) (hP : P_M_askAll a1 h Q') (hq : ∀ r h', Q' r h' → zF 101 175 h0 h' → Q r h') : P_M_askAll a1 h Q := by
  unfold P_M_askAll at hP ⊢
  obtain ⟨n2, hP⟩ := hP
  refine ⟨n2, ?_⟩
  refine F_M_askAll_L2 hq _ _ _ hf hP
theorem F_M_stateOf {a1 a2 : Int} {h0 h : zH} {Q' Q : Int → zH → Prop} (hf : zF 101 175 h0 h) (hP : P_M_stateOf a1 a2 h Q') (hq : ∀ r h', Q' r h' → zF 101 175 h0 h' → Q r h') : P_M_stateOf a1 a2 h Q := by
  unfold P_M_stateOf at hP ⊢
  refine F_M_nameOf hf hP (fun r1 h2 hP hf => ?_)
  obtain ⟨ob, hP⟩ := hP
  refine ⟨ob, ?_⟩
  intro x3_3 e_x3_3
  have hP := hP x3_3 e_x3_3
  exact hq _ _ hP hf
theorem F_M_look_J88 {y1 y2 y3 y5 s0 : Int} {h0 h : zH} {Q' Q : Int → zH → Prop} {k13' k13 : Int → Int → zH → Prop} (hf : zF 101 175 h0 h) (hP : P_M_look_J88 y1 y2 y3 y5 s0 h Q' k13') (hq : ∀ r h', Q' r h' → zF 101 175 h0 h' → Q r h') (hk13 : ∀ v0 v1 h', k13' v0 v1 h' → zF 101 175 h0 h' → k13 v0 v1 h') : P_M_look_J88 y1 y2 y3 y5 s0 h Q k13 := by
  unfold P_M_look_J88 at hP ⊢
  intro x5_8 e_x5_8
  have hP := hP x5_8 e_x5_8
  exact hk13 _ _ _ hP hf
theorem F_M_look_J60 {y1 y2 y3 y4 y5 y7 s0 : Int} {h0 h : zH} {Q' Q : Int → zH → Prop} {k13' k13 : Int → Int → zH → Prop} (hf : zF 101 175 h0 h) (hP : P_M_look_J60 y1 y2 y3 y4 y5 y7 s0 h Q' k13') (hq : ∀ r h', Q' r h' → zF 101 175 h0 h' → Q r h') (hk13 : ∀ v0 v1 h', k13' v0 v1 h' → zF 101 175 h0 h' → k13 v0 v1 h') : P_M_look_J60 y1 y2 y3 y4 y5 y7 s0 h Q k13 := by
  unfold P_M_look_J60 at hP ⊢
  intro h7 e_h7
  have hP := hP h7 e_h7
  have hf := zF.w hf e_h7 (by decide) (by decide)
  refine F_M_look_J88 hf hP hq hk13
theorem F_M_look_L13 {y1 y2 y3 : Int} {h0 : zH} {Q' Q : Int → zH → Prop} (hq : ∀ r h', Q' r h' → zF 101 175 h0 h' → Q r h') : ∀ (n13 : Nat) (y4 y5 : Int) (h : zH), zF 101 175 h0 h → P_M_look_L13 y1 y2 y3 Q' n13 y4 y5 h → P_M_look_L13 y1 y2 y3 Q n13 y4 y5 h := by
  intro n13
  induction n13 with
  | zero => intro y4 y5 h hf hP; exact absurd hP id
  | succ n13 ih =>
    intro y4 y5 h hf hP
    unfold P_M_look_L13 at hP ⊢
    refine zif_i (fun c => ?_) (fun c => ?_)
    · have hP := zif_p hP c
      exact hq _ _ hP hf
    · have hP := zif_n hP c
      refine zif_i (fun c => ?_) (fun c => ?_)
      · have hP := zif_p hP c
        exact hq _ _ hP hf
      · have hP := zif_n hP c
        refine F_M_itemOf hf hP (fun r3 h4 hP hf => ?_)
        refine F_M_stateOf hf hP (fun r5 h6 hP hf => ?_)
        refine F_M_look_J60 hf hP hq (fun v0 v1 h' hP hf => ih v0 v1 h' hf hP)
theorem F_M_look {a1 a2 : Int} {h0 h : zH} {Q' Q : Int → zH → Prop} (hf : zF 101 175 h0 h) (hP : P_M_look a1 a2 h Q') (hq : ∀ r h', Q' r h' → zF 101 175 h0 h' → Q r h') : P_M_look a1 a2 h Q := by
  unfold P_M_look at hP ⊢
  refine F_M_sizeOf hf hP (fun r1 h2 hP hf => ?_)
  obtain ⟨n13, hP⟩ := hP
  refine ⟨n13, ?_⟩
  refine F_M_look_L13 hq _ _ _ _ hf hP
theorem F_M_goOver_J44 {y3 s0 : Int} {h0 h : zH} {Q' Q : Int → zH → Prop} (hf : zF 101 175 h0 h) (hP : P_M_goOver_J44 y3 s0 h Q') (hq : ∀ r h', Q' r h' → zF 101 175 h0 h' → Q r h') : P_M_goOver_J44 y3 s0 h Q := by
  unfold P_M_goOver_J44 at hP ⊢
  intro h3 e_h3
  have hP := hP h3 e_h3
  have hf := zF.w hf e_h3 (by decide) (by decide)
  exact hq _ _ hP hf
theorem F_M_goOver_J32 {y2 y3 : Int} {h0 h : zH} {Q' Q : Int → zH → Prop} (hf : zF 101 175 h0 h) (hP : P_M_goOver_J32 y2 y3 h Q') (hq : ∀ r h', Q' r h' → zF 101 175 h0 h' → Q r h') : P_M_goOver_J32 y2 y3 h Q := by
  unfold P_M_goOver_J32 at hP ⊢
  refine F_M_goOver_J44 hf hP hq
theorem F_M_goOver {a1 a2 : Int} {h0 h : zH} {Q' Q : Int → zH → Prop} (hf : zF 101 175 h0 h) (hP : P_M_goOver a1 a2 h Q') (hq : ∀ r h', Q' r h' → zF 101 175 h0 h' → Q r h') : P_M_goOver a1 a2 h Q := by
  unfold P_M_goOver at hP ⊢
  refine F_M_look hf hP (fun r1 h2 hP hf => ?_)
  refine zif_i (fun c => ?_) (fun c => ?_)
  · have hP := zif_p hP c
    refine zif_i (fun c => ?_) (fun c => ?_)
    · have hP := zif_p hP c
      refine F_M_goOver_J32 hf hP hq
    · have hP := zif_n hP c
      intro h4 e_h4
      have hP := hP h4 e_h4
      have hf := zF.w hf e_h4 (by decide) (by decide)
      intro h5 e_h5
      have hP := hP h5 e_h5
      have hf := zF.w hf e_h5 (by decide) (by decide)
      refine F_M_goOver_J32 hf hP hq
  · have hP := zif_n hP c
    refine F_M_goOver_J32 hf hP hq
theorem F_M_find_J61 {y1 y3 s0 : Int} {h0 h : zH} {Q' Q : Int → zH → Prop} {k18' k18 : Int → Int → zH → Prop} (hf : zF 101 175 h0 h) (hP : P_M_find_J61 y1 y3 s0 h Q' k18') (hq : ∀ r h', Q' r h' → zF 101 175 h0 h' → Q r h') (hk18 : ∀ v0 v1 h', k18' v0 v1 h' → zF 101 175 h0 h' → k18 v0 v1 h') : P_M_find_J61 y1 y3 s0 h Q k18 := by
  unfold P_M_find_J61 at hP ⊢
  intro x3_3 e_x3_3
  have hP := hP x3_3 e_x3_3
  exact hk18 _ _ _ hP hf
theorem F_M_find_J56 {y1 y3 : Int} {h0 h : zH} {Q' Q : Int → zH → Prop} {k18' k18 : Int → Int → zH → Prop} (hf : zF 101 175 h0 h) (hP : P_M_find_J56 y1 y3 h Q' k18') (hq : ∀ r h', Q' r h' → zF 101 175 h0 h' → Q r h') (hk18 : ∀ v0 v1 h', k18' v0 v1 h' → zF 101 175 h0 h' → k18 v0 v1 h') : P_M_find_J56 y1 y3 h Q k18 := by
  unfold P_M_find_J56 at hP ⊢
  refine F_M_find_J61 hf hP hq hk18
theorem F_M_find_L18 {y1 : Int} {h0 : zH} {Q' Q : Int → zH → Prop} {k68' k68 : Int → zH → Prop} (hq : ∀ r h', Q' r h' → zF 101 175 h0 h' → Q r h') (hk68 : ∀ v0 h', k68' v0 h' → zF 101 175 h0 h' → k68 v0 h') : ∀ (n18 : Nat) (y2 y3 : Int) (h : zH), zF 101 175 h0 h → P_M_find_L18 y1 Q' k68' n18 y2 y3 h → P_M_find_L18 y1 Q k68 n18 y2 y3 h := by
  intro n18
  induction n18 with
  | zero => intro y2 y3 h hf hP; exact absurd hP id
  | succ n18 ih =>
    intro y2 y3 h hf hP
    unfold P_M_find_L18 at hP ⊢
    obtain ⟨ob, hP⟩ := hP
    refine ⟨ob, ?_⟩
    refine zif_i (fun c => ?_) (fun c => ?_)
    · have hP := zif_p hP c
      exact hk68 _ _ hP hf
    · have hP := zif_n hP c
      refine zif_i (fun c => ?_) (fun c => ?_)
      · have hP := zif_p hP c
        exact hk68 _ _ hP hf
      · have hP := zif_n hP c
        obtain ⟨ob, hP⟩ := hP
        refine ⟨ob, ?_⟩
        refine zif_i (fun c => ?_) (fun c => ?_)
        · have hP := zif_p hP c
          refine F_M_find_J56 hf hP hq (fun v0 v1 h' hP hf => ih v0 v1 h' hf hP)
        · have hP := zif_n hP c
          refine F_M_goOver hf hP (fun r4 h5 hP hf => ?_)
          refine F_M_find_J61 hf hP hq (fun v0 v1 h' hP hf => ih v0 v1 h' hf hP)
theorem F_M_find_J90 {y1 y2 y3 : Int} {h0 h : zH} {Q' Q : Int → zH → Prop} {k111' k111 : Int → zH → Prop} {k70' k70 : Int → Int → zH → Prop} (hf : zF 101 175 h0 h) (hP : P_M_find_J90 y1 y2 y3 h Q' k111' k70') (hq : ∀ r h', Q' r h' → zF 101 175 h0 h' → Q r h') (hk111 : ∀ v0 h', k111' v0 h' → zF 101 175 h0 h' → k111 v0 h') (hk70 : ∀ v0 v1 h', k70' v0 v1 h' → zF 101 175 h0 h' → k70 v0 v1 h') : P_M_find_J90 y1 y2 y3 h Q k111 k70 := by
  unfold P_M_find_J90 at hP ⊢
  refine zif_i (fun c => ?_) (fun c => ?_)
  · have hP := zif_p hP c
    exact hk111 _ _ hP hf
  · have hP := zif_n hP c
    refine F_M_goOver hf hP (fun r7 h8 hP hf => ?_)
    intro x3_9 e_x3_9
    have hP := hP x3_9 e_x3_9
    exact hk70 _ _ _ hP hf
theorem F_M_find_L70 {y1 : Int} {h0 : zH} {Q' Q : Int → zH → Prop} {k111' k111 : Int → zH → Prop} (hq : ∀ r h', Q' r h' → zF 101 175 h0 h' → Q r h') (hk111 : ∀ v0 h', k111' v0 h' → zF 101 175 h0 h' → k111 v0 h') : ∀ (n70 : Nat) (y2 y3 : Int) (h : zH), zF 101 175 h0 h → P_M_find_L70 y1 Q' k111' n70 y2 y3 h → P_M_find_L70 y1 Q k111 n70 y2 y3 h := by
  intro n70
  induction n70 with
  | zero => intro y2 y3 h hf hP; exact absurd hP id
  | succ n70 ih =>
    intro y2 y3 h hf hP
    unfold P_M_find_L70 at hP ⊢
    refine zif_i (fun c => ?_) (fun c => ?_)
    · have hP := zif_p hP c
      exact hk111 _ _ hP hf
    · have hP := zif_n hP c
      refine zif_i (fun c => ?_) (fun c => ?_)
      · have hP := zif_p hP c
        refine F_M_find_J90 hf hP hq hk111 (fun v0 v1 h' hP hf => ih v0 v1 h' hf hP)
      · have hP := zif_n hP c
        refine zif_i (fun c => ?_) (fun c => ?_)
        · have hP := zif_p hP c
          exact hk111 _ _ hP hf
        · have hP := zif_n hP c
          refine F_M_find_J90 hf hP hq hk111 (fun v0 v1 h' hP hf => ih v0 v1 h' hf hP)
theorem F_M_find_J160 {y1 y3 s0 : Int} {h0 h : zH} {Q' Q : Int → zH → Prop} {k113' k113 : Int → Int → zH → Prop} (hf : zF 101 175 h0 h) (hP : P_M_find_J160 y1 y3 s0 h Q' k113') (hq : ∀ r h', Q' r h' → zF 101 175 h0 h' → Q r h') (hk113 : ∀ v0 v1 h', k113' v0 v1 h' → zF 101 175 h0 h' → k113 v0 v1 h') : P_M_find_J160 y1 y3 s0 h Q k113 := by
  unfold P_M_find_J160 at hP ⊢
  intro x3_11 e_x3_11
  have hP := hP x3_11 e_x3_11
  exact hk113 _ _ _ hP hf
theorem F_M_find_J155 {y1 y3 : Int} {h0 h : zH} {Q' Q : Int → zH → Prop} {k113' k113 : Int → Int → zH → Prop} (hf : zF 101 175 h0 h) (hP : P_M_find_J155 y1 y3 h Q' k113') (hq : ∀ r h', Q' r h' → zF 101 175 h0 h' → Q r h') (hk113 : ∀ v0 v1 h', k113' v0 v1 h' → zF 101 175 h0 h' → k113 v0 v1 h') : P_M_find_J155 y1 y3 h Q k113 := by
  unfold P_M_find_J155 at hP ⊢
  refine F_M_find_J160 hf hP hq hk113
theorem F_M_find_L113 {y1 : Int} {h0 : zH} {Q' Q : Int → zH → Prop} (hq : ∀ r h', Q' r h' → zF 101 175 h0 h' → Q r h') : ∀ (n113 : Nat) (y2 y3 : Int) (h : zH), zF 101 175 h0 h → P_M_find_L113 y1 Q' n113 y2 y3 h → P_M_find_L113 y1 Q n113 y2 y3 h := by
  intro n113
  induction n113 with
  | zero => intro y2 y3 h hf hP; exact absurd hP id
  | succ n113 ih =>
    intro y2 y3 h hf hP
    unfold P_M_find_L113 at hP ⊢
    obtain ⟨ob, hP⟩ := hP
    refine ⟨ob, ?_⟩
    refine zif_i (fun c => ?_) (fun c => ?_)
    · have hP := zif_p hP c
      exact hq _ _ hP hf
    · have hP := zif_n hP c
      refine zif_i (fun c => ?_) (fun c => ?_)
      · have hP := zif_p hP c
        exact hq _ _ hP hf
      · have hP := zif_n hP c
        obtain ⟨ob, hP⟩ := hP
        refine ⟨ob, ?_⟩
        refine zif_i (fun c => ?_) (fun c => ?_)
        · have hP := zif_p hP c
          refine F_M_find_J155 hf hP hq (fun v0 v1 h' hP hf => ih v0 v1 h' hf hP)
        · have hP := zif_n hP c
          refine F_M_goOver hf hP (fun r12 h13 hP hf => ?_)
          refine F_M_find_J160 hf hP hq (fun v0 v1 h' hP hf => ih v0 v1 h' hf hP)
theorem F_M_find_J111 {y1 y2 : Int} {h0 h : zH} {Q' Q : Int → zH → Prop} (hf : zF 101 175 h0 h) (hP : P_M_find_J111 y1 y2 h Q') (hq : ∀ r h', Q' r h' → zF 101 175 h0 h' → Q r h') : P_M_find_J111 y1 y2 h Q := by
  unfold P_M_find_J111 at hP ⊢
  obtain ⟨n113, hP⟩ := hP
  refine ⟨n113, ?_⟩
  refine F_M_find_L113 hq _ _ _ _ hf hP
theorem F_M_find_J68 {y1 y2 : Int} {h0 h : zH} {Q' Q : Int → zH → Prop} (hf : zF 101 175 h0 h) (hP : P_M_find_J68 y1 y2 h Q') (hq : ∀ r h', Q' r h' → zF 101 175 h0 h' → Q r h') : P_M_find_J68 y1 y2 h Q := by
  unfold P_M_find_J68 at hP ⊢
  obtain ⟨n70, hP⟩ := hP
  refine ⟨n70, ?_⟩
  refine F_M_find_L70 hq (fun u2_111 h10 hP hf => ?_) _ _ _ _ hf hP
  refine F_M_find_J111 hf hP hq
theorem F_M_find {a1 : Int} {h0 h : zH} {Q' Q : Int → zH → Prop} (hf : zF 101 175 h0 h) (hP : P_M_find a1 h Q') (hq : ∀ r h', Q' r h' → zF 101 175 h0 h' → Q r h') : P_M_find a1 h Q := by
  unfold P_M_find at hP ⊢
  intro h1 e_h1
  have hP := hP h1 e_h1
  have hf := zF.w hf e_h1 (by decide) (by decide)
  intro h2 e_h2
  have hP := hP h2 e_h2
  have hf := zF.w hf e_h2 (by decide) (by decide)
  obtain ⟨n18, hP⟩ := hP
  refine ⟨n18, ?_⟩
  refine F_M_find_L18 hq (fun u2_68 h6 hP hf => ?_) _ _ _ _ hf hP
  refine F_M_find_J68 hf hP hq
theorem F_M_takesStep {a1 : Int} {h0 h : zH} {Q' Q : Int → zH → Prop} (hf : zF 101 175 h0 h) (hP : P_M_takesStep a1 h Q') (hq : ∀ r h', Q' r h' → zF 101 175 h0 h' → Q r h') : P_M_takesStep a1 h Q := by
  unfold P_M_takesStep at hP ⊢
  refine zif_i (fun c => ?_) (fun c => ?_)
  · have hP := zif_p hP c
    exact hq _ _ hP hf
  · have hP := zif_n hP c
    intro h1 e_h1
    have hP := hP h1 e_h1
    have hf := zF.w hf e_h1 (by decide) (by decide)
    obtain ⟨ob, hP⟩ := hP
    refine ⟨ob, ?_⟩
    obtain ⟨ob, hP⟩ := hP
    refine ⟨ob, ?_⟩
    intro h2 e_h2
    have hP := hP h2 e_h2
    have hf := zF.w hf e_h2 (by decide) (by decide)
    exact hq _ _ hP hf
theorem F_M_clearSources_L2 {h0 : zH} {Q' Q : Int → zH → Prop} (hq : ∀ r h', Q' r h' → zF 101 175 h0 h' → Q r h') : ∀ (n2 : Nat) (y1 : Int) (h : zH), zF 101 175 h0 h → P_M_clearSources_L2 Q' n2 y1 h → P_M_clearSources_L2 Q n2 y1 h := by
  intro n2
  induction n2 with
  | zero => intro y1 h hf hP; exact absurd hP id
  | succ n2 ih =>
    intro y1 h hf hP
    unfold P_M_clearSources_L2 at hP ⊢
    refine zif_i (fun c => ?_) (fun c => ?_)
    · have hP := zif_p hP c
      exact hq _ _ hP hf
    · have hP := zif_n hP c
      obtain ⟨ob, hP⟩ := hP
      refine ⟨ob, ?_⟩
      intro h1 e_h1
      have hP := hP h1 e_h1
      have hf := zF.w hf e_h1 (by decide) (by decide)
      intro x1_2 e_x1_2
      have hP := hP x1_2 e_x1_2
      exact ih _ _ hf hP
theorem F_M_clearSources {h0 h : zH} {Q' Q : Int → zH → Prop} (hf : zF 101 175 h0 h) (hP : P_M_clearSources h Q') (hq : ∀ r h', Q' r h' → zF 101 175 h0 h' → Q r h') : P_M_clearSources h Q := by
  unfold P_M_clearSources at hP ⊢
  obtain ⟨n2, hP⟩ := hP
  refine ⟨n2, ?_⟩
  refine F_M_clearSources_L2 hq _ _ _ hf hP
theorem F_M_addSources_L37 {y1 y2 : Int} {h0 : zH} {Q' Q : Int → zH → Prop} (hq : ∀ r h', Q' r h' → zF 101 175 h0 h' → Q r h') : ∀ (n37 : Nat) (y3 : Int) (h : zH), zF 101 175 h0 h → P_M_addSources_L37 y1 y2 Q' n37 y3 h → P_M_addSources_L37 y1 y2 Q n37 y3 h := by
  intro n37
  induction n37 with
  | zero => intro y3 h hf hP; exact absurd hP id
  | succ n37 ih =>
    intro y3 h hf hP
    unfold P_M_addSources_L37 at hP ⊢
    refine zif_i (fun c => ?_) (fun c => ?_)
    · have hP := zif_p hP c
      exact hq _ _ hP hf
    · have hP := zif_n hP c
      obtain ⟨ob, hP⟩ := hP
      refine ⟨ob, ?_⟩
      obtain ⟨ob, hP⟩ := hP
      refine ⟨ob, ?_⟩
      obtain ⟨ob, hP⟩ := hP
      refine ⟨ob, ?_⟩
      intro h1 e_h1
      have hP := hP h1 e_h1
      have hf := zF.w hf e_h1 (by decide) (by decide)
      intro x3_2 e_x3_2
      have hP := hP x3_2 e_x3_2
      exact ih _ _ hf hP
theorem F_M_addSources {a1 a2 : Int} {h0 h : zH} {Q' Q : Int → zH → Prop} (hf : zF 101 175 h0 h) (hP : P_M_addSources a1 a2 h Q') (hq : ∀ r h', Q' r h' → zF 101 175 h0 h' → Q r h') : P_M_addSources a1 a2 h Q := by
  unfold P_M_addSources at hP ⊢
  refine zif_i (fun c => ?_) (fun c => ?_)
  · have hP := zif_p hP c
    refine zif_i (fun c => ?_) (fun c => ?_)
    · have hP := zif_p hP c
      exact hq _ _ hP hf
    · have hP := zif_n hP c
      obtain ⟨n37, hP⟩ := hP
      refine ⟨n37, ?_⟩
      refine F_M_addSources_L37 hq _ _ _ hf hP
  · have hP := zif_n hP c
    obtain ⟨ob, hP⟩ := hP
    refine ⟨ob, ?_⟩
    obtain ⟨ob, hP⟩ := hP
    refine ⟨ob, ?_⟩
    intro h3 e_h3
    have hP := hP h3 e_h3
    have hf := zF.w hf e_h3 (by decide) (by decide)
    exact hq _ _ hP hf
theorem F_M_addNameSources_L2 {y1 y2 : Int} {h0 : zH} {Q' Q : Int → zH → Prop} (hq : ∀ r h', Q' r h' → zF 101 175 h0 h' → Q r h') : ∀ (n2 : Nat) (y3 : Int) (h : zH), zF 101 175 h0 h → P_M_addNameSources_L2 y1 y2 Q' n2 y3 h → P_M_addNameSources_L2 y1 y2 Q n2 y3 h := by
  intro n2
  induction n2 with
  | zero => intro y3 h hf hP; exact absurd hP id
  | succ n2 ih =>
    intro y3 h hf hP
    unfold P_M_addNameSources_L2 at hP ⊢
    refine zif_i (fun c => ?_) (fun c => ?_)
    · have hP := zif_p hP c
      exact hq _ _ hP hf
    · have hP := zif_n hP c
      obtain ⟨ob, hP⟩ := hP
      refine ⟨ob, ?_⟩
      obtain ⟨ob, hP⟩ := hP
      refine ⟨ob, ?_⟩
      obtain ⟨ob, hP⟩ := hP
      refine ⟨ob, ?_⟩
      intro h1 e_h1
      have hP := hP h1 e_h1
      have hf := zF.w hf e_h1 (by decide) (by decide)
      intro x3_2 e_x3_2
      have hP := hP x3_2 e_x3_2
      exact ih _ _ hf hP
theorem F_M_addNameSources {a1 a2 : Int} {h0 h : zH} {Q' Q : Int → zH → Prop} (hf : zF 101 175 h0 h) (hP : P_M_addNameSources a1 a2 h Q') (hq : ∀ r h', Q' r h' → zF 101 175 h0 h' → Q r h') : P_M_addNameSources a1 a2 h Q := by
  unfold P_M_addNameSources at hP ⊢
  obtain ⟨n2, hP⟩ := hP
  refine ⟨n2, ?_⟩
  refine F_M_addNameSources_L2 hq _ _ _ hf hP
theorem F_M_addLowest_J77 {y1 y2 y3 y4 y5 : Int} {h0 h : zH} {Q' Q : Int → zH → Prop} {k11' k11 : Int → zH → Prop} (hf : zF 101 175 h0 h) (hP : P_M_addLowest_J77 y1 y2 y3 y4 y5 h Q' k11') (hq : ∀ r h', Q' r h' → zF 101 175 h0 h' → Q r h') (hk11 : ∀ v0 h', k11' v0 h' → zF 101 175 h0 h' → k11 v0 h') : P_M_addLowest_J77 y1 y2 y3 y4 y5 h Q k11 := by
  unfold P_M_addLowest_J77 at hP ⊢
  intro x5_7 e_x5_7
  have hP := hP x5_7 e_x5_7
  exact hk11 _ _ hP hf
theorem F_M_addLowest_L11 {y1 y2 y3 y4 : Int} {h0 : zH} {Q' Q : Int → zH → Prop} (hq : ∀ r h', Q' r h' → zF 101 175 h0 h' → Q r h') : ∀ (n11 : Nat) (y5 : Int) (h : zH), zF 101 175 h0 h → P_M_addLowest_L11 y1 y2 y3 y4 Q' n11 y5 h → P_M_addLowest_L11 y1 y2 y3 y4 Q n11 y5 h := by
  intro n11
  induction n11 with
  | zero => intro y5 h hf hP; exact absurd hP id
  | succ n11 ih =>
    intro y5 h hf hP
    unfold P_M_addLowest_L11 at hP ⊢
    refine zif_i (fun c => ?_) (fun c => ?_)
    · have hP := zif_p hP c
      exact hq _ _ hP hf
    · have hP := zif_n hP c
      refine F_M_itemOf hf hP (fun r3 h4 hP hf => ?_)
      refine F_M_nameOf hf hP (fun r5 h6 hP hf => ?_)
      refine zif_i (fun c => ?_) (fun c => ?_)
      · have hP := zif_p hP c
        refine F_M_addLowest_J77 hf hP hq (fun v0 h' hP hf => ih v0 h' hf hP)
      · have hP := zif_n hP c
        obtain ⟨ob, hP⟩ := hP
        refine ⟨ob, ?_⟩
        refine zif_i (fun c => ?_) (fun c => ?_)
        · have hP := zif_p hP c
          refine F_M_addLowest_J77 hf hP hq (fun v0 h' hP hf => ih v0 h' hf hP)
        · have hP := zif_n hP c
          obtain ⟨ob, hP⟩ := hP
          refine ⟨ob, ?_⟩
          refine zif_i (fun c => ?_) (fun c => ?_)
          · have hP := zif_p hP c
            refine F_M_addNameSources hf hP (fun r8 h9 hP hf => ?_)
            refine F_M_addLowest_J77 hf hP hq (fun v0 h' hP hf => ih v0 h' hf hP)
          · have hP := zif_n hP c
            refine F_M_addLowest_J77 hf hP hq (fun v0 h' hP hf => ih v0 h' hf hP)
theorem F_M_addLowest {a1 a2 a3 : Int} {h0 h : zH} {Q' Q : Int → zH → Prop} (hf : zF 101 175 h0 h) (hP : P_M_addLowest a1 a2 a3 h Q') (hq : ∀ r h', Q' r h' → zF 101 175 h0 h' → Q r h') : P_M_addLowest a1 a2 a3 h Q := by
  unfold P_M_addLowest at hP ⊢
  refine F_M_sizeOf hf hP (fun r1 h2 hP hf => ?_)
  obtain ⟨n11, hP⟩ := hP
  refine ⟨n11, ?_⟩
  refine F_M_addLowest_L11 hq _ _ _ hf hP
theorem F_M_become_J100 {y1 y2 y3 y4 s0 s1 : Int} {h0 h : zH} {Q' Q : Int → zH → Prop} (hf : zF 101 175 h0 h) (hP : P_M_become_J100 y1 y2 y3 y4 s0 s1 h Q') (hq : ∀ r h', Q' r h' → zF 101 175 h0 h' → Q r h') : P_M_become_J100 y1 y2 y3 y4 s0 s1 h Q := by
  unfold P_M_become_J100 at hP ⊢
  obtain ⟨ob, hP⟩ := hP
  refine ⟨ob, ?_⟩
  intro h3 e_h3
  have hP := hP h3 e_h3
  have hf := zF.w hf e_h3 (by decide) (by decide)
  obtain ⟨ob, hP⟩ := hP
  refine ⟨ob, ?_⟩
  obtain ⟨ob, hP⟩ := hP
  refine ⟨ob, ?_⟩
  intro h4 e_h4
  have hP := hP h4 e_h4
  have hf := zF.w hf e_h4 (by decide) (by decide)
  obtain ⟨ob, hP⟩ := hP
  refine ⟨ob, ?_⟩
  intro h5 e_h5
  have hP := hP h5 e_h5
  have hf := zF.w hf e_h5 (by decide) (by decide)
  obtain ⟨ob, hP⟩ := hP
  refine ⟨ob, ?_⟩
  obtain ⟨ob, hP⟩ := hP
  refine ⟨ob, ?_⟩
  intro h6 e_h6
  have hP := hP h6 e_h6
  have hf := zF.w hf e_h6 (by decide) (by decide)
  obtain ⟨ob, hP⟩ := hP
  refine ⟨ob, ?_⟩
  obtain ⟨ob, hP⟩ := hP
  refine ⟨ob, ?_⟩
  intro h7 e_h7
  have hP := hP h7 e_h7
  have hf := zF.w hf e_h7 (by decide) (by decide)
  exact hq _ _ hP hf
theorem F_M_become_J79 {y1 y2 y3 y4 : Int} {h0 h : zH} {Q' Q : Int → zH → Prop} (hf : zF 101 175 h0 h) (hP : P_M_become_J79 y1 y2 y3 y4 h Q') (hq : ∀ r h', Q' r h' → zF 101 175 h0 h' → Q r h') : P_M_become_J79 y1 y2 y3 y4 h Q := by
  unfold P_M_become_J79 at hP ⊢
  refine F_M_become_J100 hf hP hq
theorem F_M_become_L40 {y1 y2 y3 y4 : Int} {h0 : zH} {Q' Q : Int → zH → Prop} {k79' k79 : zH → Prop} (hq : ∀ r h', Q' r h' → zF 101 175 h0 h' → Q r h') (hk79 : ∀ h', k79' h' → zF 101 175 h0 h' → k79 h') : ∀ (n40 : Nat) (y5 : Int) (h : zH), zF 101 175 h0 h → P_M_become_L40 y1 y2 y3 y4 Q' k79' n40 y5 h → P_M_become_L40 y1 y2 y3 y4 Q k79 n40 y5 h := by
  intro n40
  induction n40 with
  | zero => intro y5 h hf hP; exact absurd hP id
  | succ n40 ih =>
    intro y5 h hf hP
    unfold P_M_become_L40 at hP ⊢
    refine zif_i (fun c => ?_) (fun c => ?_)
    · have hP := zif_p hP c
      exact hk79 _ hP hf
    · have hP := zif_n hP c
      obtain ⟨ob, hP⟩ := hP
      refine ⟨ob, ?_⟩
      obtain ⟨ob, hP⟩ := hP
      refine ⟨ob, ?_⟩
      intro h14 e_h14
      have hP := hP h14 e_h14
      have hf := zF.w hf e_h14 (by decide) (by decide)
      intro x5_15 e_x5_15
      have hP := hP x5_15 e_x5_15
      exact ih _ _ hf hP
theorem F_M_become {a1 a2 a3 : Int} {h0 h : zH} {Q' Q : Int → zH → Prop} (hf : zF 101 175 h0 h) (hP : P_M_become a1 a2 a3 h Q') (hq : ∀ r h', Q' r h' → zF 101 175 h0 h' → Q r h') : P_M_become a1 a2 a3 h Q := by
  unfold P_M_become at hP ⊢
  refine F_M_nameOf hf hP (fun r1 h2 hP hf => ?_)
  obtain ⟨ob, hP⟩ := hP
  refine ⟨ob, ?_⟩
  refine zif_i (fun c => ?_) (fun c => ?_)
  · have hP := zif_p hP c
    refine zif_i (fun c => ?_) (fun c => ?_)
    · have hP := zif_p hP c
      refine F_M_become_J79 hf hP hq
    · have hP := zif_n hP c
      refine F_M_clearSources hf hP (fun r8 h9 hP hf => ?_)
      refine F_M_addSources hf hP (fun r10 h11 hP hf => ?_)
      refine F_M_addLowest hf hP (fun r12 h13 hP hf => ?_)
      obtain ⟨n40, hP⟩ := hP
      refine ⟨n40, ?_⟩
      refine F_M_become_L40 hq (fun h16 hP hf => ?_) _ _ _ hf hP
      refine F_M_become_J79 hf hP hq
  · have hP := zif_n hP c
    refine F_M_become_J79 hf hP hq
theorem F_M_hasRoom {a1 a2 : Int} {h0 h : zH} {Q' Q : Int → zH → Prop} (hf : zF 101 175 h0 h) (hP : P_M_hasRoom a1 a2 h Q') (hq : ∀ r h', Q' r h' → zF 101 175 h0 h' → Q r h') : P_M_hasRoom a1 a2 h Q := by
  unfold P_M_hasRoom at hP ⊢
  obtain ⟨ob, hP⟩ := hP
  refine ⟨ob, ?_⟩
  obtain ⟨ob, hP⟩ := hP
  refine ⟨ob, ?_⟩
  exact hq _ _ hP hf
theorem F_M_record_L24 {y1 y2 y3 y4 : Int} {h0 : zH} {Q' Q : Int → zH → Prop} {k59' k59 : zH → Prop} (hq : ∀ r h', Q' r h' → zF 101 175 h0 h' → Q r h') (hk59 : ∀ h', k59' h' → zF 101 175 h0 h' → k59 h') : ∀ (n24 : Nat) (y5 : Int) (h : zH), zF 101 175 h0 h → P_M_record_L24 y1 y2 y3 y4 Q' k59' n24 y5 h → P_M_record_L24 y1 y2 y3 y4 Q k59 n24 y5 h := by
  intro n24
  induction n24 with
  | zero => intro y5 h hf hP; exact absurd hP id
  | succ n24 ih =>
    intro y5 h hf hP
    unfold P_M_record_L24 at hP ⊢
    refine zif_i (fun c => ?_) (fun c => ?_)
    · have hP := zif_p hP c
      exact hk59 _ hP hf
    · have hP := zif_n hP c
      obtain ⟨ob, hP⟩ := hP
      refine ⟨ob, ?_⟩
      obtain ⟨ob, hP⟩ := hP
      refine ⟨ob, ?_⟩
      intro h3 e_h3
      have hP := hP h3 e_h3
      have hf := zF.w hf e_h3 (by decide) (by decide)
      intro x5_4 e_x5_4
      have hP := hP x5_4 e_x5_4
      exact ih _ _ hf hP
theorem F_M_record_L80 {y1 y3 : Int} {h0 : zH} {Q' Q : Int → zH → Prop} (hq : ∀ r h', Q' r h' → zF 101 175 h0 h' → Q r h') : ∀ (n80 : Nat) (y5 : Int) (h : zH), zF 101 175 h0 h → P_M_record_L80 y1 y3 Q' n80 y5 h → P_M_record_L80 y1 y3 Q n80 y5 h := by
  intro n80
  induction n80 with
  | zero => intro y5 h hf hP; exact absurd hP id
  | succ n80 ih =>
    intro y5 h hf hP
    unfold P_M_record_L80 at hP ⊢
    refine zif_i (fun c => ?_) (fun c => ?_)
    · have hP := zif_p hP c
      obtain ⟨ob, hP⟩ := hP
      refine ⟨ob, ?_⟩
      obtain ⟨ob, hP⟩ := hP
      refine ⟨ob, ?_⟩
      intro h7 e_h7
      have hP := hP h7 e_h7
      have hf := zF.w hf e_h7 (by decide) (by decide)
      exact hq _ _ hP hf
    · have hP := zif_n hP c
      obtain ⟨ob, hP⟩ := hP
      refine ⟨ob, ?_⟩
      obtain ⟨ob, hP⟩ := hP
      refine ⟨ob, ?_⟩
      intro h8 e_h8
      have hP := hP h8 e_h8
      have hf := zF.w hf e_h8 (by decide) (by decide)
      intro x5_9 e_x5_9
      have hP := hP x5_9 e_x5_9
      exact ih _ _ hf hP
theorem F_M_record {a1 a2 : Int} {h0 h : zH} {Q' Q : Int → zH → Prop} (hf : zF 101 175 h0 h) (hP : P_M_record a1 a2 h Q') (hq : ∀ r h', Q' r h' → zF 101 175 h0 h' → Q r h') : P_M_record a1 a2 h Q := by
  unfold P_M_record at hP ⊢
  obtain ⟨ob, hP⟩ := hP
  refine ⟨ob, ?_⟩
  intro x3_1 e_x3_1
  have hP := hP x3_1 e_x3_1
  obtain ⟨ob, hP⟩ := hP
  refine ⟨ob, ?_⟩
  intro x4_2 e_x4_2
  have hP := hP x4_2 e_x4_2
  obtain ⟨n24, hP⟩ := hP
  refine ⟨n24, ?_⟩
  refine F_M_record_L24 hq (fun h5 hP hf => ?_) _ _ _ hf hP
  obtain ⟨ob, hP⟩ := hP
  refine ⟨ob, ?_⟩
  intro h6 e_h6
  have hP := hP h6 e_h6
  have hf := zF.w hf e_h6 (by decide) (by decide)
  obtain ⟨n80, hP⟩ := hP
  refine ⟨n80, ?_⟩
  refine F_M_record_L80 hq _ _ _ hf hP
theorem F_M_keepCore_J61 {y2 : Int} {h0 h : zH} {Q' Q : Int → zH → Prop} {k13' k13 : Int → zH → Prop} (hf : zF 101 175 h0 h) (hP : P_M_keepCore_J61 y2 h Q' k13') (hq : ∀ r h', Q' r h' → zF 101 175 h0 h' → Q r h') (hk13 : ∀ v0 h', k13' v0 h' → zF 101 175 h0 h' → k13 v0 h') : P_M_keepCore_J61 y2 h Q k13 := by
  unfold P_M_keepCore_J61 at hP ⊢
  intro x2_2 e_x2_2
  have hP := hP x2_2 e_x2_2
  exact hk13 _ _ hP hf
theorem F_M_keepCore_L13 {h0 : zH} {Q' Q : Int → zH → Prop} (hq : ∀ r h', Q' r h' → zF 101 175 h0 h' → Q r h') : ∀ (n13 : Nat) (y2 : Int) (h : zH), zF 101 175 h0 h → P_M_keepCore_L13 Q' n13 y2 h → P_M_keepCore_L13 Q n13 y2 h := by
  intro n13
  induction n13 with
  | zero => intro y2 h hf hP; exact absurd hP id
  | succ n13 ih =>
    intro y2 h hf hP
    unfold P_M_keepCore_L13 at hP ⊢
    refine zif_i (fun c => ?_) (fun c => ?_)
    · have hP := zif_p hP c
      exact hq _ _ hP hf
    · have hP := zif_n hP c
      obtain ⟨ob, hP⟩ := hP
      refine ⟨ob, ?_⟩
      refine zif_i (fun c => ?_) (fun c => ?_)
      · have hP := zif_p hP c
        obtain ⟨ob, hP⟩ := hP
        refine ⟨ob, ?_⟩
        intro h3 e_h3
        have hP := hP h3 e_h3
        have hf := zF.w hf e_h3 (by decide) (by decide)
        intro h4 e_h4
        have hP := hP h4 e_h4
        have hf := zF.w hf e_h4 (by decide) (by decide)
        refine F_M_keepCore_J61 hf hP hq (fun v0 h' hP hf => ih v0 h' hf hP)
      · have hP := zif_n hP c
        refine F_M_keepCore_J61 hf hP hq (fun v0 h' hP hf => ih v0 h' hf hP)
theorem F_M_keepCore {a1 : Int} {h0 h : zH} {Q' Q : Int → zH → Prop} (hf : zF 101 175 h0 h) (hP : P_M_keepCore a1 h Q') (hq : ∀ r h', Q' r h' → zF 101 175 h0 h' → Q r h') : P_M_keepCore a1 h Q := by
  unfold P_M_keepCore at hP ⊢
  refine zif_i (fun c => ?_) (fun c => ?_)
  · have hP := zif_p hP c
    exact hq _ _ hP hf
  · have hP := zif_n hP c
    intro h1 e_h1
    have hP := hP h1 e_h1
    have hf := zF.w hf e_h1 (by decide) (by decide)
    obtain ⟨n13, hP⟩ := hP
    refine ⟨n13, ?_⟩
    refine F_M_keepCore_L13 hq _ _ _ hf hP
theorem F_M_tellQuarrel {a1 a2 a3 a4 a5 : Int} {h0 h : zH} {Q' Q : Int → zH → Prop} (hf : zF 101 175 h0 h) (hP : P_M_tellQuarrel a1 a2 a3 a4 a5 h Q') (hq : ∀ r h', Q' r h' → zF 101 175 h0 h' → Q r h') : P_M_tellQuarrel a1 a2 a3 a4 a5 h Q := by
  unfold P_M_tellQuarrel at hP ⊢
  intro h1 e_h1
  have hP := hP h1 e_h1
  have hf := zF.w hf e_h1 (by decide) (by decide)
  intro h2 e_h2
  have hP := hP h2 e_h2
  have hf := zF.w hf e_h2 (by decide) (by decide)
  intro h3 e_h3
  have hP := hP h3 e_h3
  have hf := zF.w hf e_h3 (by decide) (by decide)
  intro h4 e_h4
  have hP := hP h4 e_h4
  have hf := zF.w hf e_h4 (by decide) (by decide)
  intro h5 e_h5
  have hP := hP h5 e_h5
  have hf := zF.w hf e_h5 (by decide) (by decide)
  intro h6 e_h6
  have hP := hP h6 e_h6
  have hf := zF.w hf e_h6 (by decide) (by decide)
  exact hq _ _ hP hf
theorem F_M_endLow {a1 : Int} {h0 h : zH} {Q' Q : Int → zH → Prop} (hf : zF 101 175 h0 h) (hP : P_M_endLow a1 h Q') (hq : ∀ r h', Q' r h' → zF 101 175 h0 h' → Q r h') : P_M_endLow a1 h Q := by
  unfold P_M_endLow at hP ⊢
  refine F_M_hasRoom hf hP (fun r1 h2 hP hf => ?_)
  refine zif_i (fun c => ?_) (fun c => ?_)
  · have hP := zif_p hP c
    exact hq _ _ hP hf
  · have hP := zif_n hP c
    refine F_M_clearSources hf hP (fun r3 h4 hP hf => ?_)
    refine F_M_addSources hf hP (fun r5 h6 hP hf => ?_)
    refine F_M_addLowest hf hP (fun r7 h8 hP hf => ?_)
    refine F_M_record hf hP (fun r9 h10 hP hf => ?_)
    refine F_M_keepCore hf hP (fun r11 h12 hP hf => ?_)
    refine zif_i (fun c => ?_) (fun c => ?_)
    · have hP := zif_p hP c
      intro h13 e_h13
      have hP := hP h13 e_h13
      have hf := zF.w hf e_h13 (by decide) (by decide)
      refine F_M_tellQuarrel hf hP (fun r14 h15 hP hf => ?_)
      exact hq _ _ hP hf
    · have hP := zif_n hP c
      exact hq _ _ hP hf
theorem F_M_clearMarks_L2 {h0 : zH} {Q' Q : Int → zH → Prop} (hq : ∀ r h', Q' r h' → zF 101 175 h0 h' → Q r h') : ∀ (n2 : Nat) (y1 : Int) (h : zH), zF 101 175 h0 h → P_M_clearMarks_L2 Q' n2 y1 h → P_M_clearMarks_L2 Q n2 y1 h := by
  intro n2
  induction n2 with
  | zero => intro y1 h hf hP; exact absurd hP id
  | succ n2 ih =>
    intro y1 h hf hP
    unfold P_M_clearMarks_L2 at hP ⊢
    refine zif_i (fun c => ?_) (fun c => ?_)
    · have hP := zif_p hP c
      exact hq _ _ hP hf
    · have hP := zif_n hP c
      obtain ⟨ob, hP⟩ := hP
      refine ⟨ob, ?_⟩
      intro h1 e_h1
      have hP := hP h1 e_h1
      have hf := zF.w hf e_h1 (by decide) (by decide)
      obtain ⟨ob, hP⟩ := hP
      refine ⟨ob, ?_⟩
      intro h2 e_h2
      have hP := hP h2 e_h2
      have hf := zF.w hf e_h2 (by decide) (by decide)
      intro x1_3 e_x1_3
      have hP := hP x1_3 e_x1_3
      exact ih _ _ hf hP
theorem F_M_clearMarks {h0 h : zH} {Q' Q : Int → zH → Prop} (hf : zF 101 175 h0 h) (hP : P_M_clearMarks h Q') (hq : ∀ r h', Q' r h' → zF 101 175 h0 h' → Q r h') : P_M_clearMarks h Q := by
  unfold P_M_clearMarks at hP ⊢
  obtain ⟨n2, hP⟩ := hP
  refine ⟨n2, ?_⟩
  refine F_M_clearMarks_L2 hq _ _ _ hf hP
theorem F_M_useRow_J135 {y1 y2 y3 y4 y5 : Int} {h0 h : zH} {Q' Q : Int → zH → Prop} {k31' k31 : Int → zH → Prop} (hf : zF 101 175 h0 h) (hP : P_M_useRow_J135 y1 y2 y3 y4 y5 h Q' k31') (hq : ∀ r h', Q' r h' → zF 101 175 h0 h' → Q r h') (hk31 : ∀ v0 h', k31' v0 h' → zF 101 175 h0 h' → k31 v0 h') : P_M_useRow_J135 y1 y2 y3 y4 y5 h Q k31 := by
  unfold P_M_useRow_J135 at hP ⊢
  intro x5_9 e_x5_9
  have hP := hP x5_9 e_x5_9
  exact hk31 _ _ hP hf
theorem F_M_useRow_J131 {y1 y2 y3 y4 y5 s0 s1 : Int} {h0 h : zH} {Q' Q : Int → zH → Prop} {k31' k31 : Int → zH → Prop} (hf : zF 101 175 h0 h) (hP : P_M_useRow_J131 y1 y2 y3 y4 y5 s0 s1 h Q' k31') (hq : ∀ r h', Q' r h' → zF 101 175 h0 h' → Q r h') (hk31 : ∀ v0 h', k31' v0 h' → zF 101 175 h0 h' → k31 v0 h') : P_M_useRow_J131 y1 y2 y3 y4 y5 s0 s1 h Q k31 := by
  unfold P_M_useRow_J131 at hP ⊢
  intro h12 e_h12
  have hP := hP h12 e_h12
  have hf := zF.w hf e_h12 (by decide) (by decide)
  refine F_M_useRow_J135 hf hP hq hk31
theorem F_M_useRow_L31 {y1 y2 y3 y4 : Int} {h0 : zH} {Q' Q : Int → zH → Prop} (hq : ∀ r h', Q' r h' → zF 101 175 h0 h' → Q r h') : ∀ (n31 : Nat) (y5 : Int) (h : zH), zF 101 175 h0 h → P_M_useRow_L31 y1 y2 y3 y4 Q' n31 y5 h → P_M_useRow_L31 y1 y2 y3 y4 Q n31 y5 h := by
  intro n31
  induction n31 with
  | zero => intro y5 h hf hP; exact absurd hP id
  | succ n31 ih =>
    intro y5 h hf hP
    unfold P_M_useRow_L31 at hP ⊢
    refine zif_i (fun c => ?_) (fun c => ?_)
    · have hP := zif_p hP c
      exact hq _ _ hP hf
    · have hP := zif_n hP c
      refine F_M_itemOf hf hP (fun r5 h6 hP hf => ?_)
      refine F_M_nameOf hf hP (fun r7 h8 hP hf => ?_)
      refine zif_i (fun c => ?_) (fun c => ?_)
      · have hP := zif_p hP c
        refine F_M_useRow_J135 hf hP hq (fun v0 h' hP hf => ih v0 h' hf hP)
      · have hP := zif_n hP c
        obtain ⟨ob, hP⟩ := hP
        refine ⟨ob, ?_⟩
        refine zif_i (fun c => ?_) (fun c => ?_)
        · have hP := zif_p hP c
          refine F_M_useRow_J135 hf hP hq (fun v0 h' hP hf => ih v0 h' hf hP)
        · have hP := zif_n hP c
          obtain ⟨ob, hP⟩ := hP
          refine ⟨ob, ?_⟩
          refine zif_i (fun c => ?_) (fun c => ?_)
          · have hP := zif_p hP c
            obtain ⟨ob, hP⟩ := hP
            refine ⟨ob, ?_⟩
            intro h10 e_h10
            have hP := hP h10 e_h10
            have hf := zF.w hf e_h10 (by decide) (by decide)
            obtain ⟨ob, hP⟩ := hP
            refine ⟨ob, ?_⟩
            intro h11 e_h11
            have hP := hP h11 e_h11
            have hf := zF.w hf e_h11 (by decide) (by decide)
            obtain ⟨ob, hP⟩ := hP
            refine ⟨ob, ?_⟩
            obtain ⟨ob, hP⟩ := hP
            refine ⟨ob, ?_⟩
            refine F_M_useRow_J131 hf hP hq (fun v0 h' hP hf => ih v0 h' hf hP)
          · have hP := zif_n hP c
            refine F_M_useRow_J135 hf hP hq (fun v0 h' hP hf => ih v0 h' hf hP)
theorem F_M_useRow {a1 a2 a3 : Int} {h0 h : zH} {Q' Q : Int → zH → Prop} (hf : zF 101 175 h0 h) (hP : P_M_useRow a1 a2 a3 h Q') (hq : ∀ r h', Q' r h' → zF 101 175 h0 h' → Q r h') : P_M_useRow a1 a2 a3 h Q := by
  unfold P_M_useRow at hP ⊢
  obtain ⟨ob, hP⟩ := hP
  refine ⟨ob, ?_⟩
  intro h1 e_h1
  have hP := hP h1 e_h1
  have hf := zF.w hf e_h1 (by decide) (by decide)
  intro h2 e_h2
  have hP := hP h2 e_h2
  have hf := zF.w hf e_h2 (by decide) (by decide)
  refine F_M_sizeOf hf hP (fun r3 h4 hP hf => ?_)
  obtain ⟨n31, hP⟩ := hP
  refine ⟨n31, ?_⟩
  refine F_M_useRow_L31 hq _ _ _ hf hP
theorem F_M_lastOne_J120 {y1 y2 y3 : Int} {h0 h : zH} {Q' Q : Int → zH → Prop} {k11' k11 : Int → Int → zH → Prop} (hf : zF 101 175 h0 h) (hP : P_M_lastOne_J120 y1 y2 y3 h Q' k11') (hq : ∀ r h', Q' r h' → zF 101 175 h0 h' → Q r h') (hk11 : ∀ v0 v1 h', k11' v0 v1 h' → zF 101 175 h0 h' → k11 v0 v1 h') : P_M_lastOne_J120 y1 y2 y3 h Q k11 := by
  unfold P_M_lastOne_J120 at hP ⊢
  intro x3_5 e_x3_5
  have hP := hP x3_5 e_x3_5
  exact hk11 _ _ _ hP hf
theorem F_M_lastOne_L11 {y1 : Int} {h0 : zH} {Q' Q : Int → zH → Prop} (hq : ∀ r h', Q' r h' → zF 101 175 h0 h' → Q r h') : ∀ (n11 : Nat) (y2 y3 : Int) (h : zH), zF 101 175 h0 h → P_M_lastOne_L11 y1 Q' n11 y2 y3 h → P_M_lastOne_L11 y1 Q n11 y2 y3 h := by
  intro n11
  induction n11 with
  | zero => intro y2 y3 h hf hP; exact absurd hP id
  | succ n11 ih =>
    intro y2 y3 h hf hP
    unfold P_M_lastOne_L11 at hP ⊢
    refine zif_i (fun c => ?_) (fun c => ?_)
    · have hP := zif_p hP c
      obtain ⟨ob, hP⟩ := hP
      refine ⟨ob, ?_⟩
      intro x4_2 e_x4_2
      have hP := hP x4_2 e_x4_2
      refine F_M_nameOf hf hP (fun r3 h4 hP hf => ?_)
      obtain ⟨ob, hP⟩ := hP
      refine ⟨ob, ?_⟩
      refine zif_i (fun c => ?_) (fun c => ?_)
      · have hP := zif_p hP c
        refine F_M_lastOne_J120 hf hP hq (fun v0 v1 h' hP hf => ih v0 v1 h' hf hP)
      · have hP := zif_n hP c
        obtain ⟨ob, hP⟩ := hP
        refine ⟨ob, ?_⟩
        obtain ⟨ob, hP⟩ := hP
        refine ⟨ob, ?_⟩
        refine zif_i (fun c => ?_) (fun c => ?_)
        · have hP := zif_p hP c
          refine zif_i (fun c => ?_) (fun c => ?_)
          · have hP := zif_p hP c
            refine F_M_lastOne_J120 hf hP hq (fun v0 v1 h' hP hf => ih v0 v1 h' hf hP)
          · have hP := zif_n hP c
            obtain ⟨ob, hP⟩ := hP
            refine ⟨ob, ?_⟩
            intro h6 e_h6
            have hP := hP h6 e_h6
            have hf := zF.w hf e_h6 (by decide) (by decide)
            intro h7 e_h7
            have hP := hP h7 e_h7
            have hf := zF.w hf e_h7 (by decide) (by decide)
            obtain ⟨ob, hP⟩ := hP
            refine ⟨ob, ?_⟩
            refine F_M_useRow hf hP (fun r8 h9 hP hf => ?_)
            refine F_M_lastOne_J120 hf hP hq (fun v0 v1 h' hP hf => ih v0 v1 h' hf hP)
        · have hP := zif_n hP c
          refine F_M_lastOne_J120 hf hP hq (fun v0 v1 h' hP hf => ih v0 v1 h' hf hP)
    · have hP := zif_n hP c
      exact hq _ _ hP hf
theorem F_M_lastOne {a1 : Int} {h0 h : zH} {Q' Q : Int → zH → Prop} (hf : zF 101 175 h0 h) (hP : P_M_lastOne a1 h Q') (hq : ∀ r h', Q' r h' → zF 101 175 h0 h' → Q r h') : P_M_lastOne a1 h Q := by
  unfold P_M_lastOne at hP ⊢
  obtain ⟨ob, hP⟩ := hP
  refine ⟨ob, ?_⟩
  intro x3_1 e_x3_1
  have hP := hP x3_1 e_x3_1
  obtain ⟨n11, hP⟩ := hP
  refine ⟨n11, ?_⟩
  refine F_M_lastOne_L11 hq _ _ _ _ hf hP
theorem F_M_raise_J83 {y1 y2 y3 y4 : Int} {h0 h : zH} {Q' Q : Int → zH → Prop} {k7' k7 : Int → Int → Int → zH → Prop} (hf : zF 101 175 h0 h) (hP : P_M_raise_J83 y1 y2 y3 y4 h Q' k7') (hq : ∀ r h', Q' r h' → zF 101 175 h0 h' → Q r h') (hk7 : ∀ v0 v1 v2 h', k7' v0 v1 v2 h' → zF 101 175 h0 h' → k7 v0 v1 v2 h') : P_M_raise_J83 y1 y2 y3 y4 h Q k7 := by
  unfold P_M_raise_J83 at hP ⊢
  intro x4_1 e_x4_1
  have hP := hP x4_1 e_x4_1
  exact hk7 _ _ _ _ hP hf
theorem F_M_raise_J82 {y1 y2 y4 s0 : Int} {h0 h : zH} {Q' Q : Int → zH → Prop} {k7' k7 : Int → Int → Int → zH → Prop} (hf : zF 101 175 h0 h) (hP : P_M_raise_J82 y1 y2 y4 s0 h Q' k7') (hq : ∀ r h', Q' r h' → zF 101 175 h0 h' → Q r h') (hk7 : ∀ v0 v1 v2 h', k7' v0 v1 v2 h' → zF 101 175 h0 h' → k7 v0 v1 v2 h') : P_M_raise_J82 y1 y2 y4 s0 h Q k7 := by
  unfold P_M_raise_J82 at hP ⊢
  refine F_M_raise_J83 hf hP hq hk7
theorem F_M_raise_L7 {y1 : Int} {h0 : zH} {Q' Q : Int → zH → Prop} {k89' k89 : Int → Int → zH → Prop} (hq : ∀ r h', Q' r h' → zF 101 175 h0 h' → Q r h') (hk89 : ∀ v0 v1 h', k89' v0 v1 h' → zF 101 175 h0 h' → k89 v0 v1 h') : ∀ (n7 : Nat) (y2 y3 y4 : Int) (h : zH), zF 101 175 h0 h → P_M_raise_L7 y1 Q' k89' n7 y2 y3 y4 h → P_M_raise_L7 y1 Q k89 n7 y2 y3 y4 h := by
  intro n7
  induction n7 with
  | zero => intro y2 y3 y4 h hf hP; exact absurd hP id
  | succ n7 ih =>
    intro y2 y3 y4 h hf hP
    unfold P_M_raise_L7 at hP ⊢
    obtain ⟨ob, hP⟩ := hP
    refine ⟨ob, ?_⟩
    refine zif_i (fun c => ?_) (fun c => ?_)
    · have hP := zif_p hP c
      exact hk89 _ _ _ hP hf
    · have hP := zif_n hP c
      obtain ⟨ob, hP⟩ := hP
      refine ⟨ob, ?_⟩
      refine zif_i (fun c => ?_) (fun c => ?_)
      · have hP := zif_p hP c
        refine F_M_raise_J83 hf hP hq (fun v0 v1 v2 h' hP hf => ih v0 v1 v2 h' hf hP)
      · have hP := zif_n hP c
        obtain ⟨ob, hP⟩ := hP
        refine ⟨ob, ?_⟩
        obtain ⟨ob, hP⟩ := hP
        refine ⟨ob, ?_⟩
        obtain ⟨ob, hP⟩ := hP
        refine ⟨ob, ?_⟩
        intro h2 e_h2
        have hP := hP h2 e_h2
        have hf := zF.w hf e_h2 (by decide) (by decide)
        intro x2_3 e_x2_3
        have hP := hP x2_3 e_x2_3
        obtain ⟨ob, hP⟩ := hP
        refine ⟨ob, ?_⟩
        refine F_M_raise_J82 hf hP hq (fun v0 v1 v2 h' hP hf => ih v0 v1 v2 h' hf hP)
theorem F_M_raise_L115 {y1 y2 : Int} {h0 : zH} {Q' Q : Int → zH → Prop} {k162' k162 : zH → Prop} (hq : ∀ r h', Q' r h' → zF 101 175 h0 h' → Q r h') (hk162 : ∀ h', k162' h' → zF 101 175 h0 h' → k162 h') : ∀ (n115 : Nat) (y4 : Int) (h : zH), zF 101 175 h0 h → P_M_raise_L115 y1 y2 Q' k162' n115 y4 h → P_M_raise_L115 y1 y2 Q k162 n115 y4 h := by
  intro n115
  induction n115 with
  | zero => intro y4 h hf hP; exact absurd hP id
  | succ n115 ih =>
    intro y4 h hf hP
    unfold P_M_raise_L115 at hP ⊢
    obtain ⟨ob, hP⟩ := hP
    refine ⟨ob, ?_⟩
    refine zif_i (fun c => ?_) (fun c => ?_)
    · have hP := zif_p hP c
      exact hk162 _ hP hf
    · have hP := zif_n hP c
      obtain ⟨ob, hP⟩ := hP
      refine ⟨ob, ?_⟩
      obtain ⟨ob, hP⟩ := hP
      refine ⟨ob, ?_⟩
      intro h6 e_h6
      have hP := hP h6 e_h6
      have hf := zF.w hf e_h6 (by decide) (by decide)
      intro x4_7 e_x4_7
      have hP := hP x4_7 e_x4_7
      exact ih _ _ hf hP
theorem F_M_raise {a1 : Int} {h0 h : zH} {Q' Q : Int → zH → Prop} (hf : zF 101 175 h0 h) (hP : P_M_raise a1 h Q') (hq : ∀ r h', Q' r h' → zF 101 175 h0 h' → Q r h') : P_M_raise a1 h Q := by
  unfold P_M_raise at hP ⊢
  obtain ⟨n7, hP⟩ := hP
  refine ⟨n7, ?_⟩
  refine F_M_raise_L7 hq (fun u2_89 u3_89 h4 hP hf => ?_) _ _ _ _ _ hf hP
  obtain ⟨ob, hP⟩ := hP
  refine ⟨ob, ?_⟩
  obtain ⟨ob, hP⟩ := hP
  refine ⟨ob, ?_⟩
  obtain ⟨ob, hP⟩ := hP
  refine ⟨ob, ?_⟩
  intro h5 e_h5
  have hP := hP h5 e_h5
  have hf := zF.w hf e_h5 (by decide) (by decide)
  refine zif_i (fun c => ?_) (fun c => ?_)
  · have hP := zif_p hP c
    exact hq _ _ hP hf
  · have hP := zif_n hP c
    obtain ⟨n115, hP⟩ := hP
    refine ⟨n115, ?_⟩
    refine F_M_raise_L115 hq (fun h8 hP hf => ?_) _ _ _ hf hP
    obtain ⟨ob, hP⟩ := hP
    refine ⟨ob, ?_⟩
    obtain ⟨ob, hP⟩ := hP
    refine ⟨ob, ?_⟩
    intro h9 e_h9
    have hP := hP h9 e_h9
    have hf := zF.w hf e_h9 (by decide) (by decide)
    obtain ⟨ob, hP⟩ := hP
    refine ⟨ob, ?_⟩
    obtain ⟨ob, hP⟩ := hP
    refine ⟨ob, ?_⟩
    obtain ⟨ob, hP⟩ := hP
    refine ⟨ob, ?_⟩
    intro h10 e_h10
    have hP := hP h10 e_h10
    have hf := zF.w hf e_h10 (by decide) (by decide)
    exact hq _ _ hP hf
theorem F_M_goBack_J135 {y1 y2 y3 : Int} {h0 h : zH} {Q' Q : Int → zH → Prop} {k15' k15 : Int → zH → Prop} (hf : zF 101 175 h0 h) (hP : P_M_goBack_J135 y1 y2 y3 h Q' k15') (hq : ∀ r h', Q' r h' → zF 101 175 h0 h' → Q r h') (hk15 : ∀ v0 h', k15' v0 h' → zF 101 175 h0 h' → k15 v0 h') : P_M_goBack_J135 y1 y2 y3 h Q k15 := by
  unfold P_M_goBack_J135 at hP ⊢
  exact hk15 _ _ hP hf
theorem F_M_goBack_J134 {y1 y2 s0 : Int} {h0 h : zH} {Q' Q : Int → zH → Prop} {k15' k15 : Int → zH → Prop} (hf : zF 101 175 h0 h) (hP : P_M_goBack_J134 y1 y2 s0 h Q' k15') (hq : ∀ r h', Q' r h' → zF 101 175 h0 h' → Q r h') (hk15 : ∀ v0 h', k15' v0 h' → zF 101 175 h0 h' → k15 v0 h') : P_M_goBack_J134 y1 y2 s0 h Q k15 := by
  unfold P_M_goBack_J134 at hP ⊢
  refine F_M_goBack_J135 hf hP hq hk15
theorem F_M_goBack_J65 {y1 y2 y4 s0 : Int} {h0 h : zH} {Q' Q : Int → zH → Prop} {k15' k15 : Int → zH → Prop} (hf : zF 101 175 h0 h) (hP : P_M_goBack_J65 y1 y2 y4 s0 h Q' k15') (hq : ∀ r h', Q' r h' → zF 101 175 h0 h' → Q r h') (hk15 : ∀ v0 h', k15' v0 h' → zF 101 175 h0 h' → k15 v0 h') : P_M_goBack_J65 y1 y2 y4 s0 h Q k15 := by
  unfold P_M_goBack_J65 at hP ⊢
  refine zif_i (fun c => ?_) (fun c => ?_)
  · have hP := zif_p hP c
    refine F_M_goBack_J135 hf hP hq hk15
  · have hP := zif_n hP c
    obtain ⟨ob, hP⟩ := hP
    refine ⟨ob, ?_⟩
    obtain ⟨ob, hP⟩ := hP
    refine ⟨ob, ?_⟩
    intro h4 e_h4
    have hP := hP h4 e_h4
    have hf := zF.w hf e_h4 (by decide) (by decide)
    obtain ⟨ob, hP⟩ := hP
    refine ⟨ob, ?_⟩
    intro h5 e_h5
    have hP := hP h5 e_h5
    have hf := zF.w hf e_h5 (by decide) (by decide)
    obtain ⟨ob, hP⟩ := hP
    refine ⟨ob, ?_⟩
    obtain ⟨ob, hP⟩ := hP
    refine ⟨ob, ?_⟩
    intro h6 e_h6
    have hP := hP h6 e_h6
    have hf := zF.w hf e_h6 (by decide) (by decide)
    obtain ⟨ob, hP⟩ := hP
    refine ⟨ob, ?_⟩
    refine F_M_goBack_J134 hf hP hq hk15
theorem F_M_goBack_L15 {y1 y2 : Int} {h0 : zH} {Q' Q : Int → zH → Prop} (hq : ∀ r h', Q' r h' → zF 101 175 h0 h' → Q r h') : ∀ (n15 : Nat) (y3 : Int) (h : zH), zF 101 175 h0 h → P_M_goBack_L15 y1 y2 Q' n15 y3 h → P_M_goBack_L15 y1 y2 Q n15 y3 h := by
  intro n15
  induction n15 with
  | zero => intro y3 h hf hP; exact absurd hP id
  | succ n15 ih =>
    intro y3 h hf hP
    unfold P_M_goBack_L15 at hP ⊢
    refine zif_i (fun c => ?_) (fun c => ?_)
    · have hP := zif_p hP c
      obtain ⟨ob, hP⟩ := hP
      refine ⟨ob, ?_⟩
      intro h1 e_h1
      have hP := hP h1 e_h1
      have hf := zF.w hf e_h1 (by decide) (by decide)
      exact hq _ _ hP hf
    · have hP := zif_n hP c
      obtain ⟨ob, hP⟩ := hP
      refine ⟨ob, ?_⟩
      obtain ⟨ob, hP⟩ := hP
      refine ⟨ob, ?_⟩
      refine F_M_nameOf hf hP (fun r2 h3 hP hf => ?_)
      obtain ⟨ob, hP⟩ := hP
      refine ⟨ob, ?_⟩
      refine F_M_goBack_J65 hf hP hq (fun v0 h' hP hf => ih v0 h' hf hP)
theorem F_M_goBack_J14 {y1 y2 s0 : Int} {h0 h : zH} {Q' Q : Int → zH → Prop} (hf : zF 101 175 h0 h) (hP : P_M_goBack_J14 y1 y2 s0 h Q') (hq : ∀ r h', Q' r h' → zF 101 175 h0 h' → Q r h') : P_M_goBack_J14 y1 y2 s0 h Q := by
  unfold P_M_goBack_J14 at hP ⊢
  obtain ⟨n15, hP⟩ := hP
  refine ⟨n15, ?_⟩
  refine F_M_goBack_L15 hq _ _ _ hf hP
theorem F_M_goBack {a1 a2 : Int} {h0 h : zH} {Q' Q : Int → zH → Prop} (hf : zF 101 175 h0 h) (hP : P_M_goBack a1 a2 h Q') (hq : ∀ r h', Q' r h' → zF 101 175 h0 h' → Q r h') : P_M_goBack a1 a2 h Q := by
  unfold P_M_goBack at hP ⊢
  obtain ⟨ob, hP⟩ := hP
  refine ⟨ob, ?_⟩
  refine F_M_goBack_J14 hf hP hq
theorem F_M_partOfRow_L11 {y1 : Int} {h0 : zH} {Q' Q : Int → zH → Prop} {k25' k25 : Int → zH → Prop} (hq : ∀ r h', Q' r h' → zF 101 175 h0 h' → Q r h') (hk25 : ∀ v0 h', k25' v0 h' → zF 101 175 h0 h' → k25 v0 h') : ∀ (n11 : Nat) (y2 : Int) (h : zH), zF 101 175 h0 h → P_M_partOfRow_L11 y1 Q' k25' n11 y2 h → P_M_partOfRow_L11 y1 Q k25 n11 y2 h := by
  intro n11
  induction n11 with
  | zero => intro y2 h hf hP; exact absurd hP id
  | succ n11 ih =>
    intro y2 h hf hP
    unfold P_M_partOfRow_L11 at hP ⊢
    refine zif_i (fun c => ?_) (fun c => ?_)
    · have hP := zif_p hP c
      exact hk25 _ _ hP hf
    · have hP := zif_n hP c
      intro x2_1 e_x2_1
      have hP := hP x2_1 e_x2_1
      exact ih _ _ hf hP
theorem F_M_partOfRow_L4 {h0 : zH} {Q' Q : Int → zH → Prop} (hq : ∀ r h', Q' r h' → zF 101 175 h0 h' → Q r h') : ∀ (n4 : Nat) (y1 y2 : Int) (h : zH), zF 101 175 h0 h → P_M_partOfRow_L4 Q' n4 y1 y2 h → P_M_partOfRow_L4 Q n4 y1 y2 h := by
  intro n4
  induction n4 with
  | zero => intro y1 y2 h hf hP; exact absurd hP id
  | succ n4 ih =>
    intro y1 y2 h hf hP
    unfold P_M_partOfRow_L4 at hP ⊢
    refine zif_i (fun c => ?_) (fun c => ?_)
    · have hP := zif_p hP c
      exact hq _ _ hP hf
    · have hP := zif_n hP c
      obtain ⟨n11, hP⟩ := hP
      refine ⟨n11, ?_⟩
      refine F_M_partOfRow_L11 hq (fun u2_25 h2 hP hf => ?_) _ _ _ hf hP
      refine zif_i (fun c => ?_) (fun c => ?_)
      · have hP := zif_p hP c
        exact ih _ _ _ hf hP
      · have hP := zif_n hP c
        intro x1_3 e_x1_3
        have hP := hP x1_3 e_x1_3
        exact ih _ _ _ hf hP
theorem F_M_partOfRow {a1 : Int} {h0 h : zH} {Q' Q : Int → zH → Prop} (hf : zF 101 175 h0 h) (hP : P_M_partOfRow a1 h Q') (hq : ∀ r h', Q' r h' → zF 101 175 h0 h' → Q r h') : P_M_partOfRow a1 h Q := by
  unfold P_M_partOfRow at hP ⊢
  obtain ⟨n4, hP⟩ := hP
  refine ⟨n4, ?_⟩
  refine F_M_partOfRow_L4 hq _ _ _ _ hf hP
theorem F_M_thereOf_J35 {y1 y3 s0 s1 : Int} {h0 h : zH} {Q' Q : Int → zH → Prop} {k4' k4 : Int → Int → zH → Prop} (hf : zF 101 175 h0 h) (hP : P_M_thereOf_J35 y1 y3 s0 s1 h Q' k4') (hq : ∀ r h', Q' r h' → zF 101 175 h0 h' → Q r h') (hk4 : ∀ v0 v1 h', k4' v0 v1 h' → zF 101 175 h0 h' → k4 v0 v1 h') : P_M_thereOf_J35 y1 y3 s0 s1 h Q k4 := by
  unfold P_M_thereOf_J35 at hP ⊢
  intro x2_1 e_x2_1
  have hP := hP x2_1 e_x2_1
  intro x3_2 e_x3_2
  have hP := hP x3_2 e_x3_2
  exact hk4 _ _ _ hP hf
theorem F_M_thereOf_L4 {y1 : Int} {h0 : zH} {Q' Q : Int → zH → Prop} (hq : ∀ r h', Q' r h' → zF 101 175 h0 h' → Q r h') : ∀ (n4 : Nat) (y2 y3 : Int) (h : zH), zF 101 175 h0 h → P_M_thereOf_L4 y1 Q' n4 y2 y3 h → P_M_thereOf_L4 y1 Q n4 y2 y3 h := by
  intro n4
  induction n4 with
  | zero => intro y2 y3 h hf hP; exact absurd hP id
  | succ n4 ih =>
    intro y2 y3 h hf hP
    unfold P_M_thereOf_L4 at hP ⊢
    obtain ⟨ob, hP⟩ := hP
    refine ⟨ob, ?_⟩
    refine zif_i (fun c => ?_) (fun c => ?_)
    · have hP := zif_p hP c
      exact hq _ _ hP hf
    · have hP := zif_n hP c
      obtain ⟨ob, hP⟩ := hP
      refine ⟨ob, ?_⟩
      refine F_M_thereOf_J35 hf hP hq (fun v0 v1 h' hP hf => ih v0 v1 h' hf hP)
theorem F_M_thereOf {a1 : Int} {h0 h : zH} {Q' Q : Int → zH → Prop} (hf : zF 101 175 h0 h) (hP : P_M_thereOf a1 h Q') (hq : ∀ r h', Q' r h' → zF 101 175 h0 h' → Q r h') : P_M_thereOf a1 h Q := by
  unfold P_M_thereOf at hP ⊢
  obtain ⟨n4, hP⟩ := hP
  refine ⟨n4, ?_⟩
  refine F_M_thereOf_L4 hq _ _ _ _ hf hP
theorem F_M_mayGo {a1 a2 : Int} {h0 h : zH} {Q' Q : Int → zH → Prop} (hf : zF 101 175 h0 h) (hP : P_M_mayGo a1 a2 h Q') (hq : ∀ r h', Q' r h' → zF 101 175 h0 h' → Q r h') : P_M_mayGo a1 a2 h Q := by
  unfold P_M_mayGo at hP ⊢
  obtain ⟨ob, hP⟩ := hP
  refine ⟨ob, ?_⟩
  refine zif_i (fun c => ?_) (fun c => ?_)
  · have hP := zif_p hP c
    exact hq _ _ hP hf
  · have hP := zif_n hP c
    obtain ⟨ob, hP⟩ := hP
    refine ⟨ob, ?_⟩
    refine zif_i (fun c => ?_) (fun c => ?_)
    · have hP := zif_p hP c
      refine F_M_sizeOf hf hP (fun r1 h2 hP hf => ?_)
      exact hq _ _ hP hf
    · have hP := zif_n hP c
      exact hq _ _ hP hf
theorem F_M_forgetSome_L22 {y1 : Int} {h0 : zH} {Q' Q : Int → zH → Prop} {k45' k45 : zH → Prop} (hq : ∀ r h', Q' r h' → zF 101 175 h0 h' → Q r h') (hk45 : ∀ h', k45' h' → zF 101 175 h0 h' → k45 h') : ∀ (n22 : Nat) (y2 : Int) (h : zH), zF 101 175 h0 h → P_M_forgetSome_L22 y1 Q' k45' n22 y2 h → P_M_forgetSome_L22 y1 Q k45 n22 y2 h := by
  intro n22
  induction n22 with
  | zero => intro y2 h hf hP; exact absurd hP id
  | succ n22 ih =>
    intro y2 h hf hP
    unfold P_M_forgetSome_L22 at hP ⊢
    obtain ⟨ob, hP⟩ := hP
    refine ⟨ob, ?_⟩
    refine zif_i (fun c => ?_) (fun c => ?_)
    · have hP := zif_p hP c
      exact hk45 _ hP hf
    · have hP := zif_n hP c
      obtain ⟨ob, hP⟩ := hP
      refine ⟨ob, ?_⟩
      intro h3 e_h3
      have hP := hP h3 e_h3
      have hf := zF.w hf e_h3 (by decide) (by decide)
      intro x2_4 e_x2_4
      have hP := hP x2_4 e_x2_4
      exact ih _ _ hf hP
theorem F_M_forgetSome_J102 {y1 y2 : Int} {h0 h : zH} {Q' Q : Int → zH → Prop} {k47' k47 : Int → zH → Prop} (hf : zF 101 175 h0 h) (hP : P_M_forgetSome_J102 y1 y2 h Q' k47') (hq : ∀ r h', Q' r h' → zF 101 175 h0 h' → Q r h') (hk47 : ∀ v0 h', k47' v0 h' → zF 101 175 h0 h' → k47 v0 h') : P_M_forgetSome_J102 y1 y2 h Q k47 := by
  unfold P_M_forgetSome_J102 at hP ⊢
  intro x2_9 e_x2_9
  have hP := hP x2_9 e_x2_9
  exact hk47 _ _ hP hf
theorem F_M_forgetSome_L47 {y1 : Int} {h0 : zH} {Q' Q : Int → zH → Prop} {k108' k108 : zH → Prop} (hq : ∀ r h', Q' r h' → zF 101 175 h0 h' → Q r h') (hk108 : ∀ h', k108' h' → zF 101 175 h0 h' → k108 h') : ∀ (n47 : Nat) (y2 : Int) (h : zH), zF 101 175 h0 h → P_M_forgetSome_L47 y1 Q' k108' n47 y2 h → P_M_forgetSome_L47 y1 Q k108 n47 y2 h := by
  intro n47
  induction n47 with
  | zero => intro y2 h hf hP; exact absurd hP id
  | succ n47 ih =>
    intro y2 h hf hP
    unfold P_M_forgetSome_L47 at hP ⊢
    obtain ⟨ob, hP⟩ := hP
    refine ⟨ob, ?_⟩
    refine zif_i (fun c => ?_) (fun c => ?_)
    · have hP := zif_p hP c
      exact hk108 _ hP hf
    · have hP := zif_n hP c
      obtain ⟨ob, hP⟩ := hP
      refine ⟨ob, ?_⟩
      refine F_M_nameOf hf hP (fun r6 h7 hP hf => ?_)
      obtain ⟨ob, hP⟩ := hP
      refine ⟨ob, ?_⟩
      intro x3_8 e_x3_8
      have hP := hP x3_8 e_x3_8
      refine zif_i (fun c => ?_) (fun c => ?_)
      · have hP := zif_p hP c
        refine F_M_forgetSome_J102 hf hP hq (fun v0 h' hP hf => ih v0 h' hf hP)
      · have hP := zif_n hP c
        obtain ⟨ob, hP⟩ := hP
        refine ⟨ob, ?_⟩
        intro h10 e_h10
        have hP := hP h10 e_h10
        have hf := zF.w hf e_h10 (by decide) (by decide)
        refine F_M_forgetSome_J102 hf hP hq (fun v0 h' hP hf => ih v0 h' hf hP)
theorem F_M_forgetSome_J137 {y1 y3 s0 s1 : Int} {h0 h : zH} {Q' Q : Int → zH → Prop} {k112' k112 : Int → Int → zH → Prop} (hf : zF 101 175 h0 h) (hP : P_M_forgetSome_J137 y1 y3 s0 s1 h Q' k112') (hq : ∀ r h', Q' r h' → zF 101 175 h0 h' → Q r h') (hk112 : ∀ v0 v1 h', k112' v0 v1 h' → zF 101 175 h0 h' → k112 v0 v1 h') : P_M_forgetSome_J137 y1 y3 s0 s1 h Q k112 := by
  unfold P_M_forgetSome_J137 at hP ⊢
  intro x2_14 e_x2_14
  have hP := hP x2_14 e_x2_14
  intro x3_15 e_x3_15
  have hP := hP x3_15 e_x3_15
  exact hk112 _ _ _ hP hf
theorem F_M_forgetSome_L112 {y1 : Int} {h0 : zH} {Q' Q : Int → zH → Prop} {k145' k145 : Int → zH → Prop} (hq : ∀ r h', Q' r h' → zF 101 175 h0 h' → Q r h') (hk145 : ∀ v0 h', k145' v0 h' → zF 101 175 h0 h' → k145 v0 h') : ∀ (n112 : Nat) (y2 y3 : Int) (h : zH), zF 101 175 h0 h → P_M_forgetSome_L112 y1 Q' k145' n112 y2 y3 h → P_M_forgetSome_L112 y1 Q k145 n112 y2 y3 h := by
  intro n112
  induction n112 with
  | zero => intro y2 y3 h hf hP; exact absurd hP id
  | succ n112 ih =>
    intro y2 y3 h hf hP
    unfold P_M_forgetSome_L112 at hP ⊢
    obtain ⟨ob, hP⟩ := hP
    refine ⟨ob, ?_⟩
    refine zif_i (fun c => ?_) (fun c => ?_)
    · have hP := zif_p hP c
      exact hk145 _ _ hP hf
    · have hP := zif_n hP c
      refine F_M_mayGo hf hP (fun r12 h13 hP hf => ?_)
      refine F_M_forgetSome_J137 hf hP hq (fun v0 v1 h' hP hf => ih v0 v1 h' hf hP)
theorem F_M_forgetSome_J236 {y1 y2 y3 y5 s0 : Int} {h0 h : zH} {Q' Q : Int → zH → Prop} {k162' k162 : Int → Int → zH → Prop} (hf : zF 101 175 h0 h) (hP : P_M_forgetSome_J236 y1 y2 y3 y5 s0 h Q' k162') (hq : ∀ r h', Q' r h' → zF 101 175 h0 h' → Q r h') (hk162 : ∀ v0 v1 h', k162' v0 v1 h' → zF 101 175 h0 h' → k162 v0 v1 h') : P_M_forgetSome_J236 y1 y2 y3 y5 s0 h Q k162 := by
  unfold P_M_forgetSome_J236 at hP ⊢
  intro x5_19 e_x5_19
  have hP := hP x5_19 e_x5_19
  exact hk162 _ _ _ hP hf
theorem F_M_forgetSome_J222 {y1 y2 y3 y4 y5 s0 : Int} {h0 h : zH} {Q' Q : Int → zH → Prop} {k162' k162 : Int → Int → zH → Prop} (hf : zF 101 175 h0 h) (hP : P_M_forgetSome_J222 y1 y2 y3 y4 y5 s0 h Q' k162') (hq : ∀ r h', Q' r h' → zF 101 175 h0 h' → Q r h') (hk162 : ∀ v0 v1 h', k162' v0 v1 h' → zF 101 175 h0 h' → k162 v0 v1 h') : P_M_forgetSome_J222 y1 y2 y3 y4 y5 s0 h Q k162 := by
  unfold P_M_forgetSome_J222 at hP ⊢
  refine F_M_forgetSome_J236 hf hP hq hk162
theorem F_M_forgetSome_L162 {y1 y2 y3 : Int} {h0 : zH} {Q' Q : Int → zH → Prop} {k244' k244 : Int → zH → Prop} (hq : ∀ r h', Q' r h' → zF 101 175 h0 h' → Q r h') (hk244 : ∀ v0 h', k244' v0 h' → zF 101 175 h0 h' → k244 v0 h') : ∀ (n162 : Nat) (y4 y5 : Int) (h : zH), zF 101 175 h0 h → P_M_forgetSome_L162 y1 y2 y3 Q' k244' n162 y4 y5 h → P_M_forgetSome_L162 y1 y2 y3 Q k244 n162 y4 y5 h := by
  intro n162
  induction n162 with
  | zero => intro y4 y5 h hf hP; exact absurd hP id
  | succ n162 ih =>
    intro y4 y5 h hf hP
    unfold P_M_forgetSome_L162 at hP ⊢
    obtain ⟨ob, hP⟩ := hP
    refine ⟨ob, ?_⟩
    refine zif_i (fun c => ?_) (fun c => ?_)
    · have hP := zif_p hP c
      exact hk244 _ _ hP hf
    · have hP := zif_n hP c
      refine F_M_mayGo hf hP (fun r17 h18 hP hf => ?_)
      obtain ⟨ob, hP⟩ := hP
      refine ⟨ob, ?_⟩
      refine F_M_forgetSome_J222 hf hP hq (fun v0 v1 h' hP hf => ih v0 v1 h' hf hP)
theorem F_M_forgetSome_L147 {y1 y2 : Int} {h0 : zH} {Q' Q : Int → zH → Prop} {k280' k280 : zH → Prop} (hq : ∀ r h', Q' r h' → zF 101 175 h0 h' → Q r h') (hk280 : ∀ h', k280' h' → zF 101 175 h0 h' → k280 h') : ∀ (n147 : Nat) (y3 : Int) (h : zH), zF 101 175 h0 h → P_M_forgetSome_L147 y1 y2 Q' k280' n147 y3 h → P_M_forgetSome_L147 y1 y2 Q k280 n147 y3 h := by
  intro n147
  induction n147 with
  | zero => intro y3 h hf hP; exact absurd hP id
  | succ n147 ih =>
    intro y3 h hf hP
    unfold P_M_forgetSome_L147 at hP ⊢
    refine zif_i (fun c => ?_) (fun c => ?_)
    · have hP := zif_p hP c
      exact hk280 _ hP hf
    · have hP := zif_n hP c
      obtain ⟨n162, hP⟩ := hP
      refine ⟨n162, ?_⟩
      refine F_M_forgetSome_L162 hq (fun u4_244 h20 hP hf => ?_) _ _ _ _ hf hP
      obtain ⟨ob, hP⟩ := hP
      refine ⟨ob, ?_⟩
      intro h21 e_h21
      have hP := hP h21 e_h21
      have hf := zF.w hf e_h21 (by decide) (by decide)
      obtain ⟨ob, hP⟩ := hP
      refine ⟨ob, ?_⟩
      obtain ⟨ob, hP⟩ := hP
      refine ⟨ob, ?_⟩
      intro h22 e_h22
      have hP := hP h22 e_h22
      have hf := zF.w hf e_h22 (by decide) (by decide)
      intro x3_23 e_x3_23
      have hP := hP x3_23 e_x3_23
      exact ih _ _ hf hP
theorem F_M_forgetSome_L282 {y1 : Int} {h0 : zH} {Q' Q : Int → zH → Prop} (hq : ∀ r h', Q' r h' → zF 101 175 h0 h' → Q r h') : ∀ (n282 : Nat) (y3 : Int) (h : zH), zF 101 175 h0 h → P_M_forgetSome_L282 y1 Q' n282 y3 h → P_M_forgetSome_L282 y1 Q n282 y3 h := by
  intro n282
  induction n282 with
  | zero => intro y3 h hf hP; exact absurd hP id
  | succ n282 ih =>
    intro y3 h hf hP
    unfold P_M_forgetSome_L282 at hP ⊢
    obtain ⟨ob, hP⟩ := hP
    refine ⟨ob, ?_⟩
    refine zif_i (fun c => ?_) (fun c => ?_)
    · have hP := zif_p hP c
      exact hq _ _ hP hf
    · have hP := zif_n hP c
      obtain ⟨ob, hP⟩ := hP
      refine ⟨ob, ?_⟩
      obtain ⟨ob, hP⟩ := hP
      refine ⟨ob, ?_⟩
      intro h25 e_h25
      have hP := hP h25 e_h25
      have hf := zF.w hf e_h25 (by decide) (by decide)
      intro x3_26 e_x3_26
      have hP := hP x3_26 e_x3_26
      exact ih _ _ hf hP
theorem F_M_forgetSome {a1 : Int} {h0 h : zH} {Q' Q : Int → zH → Prop} (hf : zF 101 175 h0 h) (hP : P_M_forgetSome a1 h Q') (hq : ∀ r h', Q' r h' → zF 101 175 h0 h' → Q r h') : P_M_forgetSome a1 h Q := by
  unfold P_M_forgetSome at hP ⊢
  refine zif_i (fun c => ?_) (fun c => ?_)
  · have hP := zif_p hP c
    exact hq _ _ hP hf
  · have hP := zif_n hP c
    refine F_M_thereOf hf hP (fun r1 h2 hP hf => ?_)
    refine zif_i (fun c => ?_) (fun c => ?_)
    · have hP := zif_p hP c
      obtain ⟨n22, hP⟩ := hP
      refine ⟨n22, ?_⟩
      refine F_M_forgetSome_L22 hq (fun h5 hP hf => ?_) _ _ _ hf hP
      obtain ⟨n47, hP⟩ := hP
      refine ⟨n47, ?_⟩
      refine F_M_forgetSome_L47 hq (fun h11 hP hf => ?_) _ _ _ hf hP
      obtain ⟨n112, hP⟩ := hP
      refine ⟨n112, ?_⟩
      refine F_M_forgetSome_L112 hq (fun u2_145 h16 hP hf => ?_) _ _ _ _ hf hP
      obtain ⟨n147, hP⟩ := hP
      refine ⟨n147, ?_⟩
      refine F_M_forgetSome_L147 hq (fun h24 hP hf => ?_) _ _ _ hf hP
      obtain ⟨n282, hP⟩ := hP
      refine ⟨n282, ?_⟩
      refine F_M_forgetSome_L282 hq _ _ _ hf hP
    · have hP := zif_n hP c
      exact hq _ _ hP hf
theorem F_M_learn_J171 {y1 y2 y3 y4 y5 y6 y7 : Int} {h0 h : zH} {Q' Q : Int → zH → Prop} {k76' k76 : Int → Int → Int → zH → Prop} (hf : zF 101 175 h0 h) (hP : P_M_learn_J171 y1 y2 y3 y4 y5 y6 y7 h Q' k76') (hq : ∀ r h', Q' r h' → zF 101 175 h0 h' → Q r h') (hk76 : ∀ v0 v1 v2 h', k76' v0 v1 v2 h' → zF 101 175 h0 h' → k76 v0 v1 v2 h') : P_M_learn_J171 y1 y2 y3 y4 y5 y6 y7 h Q k76 := by
  unfold P_M_learn_J171 at hP ⊢
  intro x7_16 e_x7_16
  have hP := hP x7_16 e_x7_16
  exact hk76 _ _ _ _ hP hf
theorem F_M_learn_J169 {y1 y2 y3 y4 y5 y7 s0 : Int} {h0 h : zH} {Q' Q : Int → zH → Prop} {k76' k76 : Int → Int → Int → zH → Prop} (hf : zF 101 175 h0 h) (hP : P_M_learn_J169 y1 y2 y3 y4 y5 y7 s0 h Q' k76') (hq : ∀ r h', Q' r h' → zF 101 175 h0 h' → Q r h') (hk76 : ∀ v0 v1 v2 h', k76' v0 v1 v2 h' → zF 101 175 h0 h' → k76 v0 v1 v2 h') : P_M_learn_J169 y1 y2 y3 y4 y5 y7 s0 h Q k76 := by
  unfold P_M_learn_J169 at hP ⊢
  refine F_M_learn_J171 hf hP hq hk76
theorem F_M_learn_L76 {y1 y2 y3 y4 : Int} {h0 : zH} {Q' Q : Int → zH → Prop} {k177' k177 : Int → Int → zH → Prop} (hq : ∀ r h', Q' r h' → zF 101 175 h0 h' → Q r h') (hk177 : ∀ v0 v1 h', k177' v0 v1 h' → zF 101 175 h0 h' → k177 v0 v1 h') : ∀ (n76 : Nat) (y5 y6 y7 : Int) (h : zH), zF 101 175 h0 h → P_M_learn_L76 y1 y2 y3 y4 Q' k177' n76 y5 y6 y7 h → P_M_learn_L76 y1 y2 y3 y4 Q k177 n76 y5 y6 y7 h := by
  intro n76
  induction n76 with
  | zero => intro y5 y6 y7 h hf hP; exact absurd hP id
  | succ n76 ih =>
    intro y5 y6 y7 h hf hP
    unfold P_M_learn_L76 at hP ⊢
    refine zif_i (fun c => ?_) (fun c => ?_)
    · have hP := zif_p hP c
      exact hk177 _ _ _ hP hf
    · have hP := zif_n hP c
      obtain ⟨ob, hP⟩ := hP
      refine ⟨ob, ?_⟩
      intro x8_13 e_x8_13
      have hP := hP x8_13 e_x8_13
      refine F_M_nameOf hf hP (fun r14 h15 hP hf => ?_)
      refine zif_i (fun c => ?_) (fun c => ?_)
      · have hP := zif_p hP c
        refine F_M_learn_J171 hf hP hq (fun v0 v1 v2 h' hP hf => ih v0 v1 v2 h' hf hP)
      · have hP := zif_n hP c
        obtain ⟨ob, hP⟩ := hP
        refine ⟨ob, ?_⟩
        refine zif_i (fun c => ?_) (fun c => ?_)
        · have hP := zif_p hP c
          refine F_M_learn_J171 hf hP hq (fun v0 v1 v2 h' hP hf => ih v0 v1 v2 h' hf hP)
        · have hP := zif_n hP c
          obtain ⟨ob, hP⟩ := hP
          refine ⟨ob, ?_⟩
          intro h17 e_h17
          have hP := hP h17 e_h17
          have hf := zF.w hf e_h17 (by decide) (by decide)
          intro x5_18 e_x5_18
          have hP := hP x5_18 e_x5_18
          obtain ⟨ob, hP⟩ := hP
          refine ⟨ob, ?_⟩
          obtain ⟨ob, hP⟩ := hP
          refine ⟨ob, ?_⟩
          refine F_M_learn_J169 hf hP hq (fun v0 v1 v2 h' hP hf => ih v0 v1 v2 h' hf hP)
theorem F_M_learn_J300 {y1 y2 y3 y5 y6 y8 y9 : Int} {h0 h : zH} {Q' Q : Int → zH → Prop} {k227' k227 : Int → zH → Prop} (hf : zF 101 175 h0 h) (hP : P_M_learn_J300 y1 y2 y3 y5 y6 y8 y9 h Q' k227') (hq : ∀ r h', Q' r h' → zF 101 175 h0 h' → Q r h') (hk227 : ∀ v0 h', k227' v0 h' → zF 101 175 h0 h' → k227 v0 h') : P_M_learn_J300 y1 y2 y3 y5 y6 y8 y9 h Q k227 := by
  unfold P_M_learn_J300 at hP ⊢
  intro x9_33 e_x9_33
  have hP := hP x9_33 e_x9_33
  exact hk227 _ _ hP hf
theorem F_M_learn_L227 {y1 y2 y3 y5 y6 y8 : Int} {h0 : zH} {Q' Q : Int → zH → Prop} {k306' k306 : zH → Prop} (hq : ∀ r h', Q' r h' → zF 101 175 h0 h' → Q r h') (hk306 : ∀ h', k306' h' → zF 101 175 h0 h' → k306 h') : ∀ (n227 : Nat) (y9 : Int) (h : zH), zF 101 175 h0 h → P_M_learn_L227 y1 y2 y3 y5 y6 y8 Q' k306' n227 y9 h → P_M_learn_L227 y1 y2 y3 y5 y6 y8 Q k306 n227 y9 h := by
  intro n227
  induction n227 with
  | zero => intro y9 h hf hP; exact absurd hP id
  | succ n227 ih =>
    intro y9 h hf hP
    unfold P_M_learn_L227 at hP ⊢
    refine zif_i (fun c => ?_) (fun c => ?_)
    · have hP := zif_p hP c
      exact hk306 _ hP hf
    · have hP := zif_n hP c
      obtain ⟨ob, hP⟩ := hP
      refine ⟨ob, ?_⟩
      refine F_M_addSources hf hP (fun r29 h30 hP hf => ?_)
      obtain ⟨ob, hP⟩ := hP
      refine ⟨ob, ?_⟩
      refine F_M_addLowest hf hP (fun r31 h32 hP hf => ?_)
      obtain ⟨ob, hP⟩ := hP
      refine ⟨ob, ?_⟩
      refine zif_i (fun c => ?_) (fun c => ?_)
      · have hP := zif_p hP c
        refine F_M_learn_J300 hf hP hq (fun v0 h' hP hf => ih v0 h' hf hP)
      · have hP := zif_n hP c
        obtain ⟨ob, hP⟩ := hP
        refine ⟨ob, ?_⟩
        obtain ⟨ob, hP⟩ := hP
        refine ⟨ob, ?_⟩
        obtain ⟨ob, hP⟩ := hP
        refine ⟨ob, ?_⟩
        intro h34 e_h34
        have hP := hP h34 e_h34
        have hf := zF.w hf e_h34 (by decide) (by decide)
        refine F_M_learn_J300 hf hP hq (fun v0 h' hP hf => ih v0 h' hf hP)
theorem F_M_learn_J391 {y1 y2 y3 y5 y8 : Int} {h0 h : zH} {Q' Q : Int → zH → Prop} (hf : zF 101 175 h0 h) (hP : P_M_learn_J391 y1 y2 y3 y5 y8 h Q') (hq : ∀ r h', Q' r h' → zF 101 175 h0 h' → Q r h') : P_M_learn_J391 y1 y2 y3 y5 y8 h Q := by
  unfold P_M_learn_J391 at hP ⊢
  refine F_M_forgetSome hf hP (fun r39 h40 hP hf => ?_)
  obtain ⟨ob, hP⟩ := hP
  refine ⟨ob, ?_⟩
  obtain ⟨ob, hP⟩ := hP
  refine ⟨ob, ?_⟩
  intro h41 e_h41
  have hP := hP h41 e_h41
  have hf := zF.w hf e_h41 (by decide) (by decide)
  obtain ⟨ob, hP⟩ := hP
  refine ⟨ob, ?_⟩
  obtain ⟨ob, hP⟩ := hP
  refine ⟨ob, ?_⟩
  intro h42 e_h42
  have hP := hP h42 e_h42
  have hf := zF.w hf e_h42 (by decide) (by decide)
  refine F_M_record hf hP (fun r43 h44 hP hf => ?_)
  obtain ⟨ob, hP⟩ := hP
  refine ⟨ob, ?_⟩
  obtain ⟨ob, hP⟩ := hP
  refine ⟨ob, ?_⟩
  intro h45 e_h45
  have hP := hP h45 e_h45
  have hf := zF.w hf e_h45 (by decide) (by decide)
  refine zif_i (fun c => ?_) (fun c => ?_)
  · have hP := zif_p hP c
    obtain ⟨ob, hP⟩ := hP
    refine ⟨ob, ?_⟩
    refine F_M_tellQuarrel hf hP (fun r46 h47 hP hf => ?_)
    exact hq _ _ hP hf
  · have hP := zif_n hP c
    exact hq _ _ hP hf
theorem F_M_learn {a1 : Int} {h0 h : zH} {Q' Q : Int → zH → Prop} (hf : zF 101 175 h0 h) (hP : P_M_learn a1 h Q') (hq : ∀ r h', Q' r h' → zF 101 175 h0 h' → Q r h') : P_M_learn a1 h Q := by
  unfold P_M_learn at hP ⊢
  refine zif_i (fun c => ?_) (fun c => ?_)
  · have hP := zif_p hP c
    exact hq _ _ hP hf
  · have hP := zif_n hP c
    refine F_M_clearMarks hf hP (fun r1 h2 hP hf => ?_)
    intro h3 e_h3
    have hP := hP h3 e_h3
    have hf := zF.w hf e_h3 (by decide) (by decide)
    intro h4 e_h4
    have hP := hP h4 e_h4
    have hf := zF.w hf e_h4 (by decide) (by decide)
    intro x2_5 e_x2_5
    have hP := hP x2_5 e_x2_5
    obtain ⟨ob, hP⟩ := hP
    refine ⟨ob, ?_⟩
    intro x3_6 e_x3_6
    have hP := hP x3_6 e_x3_6
    refine F_M_useRow hf hP (fun r7 h8 hP hf => ?_)
    refine F_M_lastOne hf hP (fun r9 h10 hP hf => ?_)
    intro h11 e_h11
    have hP := hP h11 e_h11
    have hf := zF.w hf e_h11 (by decide) (by decide)
    obtain ⟨ob, hP⟩ := hP
    refine ⟨ob, ?_⟩
    intro x7_12 e_x7_12
    have hP := hP x7_12 e_x7_12
    obtain ⟨n76, hP⟩ := hP
    refine ⟨n76, ?_⟩
    refine F_M_learn_L76 hq (fun u5_177 u6_177 h19 hP hf => ?_) _ _ _ _ _ hf hP
    refine F_M_hasRoom hf hP (fun r20 h21 hP hf => ?_)
    refine zif_i (fun c => ?_) (fun c => ?_)
    · have hP := zif_p hP c
      exact hq _ _ hP hf
    · have hP := zif_n hP c
      refine F_M_takesStep hf hP (fun r22 h23 hP hf => ?_)
      obtain ⟨ob, hP⟩ := hP
      refine ⟨ob, ?_⟩
      obtain ⟨ob, hP⟩ := hP
      refine ⟨ob, ?_⟩
      intro h24 e_h24
      have hP := hP h24 e_h24
      have hf := zF.w hf e_h24 (by decide) (by decide)
      refine F_M_raise hf hP (fun r25 h26 hP hf => ?_)
      refine F_M_clearSources hf hP (fun r27 h28 hP hf => ?_)
      obtain ⟨n227, hP⟩ := hP
      refine ⟨n227, ?_⟩
      refine F_M_learn_L227 hq (fun h35 hP hf => ?_) _ _ _ hf hP
      refine F_M_goBack hf hP (fun r36 h37 hP hf => ?_)
      obtain ⟨ob, hP⟩ := hP
      refine ⟨ob, ?_⟩
      obtain ⟨ob, hP⟩ := hP
      refine ⟨ob, ?_⟩
      intro h38 e_h38
      have hP := hP h38 e_h38
      have hf := zF.w hf e_h38 (by decide) (by decide)
      refine zif_i (fun c => ?_) (fun c => ?_)
      · have hP := zif_p hP c
        refine F_M_learn_J391 hf hP hq
      · have hP := zif_n hP c
        obtain ⟨ob, hP⟩ := hP
        refine ⟨ob, ?_⟩
        obtain ⟨ob, hP⟩ := hP
        refine ⟨ob, ?_⟩
        refine F_M_partOfRow hf hP (fun r48 h49 hP hf => ?_)
        refine zif_i (fun c => ?_) (fun c => ?_)
        · have hP := zif_p hP c
          refine F_M_learn_J391 hf hP hq
        · have hP := zif_n hP c
          refine F_M_goBack hf hP (fun r50 h51 hP hf => ?_)
          obtain ⟨ob, hP⟩ := hP
          refine ⟨ob, ?_⟩
          obtain ⟨ob, hP⟩ := hP
          refine ⟨ob, ?_⟩
          intro h52 e_h52
          have hP := hP h52 e_h52
          have hf := zF.w hf e_h52 (by decide) (by decide)
          obtain ⟨ob, hP⟩ := hP
          refine ⟨ob, ?_⟩
          intro h53 e_h53
          have hP := hP h53 e_h53
          have hf := zF.w hf e_h53 (by decide) (by decide)
          obtain ⟨ob, hP⟩ := hP
          refine ⟨ob, ?_⟩
          obtain ⟨ob, hP⟩ := hP
          refine ⟨ob, ?_⟩
          intro h54 e_h54
          have hP := hP h54 e_h54
          have hf := zF.w hf e_h54 (by decide) (by decide)
          refine F_M_learn_J391 hf hP hq
theorem F_M_markRow_L10 {y1 y2 y3 : Int} {h0 : zH} {Q' Q : Int → zH → Prop} (hq : ∀ r h', Q' r h' → zF 101 175 h0 h' → Q r h') : ∀ (n10 : Nat) (y4 : Int) (h : zH), zF 101 175 h0 h → P_M_markRow_L10 y1 y2 y3 Q' n10 y4 h → P_M_markRow_L10 y1 y2 y3 Q n10 y4 h := by
  intro n10
  induction n10 with
  | zero => intro y4 h hf hP; exact absurd hP id
  | succ n10 ih =>
    intro y4 h hf hP
    unfold P_M_markRow_L10 at hP ⊢
    refine zif_i (fun c => ?_) (fun c => ?_)
    · have hP := zif_p hP c
      exact hq _ _ hP hf
    · have hP := zif_n hP c
      refine F_M_itemOf hf hP (fun r3 h4 hP hf => ?_)
      refine F_M_nameOf hf hP (fun r5 h6 hP hf => ?_)
      obtain ⟨ob, hP⟩ := hP
      refine ⟨ob, ?_⟩
      intro h7 e_h7
      have hP := hP h7 e_h7
      have hf := zF.w hf e_h7 (by decide) (by decide)
      intro x4_8 e_x4_8
      have hP := hP x4_8 e_x4_8
      exact ih _ _ hf hP
theorem F_M_markRow {a1 a2 : Int} {h0 h : zH} {Q' Q : Int → zH → Prop} (hf : zF 101 175 h0 h) (hP : P_M_markRow a1 a2 h Q') (hq : ∀ r h', Q' r h' → zF 101 175 h0 h' → Q r h') : P_M_markRow a1 a2 h Q := by
  unfold P_M_markRow at hP ⊢
  refine F_M_sizeOf hf hP (fun r1 h2 hP hf => ?_)
  obtain ⟨n10, hP⟩ := hP
  refine ⟨n10, ?_⟩
  refine F_M_markRow_L10 hq _ _ _ hf hP
theorem F_M_endAsked_J152 {y1 y2 y3 : Int} {h0 h : zH} {Q' Q : Int → zH → Prop} {k27' k27 : Int → zH → Prop} (hf : zF 101 175 h0 h) (hP : P_M_endAsked_J152 y1 y2 y3 h Q' k27') (hq : ∀ r h', Q' r h' → zF 101 175 h0 h' → Q r h') (hk27 : ∀ v0 h', k27' v0 h' → zF 101 175 h0 h' → k27 v0 h') : P_M_endAsked_J152 y1 y2 y3 h Q k27 := by
  unfold P_M_endAsked_J152 at hP ⊢
  intro x3_15 e_x3_15
  have hP := hP x3_15 e_x3_15
  exact hk27 _ _ hP hf
theorem F_M_endAsked_L27 {y1 y2 : Int} {h0 : zH} {Q' Q : Int → zH → Prop} {k158' k158 : zH → Prop} (hq : ∀ r h', Q' r h' → zF 101 175 h0 h' → Q r h') (hk158 : ∀ h', k158' h' → zF 101 175 h0 h' → k158 h') : ∀ (n27 : Nat) (y3 : Int) (h : zH), zF 101 175 h0 h → P_M_endAsked_L27 y1 y2 Q' k158' n27 y3 h → P_M_endAsked_L27 y1 y2 Q k158 n27 y3 h := by
  intro n27
  induction n27 with
  | zero => intro y3 h hf hP; exact absurd hP id
  | succ n27 ih =>
    intro y3 h hf hP
    unfold P_M_endAsked_L27 at hP ⊢
    refine zif_i (fun c => ?_) (fun c => ?_)
    · have hP := zif_p hP c
      exact hk158 _ hP hf
    · have hP := zif_n hP c
      obtain ⟨ob, hP⟩ := hP
      refine ⟨ob, ?_⟩
      refine F_M_nameOf hf hP (fun r9 h10 hP hf => ?_)
      obtain ⟨ob, hP⟩ := hP
      refine ⟨ob, ?_⟩
      refine zif_i (fun c => ?_) (fun c => ?_)
      · have hP := zif_p hP c
        refine F_M_endAsked_J152 hf hP hq (fun v0 h' hP hf => ih v0 h' hf hP)
      · have hP := zif_n hP c
        obtain ⟨ob, hP⟩ := hP
        refine ⟨ob, ?_⟩
        refine zif_i (fun c => ?_) (fun c => ?_)
        · have hP := zif_p hP c
          refine F_M_addNameSources hf hP (fun r17 h18 hP hf => ?_)
          refine F_M_endAsked_J152 hf hP hq (fun v0 h' hP hf => ih v0 h' hf hP)
        · have hP := zif_n hP c
          obtain ⟨ob, hP⟩ := hP
          refine ⟨ob, ?_⟩
          refine zif_i (fun c => ?_) (fun c => ?_)
          · have hP := zif_p hP c
            obtain ⟨ob, hP⟩ := hP
            refine ⟨ob, ?_⟩
            intro h16 e_h16
            have hP := hP h16 e_h16
            have hf := zF.w hf e_h16 (by decide) (by decide)
            refine F_M_endAsked_J152 hf hP hq (fun v0 h' hP hf => ih v0 h' hf hP)
          · have hP := zif_n hP c
            obtain ⟨ob, hP⟩ := hP
            refine ⟨ob, ?_⟩
            refine F_M_addSources hf hP (fun r11 h12 hP hf => ?_)
            obtain ⟨ob, hP⟩ := hP
            refine ⟨ob, ?_⟩
            refine F_M_markRow hf hP (fun r13 h14 hP hf => ?_)
            refine F_M_endAsked_J152 hf hP hq (fun v0 h' hP hf => ih v0 h' hf hP)
theorem F_M_endAsked_J230 {y1 y2 y3 y4 : Int} {h0 h : zH} {Q' Q : Int → zH → Prop} {k163' k163 : Int → Int → zH → Prop} (hf : zF 101 175 h0 h) (hP : P_M_endAsked_J230 y1 y2 y3 y4 h Q' k163') (hq : ∀ r h', Q' r h' → zF 101 175 h0 h' → Q r h') (hk163 : ∀ v0 v1 h', k163' v0 v1 h' → zF 101 175 h0 h' → k163 v0 v1 h') : P_M_endAsked_J230 y1 y2 y3 y4 h Q k163 := by
  unfold P_M_endAsked_J230 at hP ⊢
  intro x4_23 e_x4_23
  have hP := hP x4_23 e_x4_23
  exact hk163 _ _ _ hP hf
theorem F_M_endAsked_J218 {y1 y2 y3 y4 y5 : Int} {h0 h : zH} {Q' Q : Int → zH → Prop} {k163' k163 : Int → Int → zH → Prop} (hf : zF 101 175 h0 h) (hP : P_M_endAsked_J218 y1 y2 y3 y4 y5 h Q' k163') (hq : ∀ r h', Q' r h' → zF 101 175 h0 h' → Q r h') (hk163 : ∀ v0 v1 h', k163' v0 v1 h' → zF 101 175 h0 h' → k163 v0 v1 h') : P_M_endAsked_J218 y1 y2 y3 y4 y5 h Q k163 := by
  unfold P_M_endAsked_J218 at hP ⊢
  obtain ⟨ob, hP⟩ := hP
  refine ⟨ob, ?_⟩
  intro h21 e_h21
  have hP := hP h21 e_h21
  have hf := zF.w hf e_h21 (by decide) (by decide)
  intro x3_22 e_x3_22
  have hP := hP x3_22 e_x3_22
  refine F_M_endAsked_J230 hf hP hq hk163
theorem F_M_endAsked_L163 {y1 y2 : Int} {h0 : zH} {Q' Q : Int → zH → Prop} {k236' k236 : Int → zH → Prop} (hq : ∀ r h', Q' r h' → zF 101 175 h0 h' → Q r h') (hk236 : ∀ v0 h', k236' v0 h' → zF 101 175 h0 h' → k236 v0 h') : ∀ (n163 : Nat) (y3 y4 : Int) (h : zH), zF 101 175 h0 h → P_M_endAsked_L163 y1 y2 Q' k236' n163 y3 y4 h → P_M_endAsked_L163 y1 y2 Q k236 n163 y3 y4 h := by
  intro n163
  induction n163 with
  | zero => intro y3 y4 h hf hP; exact absurd hP id
  | succ n163 ih =>
    intro y3 y4 h hf hP
    unfold P_M_endAsked_L163 at hP ⊢
    obtain ⟨ob, hP⟩ := hP
    refine ⟨ob, ?_⟩
    refine zif_i (fun c => ?_) (fun c => ?_)
    · have hP := zif_p hP c
      exact hk236 _ _ hP hf
    · have hP := zif_n hP c
      obtain ⟨ob, hP⟩ := hP
      refine ⟨ob, ?_⟩
      intro x5_20 e_x5_20
      have hP := hP x5_20 e_x5_20
      refine zif_i (fun c => ?_) (fun c => ?_)
      · have hP := zif_p hP c
        refine F_M_endAsked_J218 hf hP hq (fun v0 v1 h' hP hf => ih v0 v1 h' hf hP)
      · have hP := zif_n hP c
        refine F_M_nameOf hf hP (fun r24 h25 hP hf => ?_)
        obtain ⟨ob, hP⟩ := hP
        refine ⟨ob, ?_⟩
        refine zif_i (fun c => ?_) (fun c => ?_)
        · have hP := zif_p hP c
          refine F_M_endAsked_J230 hf hP hq (fun v0 v1 h' hP hf => ih v0 v1 h' hf hP)
        · have hP := zif_n hP c
          refine F_M_stateOf hf hP (fun r26 h27 hP hf => ?_)
          refine zif_i (fun c => ?_) (fun c => ?_)
          · have hP := zif_p hP c
            refine F_M_endAsked_J218 hf hP hq (fun v0 v1 h' hP hf => ih v0 v1 h' hf hP)
          · have hP := zif_n hP c
            refine F_M_endAsked_J230 hf hP hq (fun v0 v1 h' hP hf => ih v0 v1 h' hf hP)
theorem F_M_endAsked_L263 {y1 y3 : Int} {h0 : zH} {Q' Q : Int → zH → Prop} (hq : ∀ r h', Q' r h' → zF 101 175 h0 h' → Q r h') : ∀ (n263 : Nat) (y4 : Int) (h : zH), zF 101 175 h0 h → P_M_endAsked_L263 y1 y3 Q' n263 y4 h → P_M_endAsked_L263 y1 y3 Q n263 y4 h := by
  intro n263
  induction n263 with
  | zero => intro y4 h hf hP; exact absurd hP id
  | succ n263 ih =>
    intro y4 h hf hP
    unfold P_M_endAsked_L263 at hP ⊢
    refine zif_i (fun c => ?_) (fun c => ?_)
    · have hP := zif_p hP c
      exact hq _ _ hP hf
    · have hP := zif_n hP c
      refine zif_i (fun c => ?_) (fun c => ?_)
      · have hP := zif_p hP c
        obtain ⟨ob, hP⟩ := hP
        refine ⟨ob, ?_⟩
        obtain ⟨ob, hP⟩ := hP
        refine ⟨ob, ?_⟩
        intro h35 e_h35
        have hP := hP h35 e_h35
        have hf := zF.w hf e_h35 (by decide) (by decide)
        intro h36 e_h36
        have hP := hP h36 e_h36
        have hf := zF.w hf e_h36 (by decide) (by decide)
        intro x4_37 e_x4_37
        have hP := hP x4_37 e_x4_37
        exact ih _ _ hf hP
      · have hP := zif_n hP c
        exact hq _ _ hP hf
theorem F_M_endAsked {a1 a2 : Int} {h0 h : zH} {Q' Q : Int → zH → Prop} (hf : zF 101 175 h0 h) (hP : P_M_endAsked a1 a2 h Q') (hq : ∀ r h', Q' r h' → zF 101 175 h0 h' → Q r h') : P_M_endAsked a1 a2 h Q := by
  unfold P_M_endAsked at hP ⊢
  refine F_M_clearMarks hf hP (fun r1 h2 hP hf => ?_)
  refine F_M_clearSources hf hP (fun r3 h4 hP hf => ?_)
  refine F_M_nameOf hf hP (fun r5 h6 hP hf => ?_)
  obtain ⟨ob, hP⟩ := hP
  refine ⟨ob, ?_⟩
  intro h7 e_h7
  have hP := hP h7 e_h7
  have hf := zF.w hf e_h7 (by decide) (by decide)
  obtain ⟨ob, hP⟩ := hP
  refine ⟨ob, ?_⟩
  intro x3_8 e_x3_8
  have hP := hP x3_8 e_x3_8
  obtain ⟨n27, hP⟩ := hP
  refine ⟨n27, ?_⟩
  refine F_M_endAsked_L27 hq (fun h19 hP hf => ?_) _ _ _ hf hP
  obtain ⟨n163, hP⟩ := hP
  refine ⟨n163, ?_⟩
  refine F_M_endAsked_L163 hq (fun u3_236 h28 hP hf => ?_) _ _ _ _ hf hP
  refine F_M_hasRoom hf hP (fun r29 h30 hP hf => ?_)
  refine zif_i (fun c => ?_) (fun c => ?_)
  · have hP := zif_p hP c
    exact hq _ _ hP hf
  · have hP := zif_n hP c
    refine F_M_record hf hP (fun r31 h32 hP hf => ?_)
    refine F_M_keepCore hf hP (fun r33 h34 hP hf => ?_)
    obtain ⟨n263, hP⟩ := hP
    refine ⟨n263, ?_⟩
    refine F_M_endAsked_L263 hq _ _ _ hf hP
theorem F_M_heaviest_J64 {y1 y2 y3 : Int} {h0 h : zH} {Q' Q : Int → zH → Prop} {k4' k4 : Int → Int → zH → Prop} (hf : zF 101 175 h0 h) (hP : P_M_heaviest_J64 y1 y2 y3 h Q' k4') (hq : ∀ r h', Q' r h' → zF 101 175 h0 h' → Q r h') (hk4 : ∀ v0 v1 h', k4' v0 v1 h' → zF 101 175 h0 h' → k4 v0 v1 h') : P_M_heaviest_J64 y1 y2 y3 h Q k4 := by
  unfold P_M_heaviest_J64 at hP ⊢
  intro x3_1 e_x3_1
  have hP := hP x3_1 e_x3_1
  exact hk4 _ _ _ hP hf
theorem F_M_heaviest_J62 {y1 y3 : Int} {h0 h : zH} {Q' Q : Int → zH → Prop} {k4' k4 : Int → Int → zH → Prop} (hf : zF 101 175 h0 h) (hP : P_M_heaviest_J62 y1 y3 h Q' k4') (hq : ∀ r h', Q' r h' → zF 101 175 h0 h' → Q r h') (hk4 : ∀ v0 v1 h', k4' v0 v1 h' → zF 101 175 h0 h' → k4 v0 v1 h') : P_M_heaviest_J62 y1 y3 h Q k4 := by
  unfold P_M_heaviest_J62 at hP ⊢
  refine F_M_heaviest_J64 hf hP hq hk4
theorem F_M_heaviest_L4 {y1 : Int} {h0 : zH} {Q' Q : Int → zH → Prop} {k70' k70 : Int → zH → Prop} (hq : ∀ r h', Q' r h' → zF 101 175 h0 h' → Q r h') (hk70 : ∀ v0 h', k70' v0 h' → zF 101 175 h0 h' → k70 v0 h') : ∀ (n4 : Nat) (y2 y3 : Int) (h : zH), zF 101 175 h0 h → P_M_heaviest_L4 y1 Q' k70' n4 y2 y3 h → P_M_heaviest_L4 y1 Q k70 n4 y2 y3 h := by
  intro n4
  induction n4 with
  | zero => intro y2 y3 h hf hP; exact absurd hP id
  | succ n4 ih =>
    intro y2 y3 h hf hP
    unfold P_M_heaviest_L4 at hP ⊢
    obtain ⟨ob, hP⟩ := hP
    refine ⟨ob, ?_⟩
    refine zif_i (fun c => ?_) (fun c => ?_)
    · have hP := zif_p hP c
      exact hk70 _ _ hP hf
    · have hP := zif_n hP c
      obtain ⟨ob, hP⟩ := hP
      refine ⟨ob, ?_⟩
      refine zif_i (fun c => ?_) (fun c => ?_)
      · have hP := zif_p hP c
        refine zif_i (fun c => ?_) (fun c => ?_)
        · have hP := zif_p hP c
          refine F_M_heaviest_J62 hf hP hq (fun v0 v1 h' hP hf => ih v0 v1 h' hf hP)
        · have hP := zif_n hP c
          obtain ⟨ob, hP⟩ := hP
          refine ⟨ob, ?_⟩
          obtain ⟨ob, hP⟩ := hP
          refine ⟨ob, ?_⟩
          refine zif_i (fun c => ?_) (fun c => ?_)
          · have hP := zif_p hP c
            refine F_M_heaviest_J64 hf hP hq (fun v0 v1 h' hP hf => ih v0 v1 h' hf hP)
          · have hP := zif_n hP c
            refine F_M_heaviest_J62 hf hP hq (fun v0 v1 h' hP hf => ih v0 v1 h' hf hP)
      · have hP := zif_n hP c
        refine F_M_heaviest_J64 hf hP hq (fun v0 v1 h' hP hf => ih v0 v1 h' hf hP)
theorem F_M_heaviest {a1 : Int} {h0 h : zH} {Q' Q : Int → zH → Prop} (hf : zF 101 175 h0 h) (hP : P_M_heaviest a1 h Q') (hq : ∀ r h', Q' r h' → zF 101 175 h0 h' → Q r h') : P_M_heaviest a1 h Q := by
  unfold P_M_heaviest at hP ⊢
  obtain ⟨n4, hP⟩ := hP
  refine ⟨n4, ?_⟩
  refine F_M_heaviest_L4 hq (fun u2_70 h2 hP hf => ?_) _ _ _ _ hf hP
  obtain ⟨ob, hP⟩ := hP
  refine ⟨ob, ?_⟩
  exact hq _ _ hP hf
theorem F_M_oneTurn_L5 {y1 : Int} {h0 : zH} {Q' Q : Int → zH → Prop} {k67' k67 : zH → Prop} (hq : ∀ r h', Q' r h' → zF 101 175 h0 h' → Q r h') (hk67 : ∀ h', k67' h' → zF 101 175 h0 h' → k67 h') : ∀ (n5 : Nat) (h : zH), zF 101 175 h0 h → P_M_oneTurn_L5 y1 Q' k67' n5 h → P_M_oneTurn_L5 y1 Q k67 n5 h := by
  intro n5
  induction n5 with
  | zero => intro h hf hP; exact absurd hP id
  | succ n5 ih =>
    intro h hf hP
    unfold P_M_oneTurn_L5 at hP ⊢
    refine zif_i (fun c => ?_) (fun c => ?_)
    · have hP := zif_p hP c
      exact hk67 _ hP hf
    · have hP := zif_n hP c
      refine zif_i (fun c => ?_) (fun c => ?_)
      · have hP := zif_p hP c
        exact hk67 _ hP hf
      · have hP := zif_n hP c
        refine F_M_takesStep hf hP (fun r3 h4 hP hf => ?_)
        refine zif_i (fun c => ?_) (fun c => ?_)
        · have hP := zif_p hP c
          exact hq _ _ hP hf
        · have hP := zif_n hP c
          obtain ⟨ob, hP⟩ := hP
          refine ⟨ob, ?_⟩
          obtain ⟨ob, hP⟩ := hP
          refine ⟨ob, ?_⟩
          intro h5 e_h5
          have hP := hP h5 e_h5
          have hf := zF.w hf e_h5 (by decide) (by decide)
          refine F_M_become hf hP (fun r6 h7 hP hf => ?_)
          refine F_M_find hf hP (fun r8 h9 hP hf => ?_)
          exact ih _ hf hP
theorem F_M_oneTurn_L104 {y1 : Int} {h0 : zH} {Q' Q : Int → zH → Prop} {k146' k146 : Int → Int → zH → Prop} (hq : ∀ r h', Q' r h' → zF 101 175 h0 h' → Q r h') (hk146 : ∀ v0 v1 h', k146' v0 v1 h' → zF 101 175 h0 h' → k146 v0 v1 h') : ∀ (n104 : Nat) (y2 y3 y4 : Int) (h : zH), zF 101 175 h0 h → P_M_oneTurn_L104 y1 Q' k146' n104 y2 y3 y4 h → P_M_oneTurn_L104 y1 Q k146 n104 y2 y3 y4 h := by
  intro n104
  induction n104 with
  | zero => intro y2 y3 y4 h hf hP; exact absurd hP id
  | succ n104 ih =>
    intro y2 y3 y4 h hf hP
    unfold P_M_oneTurn_L104 at hP ⊢
    obtain ⟨ob, hP⟩ := hP
    refine ⟨ob, ?_⟩
    refine zif_i (fun c => ?_) (fun c => ?_)
    · have hP := zif_p hP c
      exact hk146 _ _ _ hP hf
    · have hP := zif_n hP c
      refine zif_i (fun c => ?_) (fun c => ?_)
      · have hP := zif_p hP c
        obtain ⟨ob, hP⟩ := hP
        refine ⟨ob, ?_⟩
        intro x2_11 e_x2_11
        have hP := hP x2_11 e_x2_11
        refine F_M_stateOf hf hP (fun r12 h13 hP hf => ?_)
        intro x4_14 e_x4_14
        have hP := hP x4_14 e_x4_14
        exact ih _ _ _ _ hf hP
      · have hP := zif_n hP c
        exact hk146 _ _ _ hP hf
theorem F_M_oneTurn_J168 {y1 y2 : Int} {h0 h : zH} {Q' Q : Int → zH → Prop} (hf : zF 101 175 h0 h) (hP : P_M_oneTurn_J168 y1 y2 h Q') (hq : ∀ r h', Q' r h' → zF 101 175 h0 h' → Q r h') : P_M_oneTurn_J168 y1 y2 h Q := by
  unfold P_M_oneTurn_J168 at hP ⊢
  refine zif_i (fun c => ?_) (fun c => ?_)
  · have hP := zif_p hP c
    exact hq _ _ hP hf
  · have hP := zif_n hP c
    refine F_M_takesStep hf hP (fun r16 h17 hP hf => ?_)
    refine zif_i (fun c => ?_) (fun c => ?_)
    · have hP := zif_p hP c
      exact hq _ _ hP hf
    · have hP := zif_n hP c
      obtain ⟨ob, hP⟩ := hP
      refine ⟨ob, ?_⟩
      obtain ⟨ob, hP⟩ := hP
      refine ⟨ob, ?_⟩
      intro h18 e_h18
      have hP := hP h18 e_h18
      have hf := zF.w hf e_h18 (by decide) (by decide)
      obtain ⟨ob, hP⟩ := hP
      refine ⟨ob, ?_⟩
      obtain ⟨ob, hP⟩ := hP
      refine ⟨ob, ?_⟩
      intro h19 e_h19
      have hP := hP h19 e_h19
      have hf := zF.w hf e_h19 (by decide) (by decide)
      obtain ⟨ob, hP⟩ := hP
      refine ⟨ob, ?_⟩
      obtain ⟨ob, hP⟩ := hP
      refine ⟨ob, ?_⟩
      obtain ⟨ob, hP⟩ := hP
      refine ⟨ob, ?_⟩
      obtain ⟨ob, hP⟩ := hP
      refine ⟨ob, ?_⟩
      intro h20 e_h20
      have hP := hP h20 e_h20
      have hf := zF.w hf e_h20 (by decide) (by decide)
      refine F_M_become hf hP (fun r21 h22 hP hf => ?_)
      exact hq _ _ hP hf
theorem F_M_oneTurn_J146 {y1 y2 y3 : Int} {h0 h : zH} {Q' Q : Int → zH → Prop} (hf : zF 101 175 h0 h) (hP : P_M_oneTurn_J146 y1 y2 y3 h Q') (hq : ∀ r h', Q' r h' → zF 101 175 h0 h' → Q r h') : P_M_oneTurn_J146 y1 y2 y3 h Q := by
  unfold P_M_oneTurn_J146 at hP ⊢
  refine zif_i (fun c => ?_) (fun c => ?_)
  · have hP := zif_p hP c
    refine F_M_endAsked hf hP (fun r25 h26 hP hf => ?_)
    exact hq _ _ hP hf
  · have hP := zif_n hP c
    refine zif_i (fun c => ?_) (fun c => ?_)
    · have hP := zif_p hP c
      refine F_M_heaviest hf hP (fun r23 h24 hP hf => ?_)
      refine F_M_oneTurn_J168 hf hP hq
    · have hP := zif_n hP c
      refine F_M_oneTurn_J168 hf hP hq
theorem F_M_oneTurn_J67 {y1 : Int} {h0 h : zH} {Q' Q : Int → zH → Prop} (hf : zF 101 175 h0 h) (hP : P_M_oneTurn_J67 y1 h Q') (hq : ∀ r h', Q' r h' → zF 101 175 h0 h' → Q r h') : P_M_oneTurn_J67 y1 h Q := by
  unfold P_M_oneTurn_J67 at hP ⊢
  refine zif_i (fun c => ?_) (fun c => ?_)
  · have hP := zif_p hP c
    obtain ⟨n104, hP⟩ := hP
    refine ⟨n104, ?_⟩
    refine F_M_oneTurn_L104 hq (fun u2_146 u3_146 h15 hP hf => ?_) _ _ _ _ _ hf hP
    refine F_M_oneTurn_J146 hf hP hq
  · have hP := zif_n hP c
    obtain ⟨ob, hP⟩ := hP
    refine ⟨ob, ?_⟩
    refine zif_i (fun c => ?_) (fun c => ?_)
    · have hP := zif_p hP c
      refine F_M_endLow hf hP (fun r29 h30 hP hf => ?_)
      exact hq _ _ hP hf
    · have hP := zif_n hP c
      refine F_M_learn hf hP (fun r27 h28 hP hf => ?_)
      exact hq _ _ hP hf
theorem F_M_oneTurn {a1 : Int} {h0 h : zH} {Q' Q : Int → zH → Prop} (hf : zF 101 175 h0 h) (hP : P_M_oneTurn a1 h Q') (hq : ∀ r h', Q' r h' → zF 101 175 h0 h' → Q r h') : P_M_oneTurn a1 h Q := by
  unfold P_M_oneTurn at hP ⊢
  refine F_M_find hf hP (fun r1 h2 hP hf => ?_)
  obtain ⟨n5, hP⟩ := hP
  refine ⟨n5, ?_⟩
  refine F_M_oneTurn_L5 hq (fun h10 hP hf => ?_) _ _ hf hP
  refine F_M_oneTurn_J67 hf hP hq
theorem F_M_solving_L3 {y1 : Int} {h0 : zH} {Q' Q : Int → zH → Prop} (hq : ∀ r h', Q' r h' → zF 101 175 h0 h' → Q r h') : ∀ (n3 : Nat) (y2 : Int) (h : zH), zF 101 175 h0 h → P_M_solving_L3 y1 Q' n3 y2 h → P_M_solving_L3 y1 Q n3 y2 h := by
  intro n3
  induction n3 with
  | zero => intro y2 h hf hP; exact absurd hP id
  | succ n3 ih =>
    intro y2 h hf hP
    unfold P_M_solving_L3 at hP ⊢
    refine zif_i (fun c => ?_) (fun c => ?_)
    · have hP := zif_p hP c
      refine F_M_oneTurn hf hP (fun r1 h2 hP hf => ?_)
      exact ih _ _ hf hP
    · have hP := zif_n hP c
      exact hq _ _ hP hf
theorem F_M_solving {a1 : Int} {h0 h : zH} {Q' Q : Int → zH → Prop} (hf : zF 101 175 h0 h) (hP : P_M_solving a1 h Q') (hq : ∀ r h', Q' r h' → zF 101 175 h0 h' → Q r h') : P_M_solving a1 h Q := by
  unfold P_M_solving at hP ⊢
  obtain ⟨n3, hP⟩ := hP
  refine ⟨n3, ?_⟩
  refine F_M_solving_L3 hq _ _ _ hf hP
theorem F_M_ended_L25 {y1 : Int} {h0 : zH} {Q' Q : Int → zH → Prop} (hq : ∀ r h', Q' r h' → zF 101 175 h0 h' → Q r h') : ∀ (n25 : Nat) (y2 : Int) (h : zH), zF 101 175 h0 h → P_M_ended_L25 y1 Q' n25 y2 h → P_M_ended_L25 y1 Q n25 y2 h := by
  intro n25
  induction n25 with
  | zero => intro y2 h hf hP; exact absurd hP id
  | succ n25 ih =>
    intro y2 h hf hP
    unfold P_M_ended_L25 at hP ⊢
    refine zif_i (fun c => ?_) (fun c => ?_)
    · have hP := zif_p hP c
      exact hq _ _ hP hf
    · have hP := zif_n hP c
      refine zif_i (fun c => ?_) (fun c => ?_)
      · have hP := zif_p hP c
        obtain ⟨ob, hP⟩ := hP
        refine ⟨ob, ?_⟩
        obtain ⟨ob, hP⟩ := hP
        refine ⟨ob, ?_⟩
        intro h3 e_h3
        have hP := hP h3 e_h3
        have hf := zF.w hf e_h3 (by decide) (by decide)
        intro x2_4 e_x2_4
        have hP := hP x2_4 e_x2_4
        exact ih _ _ hf hP
      · have hP := zif_n hP c
        exact hq _ _ hP hf
theorem F_M_ended_J20 {y1 s0 : Int} {h0 h : zH} {Q' Q : Int → zH → Prop} (hf : zF 101 175 h0 h) (hP : P_M_ended_J20 y1 s0 h Q') (hq : ∀ r h', Q' r h' → zF 101 175 h0 h' → Q r h') : P_M_ended_J20 y1 s0 h Q := by
  unfold P_M_ended_J20 at hP ⊢
  obtain ⟨ob, hP⟩ := hP
  refine ⟨ob, ?_⟩
  intro h2 e_h2
  have hP := hP h2 e_h2
  have hf := zF.w hf e_h2 (by decide) (by decide)
  obtain ⟨n25, hP⟩ := hP
  refine ⟨n25, ?_⟩
  refine F_M_ended_L25 hq _ _ _ hf hP
theorem F_M_ended {a1 : Int} {h0 h : zH} {Q' Q : Int → zH → Prop} (hf : zF 101 175 h0 h) (hP : P_M_ended a1 h Q') (hq : ∀ r h', Q' r h' → zF 101 175 h0 h' → Q r h') : P_M_ended a1 h Q := by
  unfold P_M_ended at hP ⊢
  intro h1 e_h1
  have hP := hP h1 e_h1
  have hf := zF.w hf e_h1 (by decide) (by decide)
  refine F_M_ended_J20 hf hP hq
theorem F_M_solve {a1 : Int} {h0 h : zH} {Q' Q : Int → zH → Prop} (hf : zF 101 175 h0 h) (hP : P_M_solve a1 h Q') (hq : ∀ r h', Q' r h' → zF 101 175 h0 h' → Q r h') : P_M_solve a1 h Q := by
  unfold P_M_solve at hP ⊢
  refine F_M_areSteps hf hP (fun r1 h2 hP hf => ?_)
  refine zif_i (fun c => ?_) (fun c => ?_)
  · have hP := zif_p hP c
    refine F_M_fail hf hP (fun r15 h16 hP hf => ?_)
    exact hq _ _ hP hf
  · have hP := zif_n hP c
    refine F_M_prepare hf hP (fun r3 h4 hP hf => ?_)
    refine F_M_askAll hf hP (fun r5 h6 hP hf => ?_)
    intro h7 e_h7
    have hP := hP h7 e_h7
    have hf := zF.w hf e_h7 (by decide) (by decide)
    intro h8 e_h8
    have hP := hP h8 e_h8
    have hf := zF.w hf e_h8 (by decide) (by decide)
    intro h9 e_h9
    have hP := hP h9 e_h9
    have hf := zF.w hf e_h9 (by decide) (by decide)
    intro h10 e_h10
    have hP := hP h10 e_h10
    have hf := zF.w hf e_h10 (by decide) (by decide)
    refine F_M_solving hf hP (fun r11 h12 hP hf => ?_)
    refine F_M_ended hf hP (fun r13 h14 hP hf => ?_)
    exact hq _ _ hP hf
theorem F_M_goOn {a1 : Int} {h0 h : zH} {Q' Q : Int → zH → Prop} (hf : zF 101 175 h0 h) (hP : P_M_goOn a1 h Q') (hq : ∀ r h', Q' r h' → zF 101 175 h0 h' → Q r h') : P_M_goOn a1 h Q := by
  unfold P_M_goOn at hP ⊢
  refine F_M_areSteps hf hP (fun r1 h2 hP hf => ?_)
  refine zif_i (fun c => ?_) (fun c => ?_)
  · have hP := zif_p hP c
    refine F_M_fail hf hP (fun r10 h11 hP hf => ?_)
    exact hq _ _ hP hf
  · have hP := zif_n hP c
    refine zif_i (fun c => ?_) (fun c => ?_)
    · have hP := zif_p hP c
      refine F_M_fail hf hP (fun r8 h9 hP hf => ?_)
      exact hq _ _ hP hf
    · have hP := zif_n hP c
      intro h3 e_h3
      have hP := hP h3 e_h3
      have hf := zF.w hf e_h3 (by decide) (by decide)
      refine F_M_solving hf hP (fun r4 h5 hP hf => ?_)
      refine F_M_ended hf hP (fun r6 h7 hP hf => ?_)
      exact hq _ _ hP hf
theorem F_M_truth {a1 : Int} {h0 h : zH} {Q' Q : Int → zH → Prop} (hf : zF 101 175 h0 h) (hP : P_M_truth a1 h Q') (hq : ∀ r h', Q' r h' → zF 101 175 h0 h' → Q r h') : P_M_truth a1 h Q := by
  unfold P_M_truth at hP ⊢
  refine F_M_isName hf hP (fun r1 h2 hP hf => ?_)
  refine zif_i (fun c => ?_) (fun c => ?_)
  · have hP := zif_p hP c
    refine F_M_fail hf hP (fun r5 h6 hP hf => ?_)
    exact hq _ _ hP hf
  · have hP := zif_n hP c
    refine zif_i (fun c => ?_) (fun c => ?_)
    · have hP := zif_p hP c
      obtain ⟨ob, hP⟩ := hP
      refine ⟨ob, ?_⟩
      exact hq _ _ hP hf
    · have hP := zif_n hP c
      refine F_M_fail hf hP (fun r3 h4 hP hf => ?_)
      exact hq _ _ hP hf
theorem F_M_solved {a1 : Int} {h0 h : zH} {Q' Q : Int → zH → Prop} (hf : zF 101 175 h0 h) (hP : P_M_solved a1 h Q') (hq : ∀ r h', Q' r h' → zF 101 175 h0 h' → Q r h') : P_M_solved a1 h Q := by
  unfold P_M_solved at hP ⊢
  refine F_M_in hf hP (fun r1 h2 hP hf => ?_)
  refine zif_i (fun c => ?_) (fun c => ?_)
  · have hP := zif_p hP c
    refine F_M_fail hf hP (fun r5 h6 hP hf => ?_)
    exact hq _ _ hP hf
  · have hP := zif_n hP c
    refine zif_i (fun c => ?_) (fun c => ?_)
    · have hP := zif_p hP c
      exact hq _ _ hP hf
    · have hP := zif_n hP c
      refine zif_i (fun c => ?_) (fun c => ?_)
      · have hP := zif_p hP c
        refine F_M_thereOf hf hP (fun r3 h4 hP hf => ?_)
        exact hq _ _ hP hf
      · have hP := zif_n hP c
        obtain ⟨ob, hP⟩ := hP
        refine ⟨ob, ?_⟩
        exact hq _ _ hP hf
theorem F_M_quarrel {a1 : Int} {h0 h : zH} {Q' Q : Int → zH → Prop} (hf : zF 101 175 h0 h) (hP : P_M_quarrel a1 h Q') (hq : ∀ r h', Q' r h' → zF 101 175 h0 h' → Q r h') : P_M_quarrel a1 h Q := by
  unfold P_M_quarrel at hP ⊢
  refine F_M_in hf hP (fun r1 h2 hP hf => ?_)
  refine zif_i (fun c => ?_) (fun c => ?_)
  · have hP := zif_p hP c
    refine F_M_fail hf hP (fun r3 h4 hP hf => ?_)
    exact hq _ _ hP hf
  · have hP := zif_n hP c
    obtain ⟨ob, hP⟩ := hP
    refine ⟨ob, ?_⟩
    exact hq _ _ hP hf
theorem F_M_hasCore {h0 h : zH} {Q' Q : Int → zH → Prop} (hf : zF 101 175 h0 h) (hP : P_M_hasCore h Q') (hq : ∀ r h', Q' r h' → zF 101 175 h0 h' → Q r h') : P_M_hasCore h Q := by
  unfold P_M_hasCore at hP ⊢
  exact hq _ _ hP hf
theorem F_M_core {a1 : Int} {h0 h : zH} {Q' Q : Int → zH → Prop} (hf : zF 101 175 h0 h) (hP : P_M_core a1 h Q') (hq : ∀ r h', Q' r h' → zF 101 175 h0 h' → Q r h') : P_M_core a1 h Q := by
  unfold P_M_core at hP ⊢
  refine F_M_in hf hP (fun r1 h2 hP hf => ?_)
  refine zif_i (fun c => ?_) (fun c => ?_)
  · have hP := zif_p hP c
    refine F_M_fail hf hP (fun r7 h8 hP hf => ?_)
    exact hq _ _ hP hf
  · have hP := zif_n hP c
    refine F_M_hasCore hf hP (fun r3 h4 hP hf => ?_)
    refine zif_i (fun c => ?_) (fun c => ?_)
    · have hP := zif_p hP c
      refine F_M_fail hf hP (fun r5 h6 hP hf => ?_)
      exact hq _ _ hP hf
    · have hP := zif_n hP c
      exact hq _ _ hP hf
theorem F_M_coreAt {a1 a2 : Int} {h0 h : zH} {Q' Q : Int → zH → Prop} (hf : zF 101 175 h0 h) (hP : P_M_coreAt a1 a2 h Q') (hq : ∀ r h', Q' r h' → zF 101 175 h0 h' → Q r h') : P_M_coreAt a1 a2 h Q := by
  unfold P_M_coreAt at hP ⊢
  refine F_M_core hf hP (fun r1 h2 hP hf => ?_)
  refine zif_i (fun c => ?_) (fun c => ?_)
  · have hP := zif_p hP c
    refine F_M_in hf hP (fun r3 h4 hP hf => ?_)
    obtain ⟨ob, hP⟩ := hP
    refine ⟨ob, ?_⟩
    exact hq _ _ hP hf
  · have hP := zif_n hP c
    exact hq _ _ hP hf
theorem F_M_tried_L8 {y1 y2 y3 : Int} {h0 : zH} {Q' Q : Int → zH → Prop} {k34' k34 : zH → Prop} (hq : ∀ r h', Q' r h' → zF 101 175 h0 h' → Q r h') (hk34 : ∀ h', k34' h' → zF 101 175 h0 h' → k34 h') : ∀ (n8 : Nat) (y4 : Int) (h : zH), zF 101 175 h0 h → P_M_tried_L8 y1 y2 y3 Q' k34' n8 y4 h → P_M_tried_L8 y1 y2 y3 Q k34 n8 y4 h := by
  intro n8
  induction n8 with
  | zero => intro y4 h hf hP; exact absurd hP id
  | succ n8 ih =>
    intro y4 h hf hP
    unfold P_M_tried_L8 at hP ⊢
    refine zif_i (fun c => ?_) (fun c => ?_)
    · have hP := zif_p hP c
      exact hk34 _ hP hf
    · have hP := zif_n hP c
      obtain ⟨ob, hP⟩ := hP
      refine ⟨ob, ?_⟩
      intro h3 e_h3
      have hP := hP h3 e_h3
      have hf := zF.w hf e_h3 (by decide) (by decide)
      intro x4_4 e_x4_4
      have hP := hP x4_4 e_x4_4
      exact ih _ _ hf hP
theorem F_M_tried_J86 {y1 y2 y3 y4 s0 s1 : Int} {h0 h : zH} {Q' Q : Int → zH → Prop} {k37' k37 : Int → zH → Prop} (hf : zF 101 175 h0 h) (hP : P_M_tried_J86 y1 y2 y3 y4 s0 s1 h Q' k37') (hq : ∀ r h', Q' r h' → zF 101 175 h0 h' → Q r h') (hk37 : ∀ v0 h', k37' v0 h' → zF 101 175 h0 h' → k37 v0 h') : P_M_tried_J86 y1 y2 y3 y4 s0 s1 h Q k37 := by
  unfold P_M_tried_J86 at hP ⊢
  obtain ⟨ob, hP⟩ := hP
  refine ⟨ob, ?_⟩
  intro h6 e_h6
  have hP := hP h6 e_h6
  have hf := zF.w hf e_h6 (by decide) (by decide)
  intro x4_7 e_x4_7
  have hP := hP x4_7 e_x4_7
  exact hk37 _ _ hP hf
theorem F_M_tried_L37 {y1 y2 y3 : Int} {h0 : zH} {Q' Q : Int → zH → Prop} {k93' k93 : zH → Prop} (hq : ∀ r h', Q' r h' → zF 101 175 h0 h' → Q r h') (hk93 : ∀ h', k93' h' → zF 101 175 h0 h' → k93 h') : ∀ (n37 : Nat) (y4 : Int) (h : zH), zF 101 175 h0 h → P_M_tried_L37 y1 y2 y3 Q' k93' n37 y4 h → P_M_tried_L37 y1 y2 y3 Q k93 n37 y4 h := by
  intro n37
  induction n37 with
  | zero => intro y4 h hf hP; exact absurd hP id
  | succ n37 ih =>
    intro y4 h hf hP
    unfold P_M_tried_L37 at hP ⊢
    refine zif_i (fun c => ?_) (fun c => ?_)
    · have hP := zif_p hP c
      exact hk93 _ hP hf
    · have hP := zif_n hP c
      obtain ⟨ob, hP⟩ := hP
      refine ⟨ob, ?_⟩
      refine F_M_tried_J86 hf hP hq (fun v0 h' hP hf => ih v0 h' hf hP)
theorem F_M_tried_J142 {y2 y4 : Int} {h0 h : zH} {Q' Q : Int → zH → Prop} {k96' k96 : Int → zH → Prop} (hf : zF 101 175 h0 h) (hP : P_M_tried_J142 y2 y4 h Q' k96') (hq : ∀ r h', Q' r h' → zF 101 175 h0 h' → Q r h') (hk96 : ∀ v0 h', k96' v0 h' → zF 101 175 h0 h' → k96 v0 h') : P_M_tried_J142 y2 y4 h Q k96 := by
  unfold P_M_tried_J142 at hP ⊢
  intro x4_11 e_x4_11
  have hP := hP x4_11 e_x4_11
  exact hk96 _ _ hP hf
theorem F_M_tried_L96 {y2 : Int} {h0 : zH} {Q' Q : Int → zH → Prop} (hq : ∀ r h', Q' r h' → zF 101 175 h0 h' → Q r h') : ∀ (n96 : Nat) (y4 : Int) (h : zH), zF 101 175 h0 h → P_M_tried_L96 y2 Q' n96 y4 h → P_M_tried_L96 y2 Q n96 y4 h := by
  intro n96
  induction n96 with
  | zero => intro y4 h hf hP; exact absurd hP id
  | succ n96 ih =>
    intro y4 h hf hP
    unfold P_M_tried_L96 at hP ⊢
    refine zif_i (fun c => ?_) (fun c => ?_)
    · have hP := zif_p hP c
      refine F_M_solving hf hP (fun r9 h10 hP hf => ?_)
      exact hq _ _ hP hf
    · have hP := zif_n hP c
      refine zif_i (fun c => ?_) (fun c => ?_)
      · have hP := zif_p hP c
        refine F_M_tried_J142 hf hP hq (fun v0 h' hP hf => ih v0 h' hf hP)
      · have hP := zif_n hP c
        obtain ⟨ob, hP⟩ := hP
        refine ⟨ob, ?_⟩
        obtain ⟨ob, hP⟩ := hP
        refine ⟨ob, ?_⟩
        intro h12 e_h12
        have hP := hP h12 e_h12
        have hf := zF.w hf e_h12 (by decide) (by decide)
        intro h13 e_h13
        have hP := hP h13 e_h13
        have hf := zF.w hf e_h13 (by decide) (by decide)
        refine F_M_tried_J142 hf hP hq (fun v0 h' hP hf => ih v0 h' hf hP)
theorem F_M_tried {a1 a2 a3 : Int} {h0 h : zH} {Q' Q : Int → zH → Prop} (hf : zF 101 175 h0 h) (hP : P_M_tried a1 a2 a3 h Q') (hq : ∀ r h', Q' r h' → zF 101 175 h0 h' → Q r h') : P_M_tried a1 a2 a3 h Q := by
  unfold P_M_tried at hP ⊢
  refine F_M_prepare hf hP (fun r1 h2 hP hf => ?_)
  obtain ⟨n8, hP⟩ := hP
  refine ⟨n8, ?_⟩
  refine F_M_tried_L8 hq (fun h5 hP hf => ?_) _ _ _ hf hP
  obtain ⟨n37, hP⟩ := hP
  refine ⟨n37, ?_⟩
  refine F_M_tried_L37 hq (fun h8 hP hf => ?_) _ _ _ hf hP
  obtain ⟨n96, hP⟩ := hP
  refine ⟨n96, ?_⟩
  refine F_M_tried_L96 hq _ _ _ hf hP
theorem F_M_shrink_J117 {y2 : Int} {h0 h : zH} {Q' Q : Int → zH → Prop} {k37' k37 : Int → zH → Prop} (hf : zF 101 175 h0 h) (hP : P_M_shrink_J117 y2 h Q' k37') (hq : ∀ r h', Q' r h' → zF 101 175 h0 h' → Q r h') (hk37 : ∀ v0 h', k37' v0 h' → zF 101 175 h0 h' → k37 v0 h') : P_M_shrink_J117 y2 h Q k37 := by
  unfold P_M_shrink_J117 at hP ⊢
  exact hk37 _ _ hP hf
theorem F_M_shrink_L80 {y2 : Int} {h0 : zH} {Q' Q : Int → zH → Prop} {k111' k111 : zH → Prop} (hq : ∀ r h', Q' r h' → zF 101 175 h0 h' → Q r h') (hk111 : ∀ h', k111' h' → zF 101 175 h0 h' → k111 h') : ∀ (n80 : Nat) (y4 : Int) (h : zH), zF 101 175 h0 h → P_M_shrink_L80 y2 Q' k111' n80 y4 h → P_M_shrink_L80 y2 Q k111 n80 y4 h := by
  intro n80
  induction n80 with
  | zero => intro y4 h hf hP; exact absurd hP id
  | succ n80 ih =>
    intro y4 h hf hP
    unfold P_M_shrink_L80 at hP ⊢
    refine zif_i (fun c => ?_) (fun c => ?_)
    · have hP := zif_p hP c
      exact hk111 _ hP hf
    · have hP := zif_n hP c
      obtain ⟨ob, hP⟩ := hP
      refine ⟨ob, ?_⟩
      obtain ⟨ob, hP⟩ := hP
      refine ⟨ob, ?_⟩
      intro h10 e_h10
      have hP := hP h10 e_h10
      have hf := zF.w hf e_h10 (by decide) (by decide)
      intro x4_11 e_x4_11
      have hP := hP x4_11 e_x4_11
      exact ih _ _ hf hP
theorem F_M_shrink_L37 {h0 : zH} {Q' Q : Int → zH → Prop} {k120' k120 : zH → Prop} (hq : ∀ r h', Q' r h' → zF 101 175 h0 h' → Q r h') (hk120 : ∀ h', k120' h' → zF 101 175 h0 h' → k120 h') : ∀ (n37 : Nat) (y2 : Int) (h : zH), zF 101 175 h0 h → P_M_shrink_L37 Q' k120' n37 y2 h → P_M_shrink_L37 Q k120 n37 y2 h := by
  intro n37
  induction n37 with
  | zero => intro y2 h hf hP; exact absurd hP id
  | succ n37 ih =>
    intro y2 h hf hP
    unfold P_M_shrink_L37 at hP ⊢
    refine zif_i (fun c => ?_) (fun c => ?_)
    · have hP := zif_p hP c
      exact hk120 _ hP hf
    · have hP := zif_n hP c
      refine F_M_tried hf hP (fun r6 h7 hP hf => ?_)
      refine zif_i (fun c => ?_) (fun c => ?_)
      · have hP := zif_p hP c
        refine zif_i (fun c => ?_) (fun c => ?_)
        · have hP := zif_p hP c
          intro h9 e_h9
          have hP := hP h9 e_h9
          have hf := zF.w hf e_h9 (by decide) (by decide)
          obtain ⟨n80, hP⟩ := hP
          refine ⟨n80, ?_⟩
          refine F_M_shrink_L80 hq (fun h12 hP hf => ?_) _ _ _ hf hP
          refine F_M_shrink_J117 hf hP hq (fun v0 h' hP hf => ih v0 h' hf hP)
        · have hP := zif_n hP c
          intro x2_8 e_x2_8
          have hP := hP x2_8 e_x2_8
          refine F_M_shrink_J117 hf hP hq (fun v0 h' hP hf => ih v0 h' hf hP)
      · have hP := zif_n hP c
        exact hq _ _ hP hf
theorem F_M_shrink_J202 {y2 : Int} {h0 h : zH} {Q' Q : Int → zH → Prop} {k122' k122 : Int → zH → Prop} (hf : zF 101 175 h0 h) (hP : P_M_shrink_J202 y2 h Q' k122') (hq : ∀ r h', Q' r h' → zF 101 175 h0 h' → Q r h') (hk122 : ∀ v0 h', k122' v0 h' → zF 101 175 h0 h' → k122 v0 h') : P_M_shrink_J202 y2 h Q k122 := by
  unfold P_M_shrink_J202 at hP ⊢
  exact hk122 _ _ hP hf
theorem F_M_shrink_L165 {y2 : Int} {h0 : zH} {Q' Q : Int → zH → Prop} {k196' k196 : zH → Prop} (hq : ∀ r h', Q' r h' → zF 101 175 h0 h' → Q r h') (hk196 : ∀ h', k196' h' → zF 101 175 h0 h' → k196 h') : ∀ (n165 : Nat) (y4 : Int) (h : zH), zF 101 175 h0 h → P_M_shrink_L165 y2 Q' k196' n165 y4 h → P_M_shrink_L165 y2 Q k196 n165 y4 h := by
  intro n165
  induction n165 with
  | zero => intro y4 h hf hP; exact absurd hP id
  | succ n165 ih =>
    intro y4 h hf hP
    unfold P_M_shrink_L165 at hP ⊢
    refine zif_i (fun c => ?_) (fun c => ?_)
    · have hP := zif_p hP c
      exact hk196 _ hP hf
    · have hP := zif_n hP c
      obtain ⟨ob, hP⟩ := hP
      refine ⟨ob, ?_⟩
      obtain ⟨ob, hP⟩ := hP
      refine ⟨ob, ?_⟩
      intro h18 e_h18
      have hP := hP h18 e_h18
      have hf := zF.w hf e_h18 (by decide) (by decide)
      intro x4_19 e_x4_19
      have hP := hP x4_19 e_x4_19
      exact ih _ _ hf hP
theorem F_M_shrink_L122 {h0 : zH} {Q' Q : Int → zH → Prop} (hq : ∀ r h', Q' r h' → zF 101 175 h0 h' → Q r h') : ∀ (n122 : Nat) (y2 : Int) (h : zH), zF 101 175 h0 h → P_M_shrink_L122 Q' n122 y2 h → P_M_shrink_L122 Q n122 y2 h := by
  intro n122
  induction n122 with
  | zero => intro y2 h hf hP; exact absurd hP id
  | succ n122 ih =>
    intro y2 h hf hP
    unfold P_M_shrink_L122 at hP ⊢
    refine zif_i (fun c => ?_) (fun c => ?_)
    · have hP := zif_p hP c
      exact hq _ _ hP hf
    · have hP := zif_n hP c
      refine F_M_tried hf hP (fun r14 h15 hP hf => ?_)
      refine zif_i (fun c => ?_) (fun c => ?_)
      · have hP := zif_p hP c
        refine zif_i (fun c => ?_) (fun c => ?_)
        · have hP := zif_p hP c
          intro h17 e_h17
          have hP := hP h17 e_h17
          have hf := zF.w hf e_h17 (by decide) (by decide)
          obtain ⟨n165, hP⟩ := hP
          refine ⟨n165, ?_⟩
          refine F_M_shrink_L165 hq (fun h20 hP hf => ?_) _ _ _ hf hP
          refine F_M_shrink_J202 hf hP hq (fun v0 h' hP hf => ih v0 h' hf hP)
        · have hP := zif_n hP c
          intro x2_16 e_x2_16
          have hP := hP x2_16 e_x2_16
          refine F_M_shrink_J202 hf hP hq (fun v0 h' hP hf => ih v0 h' hf hP)
      · have hP := zif_n hP c
        exact hq _ _ hP hf
theorem F_M_shrink {a1 : Int} {h0 h : zH} {Q' Q : Int → zH → Prop} (hf : zF 101 175 h0 h) (hP : P_M_shrink a1 h Q') (hq : ∀ r h', Q' r h' → zF 101 175 h0 h' → Q r h') : P_M_shrink a1 h Q := by
  unfold P_M_shrink at hP ⊢
  refine F_M_areSteps hf hP (fun r1 h2 hP hf => ?_)
  refine zif_i (fun c => ?_) (fun c => ?_)
  · have hP := zif_p hP c
    refine F_M_fail hf hP (fun r23 h24 hP hf => ?_)
    exact hq _ _ hP hf
  · have hP := zif_n hP c
    refine F_M_hasCore hf hP (fun r3 h4 hP hf => ?_)
    refine zif_i (fun c => ?_) (fun c => ?_)
    · have hP := zif_p hP c
      refine F_M_fail hf hP (fun r21 h22 hP hf => ?_)
      exact hq _ _ hP hf
    · have hP := zif_n hP c
      intro h5 e_h5
      have hP := hP h5 e_h5
      have hf := zF.w hf e_h5 (by decide) (by decide)
      obtain ⟨n37, hP⟩ := hP
      refine ⟨n37, ?_⟩
      refine F_M_shrink_L37 hq (fun h13 hP hf => ?_) _ _ _ hf hP
      obtain ⟨n122, hP⟩ := hP
      refine ⟨n122, ?_⟩
      refine F_M_shrink_L122 hq _ _ _ hf hP
theorem F_M_bitsOf_L4 {y0 : Int} {h0 : zH} {Q' Q : Int → zH → Prop} (hq : ∀ r h', Q' r h' → zF 101 175 h0 h' → Q r h') : ∀ (n4 : Nat) (y1 y2 : Int) (h : zH), zF 101 175 h0 h → P_M_bitsOf_L4 y0 Q' n4 y1 y2 h → P_M_bitsOf_L4 y0 Q n4 y1 y2 h := by
  intro n4
  induction n4 with
  | zero => intro y1 y2 h hf hP; exact absurd hP id
  | succ n4 ih =>
    intro y1 y2 h hf hP
    unfold P_M_bitsOf_L4 at hP ⊢
    refine zif_i (fun c => ?_) (fun c => ?_)
    · have hP := zif_p hP c
      exact hq _ _ hP hf
    · have hP := zif_n hP c
      intro x1_1 e_x1_1
      have hP := hP x1_1 e_x1_1
      intro x2_2 e_x2_2
      have hP := hP x2_2 e_x2_2
      exact ih _ _ _ hf hP
theorem F_M_bitsOf {a1 : Int} {h0 h : zH} {Q' Q : Int → zH → Prop} (hf : zF 101 175 h0 h) (hP : P_M_bitsOf a1 h Q') (hq : ∀ r h', Q' r h' → zF 101 175 h0 h' → Q r h') : P_M_bitsOf a1 h Q := by
  unfold P_M_bitsOf at hP ⊢
  obtain ⟨n4, hP⟩ := hP
  refine ⟨n4, ?_⟩
  refine F_M_bitsOf_L4 hq _ _ _ _ hf hP
theorem F_M_least_J160 {y2 y3 : Int} {h0 h : zH} {Q' Q : Int → zH → Prop} {k56' k56 : Int → zH → Prop} (hf : zF 101 175 h0 h) (hP : P_M_least_J160 y2 y3 h Q' k56') (hq : ∀ r h', Q' r h' → zF 101 175 h0 h' → Q r h') (hk56 : ∀ v0 h', k56' v0 h' → zF 101 175 h0 h' → k56 v0 h') : P_M_least_J160 y2 y3 h Q k56 := by
  unfold P_M_least_J160 at hP ⊢
  intro x3_12 e_x3_12
  have hP := hP x3_12 e_x3_12
  exact hk56 _ _ hP hf
theorem F_M_least_L56 {y2 : Int} {h0 : zH} {Q' Q : Int → zH → Prop} {k103' k103 : Int → zH → Prop} {k166' k166 : zH → Prop} (hq : ∀ r h', Q' r h' → zF 101 175 h0 h' → Q r h') (hk103 : ∀ v0 h', k103' v0 h' → zF 101 175 h0 h' → k103 v0 h') (hk166 : ∀ h', k166' h' → zF 101 175 h0 h' → k166 h') : ∀ (n56 : Nat) (y3 : Int) (h : zH), zF 101 175 h0 h → P_M_least_L56 y2 Q' k103' k166' n56 y3 h → P_M_least_L56 y2 Q k103 k166 n56 y3 h := by
  intro n56
  induction n56 with
  | zero => intro y3 h hf hP; exact absurd hP id
  | succ n56 ih =>
    intro y3 h hf hP
    unfold P_M_least_L56 at hP ⊢
    refine zif_i (fun c => ?_) (fun c => ?_)
    · have hP := zif_p hP c
      exact hk166 _ hP hf
    · have hP := zif_n hP c
      refine F_M_bitsOf hf hP (fun r8 h9 hP hf => ?_)
      refine zif_i (fun c => ?_) (fun c => ?_)
      · have hP := zif_p hP c
        refine F_M_tried hf hP (fun r10 h11 hP hf => ?_)
        refine zif_i (fun c => ?_) (fun c => ?_)
        · have hP := zif_p hP c
          refine zif_i (fun c => ?_) (fun c => ?_)
          · have hP := zif_p hP c
            exact hk103 _ _ hP hf
          · have hP := zif_n hP c
            refine F_M_least_J160 hf hP hq (fun v0 h' hP hf => ih v0 h' hf hP)
        · have hP := zif_n hP c
          exact hq _ _ hP hf
      · have hP := zif_n hP c
        refine F_M_least_J160 hf hP hq (fun v0 h' hP hf => ih v0 h' hf hP)
theorem F_M_least_L46 {h0 : zH} {Q' Q : Int → zH → Prop} {k103' k103 : Int → zH → Prop} (hq : ∀ r h', Q' r h' → zF 101 175 h0 h' → Q r h') (hk103 : ∀ v0 h', k103' v0 h' → zF 101 175 h0 h' → k103 v0 h') : ∀ (n46 : Nat) (y2 : Int) (h : zH), zF 101 175 h0 h → P_M_least_L46 Q' k103' n46 y2 h → P_M_least_L46 Q k103 n46 y2 h := by
  intro n46
  induction n46 with
  | zero => intro y2 h hf hP; exact absurd hP id
  | succ n46 ih =>
    intro y2 h hf hP
    unfold P_M_least_L46 at hP ⊢
    refine zif_i (fun c => ?_) (fun c => ?_)
    · have hP := zif_p hP c
      exact hq _ _ hP hf
    · have hP := zif_n hP c
      obtain ⟨n56, hP⟩ := hP
      refine ⟨n56, ?_⟩
      refine F_M_least_L56 hq hk103 (fun h14 hP hf => ?_) _ _ _ hf hP
      intro x2_15 e_x2_15
      have hP := hP x2_15 e_x2_15
      exact ih _ _ hf hP
theorem F_M_least_J145 {y3 y5 y6 : Int} {h0 h : zH} {Q' Q : Int → zH → Prop} {k109' k109 : Int → Int → zH → Prop} (hf : zF 101 175 h0 h) (hP : P_M_least_J145 y3 y5 y6 h Q' k109') (hq : ∀ r h', Q' r h' → zF 101 175 h0 h' → Q r h') (hk109 : ∀ v0 v1 h', k109' v0 v1 h' → zF 101 175 h0 h' → k109 v0 v1 h') : P_M_least_J145 y3 y5 y6 h Q k109 := by
  unfold P_M_least_J145 at hP ⊢
  intro x6_18 e_x6_18
  have hP := hP x6_18 e_x6_18
  exact hk109 _ _ _ hP hf
theorem F_M_least_L109 {y3 : Int} {h0 : zH} {Q' Q : Int → zH → Prop} (hq : ∀ r h', Q' r h' → zF 101 175 h0 h' → Q r h') : ∀ (n109 : Nat) (y5 y6 : Int) (h : zH), zF 101 175 h0 h → P_M_least_L109 y3 Q' n109 y5 y6 h → P_M_least_L109 y3 Q n109 y5 y6 h := by
  intro n109
  induction n109 with
  | zero => intro y5 y6 h hf hP; exact absurd hP id
  | succ n109 ih =>
    intro y5 y6 h hf hP
    unfold P_M_least_L109 at hP ⊢
    refine zif_i (fun c => ?_) (fun c => ?_)
    · have hP := zif_p hP c
      intro h17 e_h17
      have hP := hP h17 e_h17
      have hf := zF.w hf e_h17 (by decide) (by decide)
      exact hq _ _ hP hf
    · have hP := zif_n hP c
      refine zif_i (fun c => ?_) (fun c => ?_)
      · have hP := zif_p hP c
        obtain ⟨ob, hP⟩ := hP
        refine ⟨ob, ?_⟩
        obtain ⟨ob, hP⟩ := hP
        refine ⟨ob, ?_⟩
        intro h19 e_h19
        have hP := hP h19 e_h19
        have hf := zF.w hf e_h19 (by decide) (by decide)
        intro x5_20 e_x5_20
        have hP := hP x5_20 e_x5_20
        refine F_M_least_J145 hf hP hq (fun v0 v1 h' hP hf => ih v0 v1 h' hf hP)
      · have hP := zif_n hP c
        refine F_M_least_J145 hf hP hq (fun v0 v1 h' hP hf => ih v0 v1 h' hf hP)
theorem F_M_least {a1 : Int} {h0 h : zH} {Q' Q : Int → zH → Prop} (hf : zF 101 175 h0 h) (hP : P_M_least a1 h Q') (hq : ∀ r h', Q' r h' → zF 101 175 h0 h' → Q r h') : P_M_least a1 h Q := by
  unfold P_M_least at hP ⊢
  refine F_M_areSteps hf hP (fun r1 h2 hP hf => ?_)
  refine zif_i (fun c => ?_) (fun c => ?_)
  · have hP := zif_p hP c
    refine F_M_fail hf hP (fun r23 h24 hP hf => ?_)
    exact hq _ _ hP hf
  · have hP := zif_n hP c
    refine F_M_hasCore hf hP (fun r3 h4 hP hf => ?_)
    refine zif_i (fun c => ?_) (fun c => ?_)
    · have hP := zif_p hP c
      refine F_M_fail hf hP (fun r5 h6 hP hf => ?_)
      exact hq _ _ hP hf
    · have hP := zif_n hP c
      refine zif_i (fun c => ?_) (fun c => ?_)
      · have hP := zif_p hP c
        intro h7 e_h7
        have hP := hP h7 e_h7
        have hf := zF.w hf e_h7 (by decide) (by decide)
        obtain ⟨n46, hP⟩ := hP
        refine ⟨n46, ?_⟩
        refine F_M_least_L46 hq (fun u3_103 h16 hP hf => ?_) _ _ _ hf hP
        obtain ⟨n109, hP⟩ := hP
        refine ⟨n109, ?_⟩
        refine F_M_least_L109 hq _ _ _ _ hf hP
      · have hP := zif_n hP c
        refine F_M_fail hf hP (fun r21 h22 hP hf => ?_)
        exact hq _ _ hP hf
theorem F_M_take_L27 {h0 : zH} {Q' Q : Int → zH → Prop} {k53' k53 : zH → Prop} (hq : ∀ r h', Q' r h' → zF 101 175 h0 h' → Q r h') (hk53 : ∀ h', k53' h' → zF 101 175 h0 h' → k53 h') : ∀ (n27 : Nat) (y1 : Int) (h : zH), zF 101 175 h0 h → P_M_take_L27 Q' k53' n27 y1 h → P_M_take_L27 Q k53 n27 y1 h := by
  intro n27
  induction n27 with
  | zero => intro y1 h hf hP; exact absurd hP id
  | succ n27 ih =>
    intro y1 h hf hP
    unfold P_M_take_L27 at hP ⊢
    refine zif_i (fun c => ?_) (fun c => ?_)
    · have hP := zif_p hP c
      exact hk53 _ hP hf
    · have hP := zif_n hP c
      obtain ⟨ob, hP⟩ := hP
      refine ⟨ob, ?_⟩
      obtain ⟨ob, hP⟩ := hP
      refine ⟨ob, ?_⟩
      intro h4 e_h4
      have hP := hP h4 e_h4
      have hf := zF.w hf e_h4 (by decide) (by decide)
      intro x1_5 e_x1_5
      have hP := hP x1_5 e_x1_5
      exact ih _ _ hf hP
theorem F_M_take_L55 {h0 : zH} {Q' Q : Int → zH → Prop} (hq : ∀ r h', Q' r h' → zF 101 175 h0 h' → Q r h') : ∀ (n55 : Nat) (y1 : Int) (h : zH), zF 101 175 h0 h → P_M_take_L55 Q' n55 y1 h → P_M_take_L55 Q n55 y1 h := by
  intro n55
  induction n55 with
  | zero => intro y1 h hf hP; exact absurd hP id
  | succ n55 ih =>
    intro y1 h hf hP
    unfold P_M_take_L55 at hP ⊢
    obtain ⟨ob, hP⟩ := hP
    refine ⟨ob, ?_⟩
    refine zif_i (fun c => ?_) (fun c => ?_)
    · have hP := zif_p hP c
      exact hq _ _ hP hf
    · have hP := zif_n hP c
      obtain ⟨ob, hP⟩ := hP
      refine ⟨ob, ?_⟩
      obtain ⟨ob, hP⟩ := hP
      refine ⟨ob, ?_⟩
      intro h7 e_h7
      have hP := hP h7 e_h7
      have hf := zF.w hf e_h7 (by decide) (by decide)
      intro x1_8 e_x1_8
      have hP := hP x1_8 e_x1_8
      exact ih _ _ hf hP
theorem F_M_take {h0 h : zH} {Q' Q : Int → zH → Prop} (hf : zF 101 175 h0 h) (hP : P_M_take h Q') (hq : ∀ r h', Q' r h' → zF 101 175 h0 h' → Q r h') : P_M_take h Q := by
  unfold P_M_take at hP ⊢
  refine F_M_hasCore hf hP (fun r1 h2 hP hf => ?_)
  refine zif_i (fun c => ?_) (fun c => ?_)
  · have hP := zif_p hP c
    refine F_M_fail hf hP (fun r9 h10 hP hf => ?_)
    exact hq _ _ hP hf
  · have hP := zif_n hP c
    intro h3 e_h3
    have hP := hP h3 e_h3
    have hf := zF.w hf e_h3 (by decide) (by decide)
    obtain ⟨n27, hP⟩ := hP
    refine ⟨n27, ?_⟩
    refine F_M_take_L27 hq (fun h6 hP hf => ?_) _ _ _ hf hP
    obtain ⟨n55, hP⟩ := hP
    refine ⟨n55, ?_⟩
    refine F_M_take_L55 hq _ _ _ hf hP
theorem F_M_claim_L38 {h0 : zH} {Q' Q : Int → zH → Prop} {k62' k62 : zH → Prop} (hq : ∀ r h', Q' r h' → zF 101 175 h0 h' → Q r h') (hk62 : ∀ h', k62' h' → zF 101 175 h0 h' → k62 h') : ∀ (n38 : Nat) (y3 : Int) (h : zH), zF 101 175 h0 h → P_M_claim_L38 Q' k62' n38 y3 h → P_M_claim_L38 Q k62 n38 y3 h := by
  intro n38
  induction n38 with
  | zero => intro y3 h hf hP; exact absurd hP id
  | succ n38 ih =>
    intro y3 h hf hP
    unfold P_M_claim_L38 at hP ⊢
    refine zif_i (fun c => ?_) (fun c => ?_)
    · have hP := zif_p hP c
      exact hk62 _ hP hf
    · have hP := zif_n hP c
      obtain ⟨ob, hP⟩ := hP
      refine ⟨ob, ?_⟩
      refine F_M_lay hf hP (fun r6 h7 hP hf => ?_)
      intro x3_8 e_x3_8
      have hP := hP x3_8 e_x3_8
      exact ih _ _ hf hP
theorem F_M_claim_L110 {y3 : Int} {h0 : zH} {Q' Q : Int → zH → Prop} {k146' k146 : zH → Prop} (hq : ∀ r h', Q' r h' → zF 101 175 h0 h' → Q r h') (hk146 : ∀ h', k146' h' → zF 101 175 h0 h' → k146 h') : ∀ (n110 : Nat) (y4 : Int) (h : zH), zF 101 175 h0 h → P_M_claim_L110 y3 Q' k146' n110 y4 h → P_M_claim_L110 y3 Q k146 n110 y4 h := by
  intro n110
  induction n110 with
  | zero => intro y4 h hf hP; exact absurd hP id
  | succ n110 ih =>
    intro y4 h hf hP
    unfold P_M_claim_L110 at hP ⊢
    refine zif_i (fun c => ?_) (fun c => ?_)
    · have hP := zif_p hP c
      exact hk146 _ hP hf
    · have hP := zif_n hP c
      obtain ⟨ob, hP⟩ := hP
      refine ⟨ob, ?_⟩
      obtain ⟨ob, hP⟩ := hP
      refine ⟨ob, ?_⟩
      obtain ⟨ob, hP⟩ := hP
      refine ⟨ob, ?_⟩
      intro h14 e_h14
      have hP := hP h14 e_h14
      have hf := zF.w hf e_h14 (by decide) (by decide)
      intro x4_15 e_x4_15
      have hP := hP x4_15 e_x4_15
      exact ih _ _ hf hP
theorem F_M_claim {a1 : Int} {h0 h : zH} {Q' Q : Int → zH → Prop} (hf : zF 101 175 h0 h) (hP : P_M_claim a1 h Q') (hq : ∀ r h', Q' r h' → zF 101 175 h0 h' → Q r h') : P_M_claim a1 h Q := by
  unfold P_M_claim at hP ⊢
  refine F_M_isRow hf hP (fun r1 h2 hP hf => ?_)
  refine zif_i (fun c => ?_) (fun c => ?_)
  · have hP := zif_p hP c
    refine F_M_fail hf hP (fun r23 h24 hP hf => ?_)
    exact hq _ _ hP hf
  · have hP := zif_n hP c
    refine F_M_takeItems hf hP (fun r3 h4 hP hf => ?_)
    refine zif_i (fun c => ?_) (fun c => ?_)
    · have hP := zif_p hP c
      intro h5 e_h5
      have hP := hP h5 e_h5
      have hf := zF.w hf e_h5 (by decide) (by decide)
      obtain ⟨n38, hP⟩ := hP
      refine ⟨n38, ?_⟩
      refine F_M_claim_L38 hq (fun h9 hP hf => ?_) _ _ _ hf hP
      intro x3_10 e_x3_10
      have hP := hP x3_10 e_x3_10
      intro h11 e_h11
      have hP := hP h11 e_h11
      have hf := zF.w hf e_h11 (by decide) (by decide)
      refine zif_i (fun c => ?_) (fun c => ?_)
      · have hP := zif_p hP c
        refine F_M_fail hf hP (fun r12 h13 hP hf => ?_)
        exact hq _ _ hP hf
      · have hP := zif_n hP c
        obtain ⟨ob, hP⟩ := hP
        refine ⟨ob, ?_⟩
        refine zif_i (fun c => ?_) (fun c => ?_)
        · have hP := zif_p hP c
          obtain ⟨n110, hP⟩ := hP
          refine ⟨n110, ?_⟩
          refine F_M_claim_L110 hq (fun h16 hP hf => ?_) _ _ _ hf hP
          obtain ⟨ob, hP⟩ := hP
          refine ⟨ob, ?_⟩
          obtain ⟨ob, hP⟩ := hP
          refine ⟨ob, ?_⟩
          intro h17 e_h17
          have hP := hP h17 e_h17
          have hf := zF.w hf e_h17 (by decide) (by decide)
          intro h18 e_h18
          have hP := hP h18 e_h18
          have hf := zF.w hf e_h18 (by decide) (by decide)
          exact hq _ _ hP hf
        · have hP := zif_n hP c
          refine F_M_fail hf hP (fun r19 h20 hP hf => ?_)
          exact hq _ _ hP hf
    · have hP := zif_n hP c
      refine F_M_fail hf hP (fun r21 h22 hP hf => ?_)
      exact hq _ _ hP hf
theorem F_M_strike_L41 {y1 y2 : Int} {h0 : zH} {Q' Q : Int → zH → Prop} {k76' k76 : zH → Prop} (hq : ∀ r h', Q' r h' → zF 101 175 h0 h' → Q r h') (hk76 : ∀ h', k76' h' → zF 101 175 h0 h' → k76 h') : ∀ (n41 : Nat) (y3 : Int) (h : zH), zF 101 175 h0 h → P_M_strike_L41 y1 y2 Q' k76' n41 y3 h → P_M_strike_L41 y1 y2 Q k76 n41 y3 h := by
  intro n41
  induction n41 with
  | zero => intro y3 h hf hP; exact absurd hP id
  | succ n41 ih =>
    intro y3 h hf hP
    unfold P_M_strike_L41 at hP ⊢
    obtain ⟨ob, hP⟩ := hP
    refine ⟨ob, ?_⟩
    refine zif_i (fun c => ?_) (fun c => ?_)
    · have hP := zif_p hP c
      exact hk76 _ hP hf
    · have hP := zif_n hP c
      obtain ⟨ob, hP⟩ := hP
      refine ⟨ob, ?_⟩
      obtain ⟨ob, hP⟩ := hP
      refine ⟨ob, ?_⟩
      intro h5 e_h5
      have hP := hP h5 e_h5
      have hf := zF.w hf e_h5 (by decide) (by decide)
      intro x3_6 e_x3_6
      have hP := hP x3_6 e_x3_6
      exact ih _ _ hf hP
theorem F_M_strike_L78 {y2 : Int} {h0 : zH} {Q' Q : Int → zH → Prop} (hq : ∀ r h', Q' r h' → zF 101 175 h0 h' → Q r h') : ∀ (n78 : Nat) (y3 : Int) (h : zH), zF 101 175 h0 h → P_M_strike_L78 y2 Q' n78 y3 h → P_M_strike_L78 y2 Q n78 y3 h := by
  intro n78
  induction n78 with
  | zero => intro y3 h hf hP; exact absurd hP id
  | succ n78 ih =>
    intro y3 h hf hP
    unfold P_M_strike_L78 at hP ⊢
    refine zif_i (fun c => ?_) (fun c => ?_)
    · have hP := zif_p hP c
      intro h8 e_h8
      have hP := hP h8 e_h8
      have hf := zF.w hf e_h8 (by decide) (by decide)
      exact hq _ _ hP hf
    · have hP := zif_n hP c
      obtain ⟨ob, hP⟩ := hP
      refine ⟨ob, ?_⟩
      obtain ⟨ob, hP⟩ := hP
      refine ⟨ob, ?_⟩
      intro h9 e_h9
      have hP := hP h9 e_h9
      have hf := zF.w hf e_h9 (by decide) (by decide)
      intro x3_10 e_x3_10
      have hP := hP x3_10 e_x3_10
      exact ih _ _ hf hP
theorem F_M_strike {a1 : Int} {h0 h : zH} {Q' Q : Int → zH → Prop} (hf : zF 101 175 h0 h) (hP : P_M_strike a1 h Q') (hq : ∀ r h', Q' r h' → zF 101 175 h0 h' → Q r h') : P_M_strike a1 h Q := by
  unfold P_M_strike at hP ⊢
  refine F_M_in hf hP (fun r1 h2 hP hf => ?_)
  refine zif_i (fun c => ?_) (fun c => ?_)
  · have hP := zif_p hP c
    exact hq _ _ hP hf
  · have hP := zif_n hP c
    obtain ⟨ob, hP⟩ := hP
    refine ⟨ob, ?_⟩
    obtain ⟨ob, hP⟩ := hP
    refine ⟨ob, ?_⟩
    intro x2_3 e_x2_3
    have hP := hP x2_3 e_x2_3
    obtain ⟨ob, hP⟩ := hP
    refine ⟨ob, ?_⟩
    intro x3_4 e_x3_4
    have hP := hP x3_4 e_x3_4
    obtain ⟨n41, hP⟩ := hP
    refine ⟨n41, ?_⟩
    refine F_M_strike_L41 hq (fun h7 hP hf => ?_) _ _ _ hf hP
    obtain ⟨n78, hP⟩ := hP
    refine ⟨n78, ?_⟩
    refine F_M_strike_L78 hq _ _ _ hf hP
theorem F_M_proof {a1 a2 : Int} {h0 h : zH} {Q' Q : Int → zH → Prop} (hf : zF 101 175 h0 h) (hP : P_M_proof a1 a2 h Q') (hq : ∀ r h', Q' r h' → zF 101 175 h0 h' → Q r h') : P_M_proof a1 a2 h Q := by
  unfold P_M_proof at hP ⊢
  refine F_M_in hf hP (fun r1 h2 hP hf => ?_)
  refine zif_i (fun c => ?_) (fun c => ?_)
  · have hP := zif_p hP c
    exact hq _ _ hP hf
  · have hP := zif_n hP c
    obtain ⟨ob, hP⟩ := hP
    refine ⟨ob, ?_⟩
    obtain ⟨ob, hP⟩ := hP
    refine ⟨ob, ?_⟩
    intro x3_3 e_x3_3
    have hP := hP x3_3 e_x3_3
    refine zif_i (fun c => ?_) (fun c => ?_)
    · have hP := zif_p hP c
      exact hq _ _ hP hf
    · have hP := zif_n hP c
      refine F_M_in hf hP (fun r4 h5 hP hf => ?_)
      obtain ⟨ob, hP⟩ := hP
      refine ⟨ob, ?_⟩
      exact hq _ _ hP hf
theorem F_M_supposedOf {a1 : Int} {h0 h : zH} {Q' Q : Int → zH → Prop} (hf : zF 101 175 h0 h) (hP : P_M_supposedOf a1 h Q') (hq : ∀ r h', Q' r h' → zF 101 175 h0 h' → Q r h') : P_M_supposedOf a1 h Q := by
  unfold P_M_supposedOf at hP ⊢
  refine F_M_nameOf hf hP (fun r1 h2 hP hf => ?_)
  obtain ⟨ob, hP⟩ := hP
  refine ⟨ob, ?_⟩
  intro x2_3 e_x2_3
  have hP := hP x2_3 e_x2_3
  exact hq _ _ hP hf
theorem F_M_suppose {a1 : Int} {h0 h : zH} {Q' Q : Int → zH → Prop} (hf : zF 101 175 h0 h) (hP : P_M_suppose a1 h Q') (hq : ∀ r h', Q' r h' → zF 101 175 h0 h' → Q r h') : P_M_suppose a1 h Q := by
  unfold P_M_suppose at hP ⊢
  refine F_M_nameOf hf hP (fun r1 h2 hP hf => ?_)
  obtain ⟨ob, hP⟩ := hP
  refine ⟨ob, ?_⟩
  intro h3 e_h3
  have hP := hP h3 e_h3
  have hf := zF.w hf e_h3 (by decide) (by decide)
  exact hq _ _ hP hf
theorem F_M_press_J92 {y1 y3 y5 y6 s0 : Int} {h0 h : zH} {Q' Q : Int → zH → Prop} {k9' k9 : Int → Int → Int → zH → Prop} (hf : zF 101 175 h0 h) (hP : P_M_press_J92 y1 y3 y5 y6 s0 h Q' k9') (hq : ∀ r h', Q' r h' → zF 101 175 h0 h' → Q r h') (hk9 : ∀ v0 v1 v2 h', k9' v0 v1 v2 h' → zF 101 175 h0 h' → k9 v0 v1 v2 h') : P_M_press_J92 y1 y3 y5 y6 s0 h Q k9 := by
  unfold P_M_press_J92 at hP ⊢
  intro x6_3 e_x6_3
  have hP := hP x6_3 e_x6_3
  exact hk9 _ _ _ _ hP hf
theorem F_M_press_J65 {y1 y3 y4 y6 y8 s0 : Int} {h0 h : zH} {Q' Q : Int → zH → Prop} {k9' k9 : Int → Int → Int → zH → Prop} (hf : zF 101 175 h0 h) (hP : P_M_press_J65 y1 y3 y4 y6 y8 s0 h Q' k9') (hq : ∀ r h', Q' r h' → zF 101 175 h0 h' → Q r h') (hk9 : ∀ v0 v1 v2 h', k9' v0 v1 v2 h' → zF 101 175 h0 h' → k9 v0 v1 v2 h') : P_M_press_J65 y1 y3 y4 y6 y8 s0 h Q k9 := by
  unfold P_M_press_J65 at hP ⊢
  refine F_M_press_J92 hf hP hq hk9
theorem F_M_press_J42 {y1 y3 y4 y5 y6 s0 : Int} {h0 h : zH} {Q' Q : Int → zH → Prop} {k9' k9 : Int → Int → Int → zH → Prop} (hf : zF 101 175 h0 h) (hP : P_M_press_J42 y1 y3 y4 y5 y6 s0 h Q' k9') (hq : ∀ r h', Q' r h' → zF 101 175 h0 h' → Q r h') (hk9 : ∀ v0 v1 v2 h', k9' v0 v1 v2 h' → zF 101 175 h0 h' → k9 v0 v1 v2 h') : P_M_press_J42 y1 y3 y4 y5 y6 s0 h Q k9 := by
  unfold P_M_press_J42 at hP ⊢
  refine F_M_supposedOf hf hP (fun r1 h2 hP hf => ?_)
  refine F_M_press_J65 hf hP hq hk9
theorem F_M_press_L9 {y1 y3 : Int} {h0 : zH} {Q' Q : Int → zH → Prop} {k100' k100 : Int → Int → zH → Prop} (hq : ∀ r h', Q' r h' → zF 101 175 h0 h' → Q r h') (hk100 : ∀ v0 v1 h', k100' v0 v1 h' → zF 101 175 h0 h' → k100 v0 v1 h') : ∀ (n9 : Nat) (y4 y5 y6 : Int) (h : zH), zF 101 175 h0 h → P_M_press_L9 y1 y3 Q' k100' n9 y4 y5 y6 h → P_M_press_L9 y1 y3 Q k100 n9 y4 y5 y6 h := by
  intro n9
  induction n9 with
  | zero => intro y4 y5 y6 h hf hP; exact absurd hP id
  | succ n9 ih =>
    intro y4 y5 y6 h hf hP
    unfold P_M_press_L9 at hP ⊢
    refine zif_i (fun c => ?_) (fun c => ?_)
    · have hP := zif_p hP c
      exact hk100 _ _ _ hP hf
    · have hP := zif_n hP c
      refine zif_i (fun c => ?_) (fun c => ?_)
      · have hP := zif_p hP c
        exact hk100 _ _ _ hP hf
      · have hP := zif_n hP c
        obtain ⟨ob, hP⟩ := hP
        refine ⟨ob, ?_⟩
        refine F_M_press_J42 hf hP hq (fun v0 v1 v2 h' hP hf => ih v0 v1 v2 h' hf hP)
theorem F_M_press_J118 {y4 y5 s0 : Int} {h0 h : zH} {Q' Q : Int → zH → Prop} (hf : zF 101 175 h0 h) (hP : P_M_press_J118 y4 y5 s0 h Q') (hq : ∀ r h', Q' r h' → zF 101 175 h0 h' → Q r h') : P_M_press_J118 y4 y5 s0 h Q := by
  unfold P_M_press_J118 at hP ⊢
  obtain ⟨ob, hP⟩ := hP
  refine ⟨ob, ?_⟩
  intro h5 e_h5
  have hP := hP h5 e_h5
  have hf := zF.w hf e_h5 (by decide) (by decide)
  refine zif_i (fun c => ?_) (fun c => ?_)
  · have hP := zif_p hP c
    refine F_M_suppose hf hP (fun r6 h7 hP hf => ?_)
    intro h8 e_h8
    have hP := hP h8 e_h8
    have hf := zF.w hf e_h8 (by decide) (by decide)
    exact hq _ _ hP hf
  · have hP := zif_n hP c
    exact hq _ _ hP hf
theorem F_M_press_J100 {y4 y5 : Int} {h0 h : zH} {Q' Q : Int → zH → Prop} (hf : zF 101 175 h0 h) (hP : P_M_press_J100 y4 y5 h Q') (hq : ∀ r h', Q' r h' → zF 101 175 h0 h' → Q r h') : P_M_press_J100 y4 y5 h Q := by
  unfold P_M_press_J100 at hP ⊢
  refine F_M_press_J118 hf hP hq
theorem F_M_press {a1 a2 a3 : Int} {h0 h : zH} {Q' Q : Int → zH → Prop} (hf : zF 101 175 h0 h) (hP : P_M_press a1 a2 a3 h Q') (hq : ∀ r h', Q' r h' → zF 101 175 h0 h' → Q r h') : P_M_press a1 a2 a3 h Q := by
  unfold P_M_press at hP ⊢
  obtain ⟨n9, hP⟩ := hP
  refine ⟨n9, ?_⟩
  refine F_M_press_L9 hq (fun u4_100 u5_100 h4 hP hf => ?_) _ _ _ _ _ hf hP
  refine F_M_press_J100 hf hP hq
theorem F_M_follows_L2 {y1 : Int} {h0 : zH} {Q' Q : Int → zH → Prop} {k22' k22 : zH → Prop} (hq : ∀ r h', Q' r h' → zF 101 175 h0 h' → Q r h') (hk22 : ∀ h', k22' h' → zF 101 175 h0 h' → k22 h') : ∀ (n2 : Nat) (y2 : Int) (h : zH), zF 101 175 h0 h → P_M_follows_L2 y1 Q' k22' n2 y2 h → P_M_follows_L2 y1 Q k22 n2 y2 h := by
  intro n2
  induction n2 with
  | zero => intro y2 h hf hP; exact absurd hP id
  | succ n2 ih =>
    intro y2 h hf hP
    unfold P_M_follows_L2 at hP ⊢
    refine zif_i (fun c => ?_) (fun c => ?_)
    · have hP := zif_p hP c
      exact hk22 _ hP hf
    · have hP := zif_n hP c
      obtain ⟨ob, hP⟩ := hP
      refine ⟨ob, ?_⟩
      intro h1 e_h1
      have hP := hP h1 e_h1
      have hf := zF.w hf e_h1 (by decide) (by decide)
      intro x2_2 e_x2_2
      have hP := hP x2_2 e_x2_2
      exact ih _ _ hf hP
theorem F_M_follows_J73 {y1 y2 s0 : Int} {h0 h : zH} {Q' Q : Int → zH → Prop} {k34' k34 : Int → zH → Prop} (hf : zF 101 175 h0 h) (hP : P_M_follows_J73 y1 y2 s0 h Q' k34') (hq : ∀ r h', Q' r h' → zF 101 175 h0 h' → Q r h') (hk34 : ∀ v0 h', k34' v0 h' → zF 101 175 h0 h' → k34 v0 h') : P_M_follows_J73 y1 y2 s0 h Q k34 := by
  unfold P_M_follows_J73 at hP ⊢
  obtain ⟨ob, hP⟩ := hP
  refine ⟨ob, ?_⟩
  intro h6 e_h6
  have hP := hP h6 e_h6
  have hf := zF.w hf e_h6 (by decide) (by decide)
  obtain ⟨ob, hP⟩ := hP
  refine ⟨ob, ?_⟩
  refine F_M_suppose hf hP (fun r7 h8 hP hf => ?_)
  intro x2_9 e_x2_9
  have hP := hP x2_9 e_x2_9
  exact hk34 _ _ hP hf
theorem F_M_follows_J68 {y1 y2 : Int} {h0 h : zH} {Q' Q : Int → zH → Prop} {k34' k34 : Int → zH → Prop} (hf : zF 101 175 h0 h) (hP : P_M_follows_J68 y1 y2 h Q' k34') (hq : ∀ r h', Q' r h' → zF 101 175 h0 h' → Q r h') (hk34 : ∀ v0 h', k34' v0 h' → zF 101 175 h0 h' → k34 v0 h') : P_M_follows_J68 y1 y2 h Q k34 := by
  unfold P_M_follows_J68 at hP ⊢
  refine F_M_follows_J73 hf hP hq hk34
theorem F_M_follows_L34 {y1 : Int} {h0 : zH} {Q' Q : Int → zH → Prop} {k93' k93 : zH → Prop} (hq : ∀ r h', Q' r h' → zF 101 175 h0 h' → Q r h') (hk93 : ∀ h', k93' h' → zF 101 175 h0 h' → k93 h') : ∀ (n34 : Nat) (y2 : Int) (h : zH), zF 101 175 h0 h → P_M_follows_L34 y1 Q' k93' n34 y2 h → P_M_follows_L34 y1 Q k93 n34 y2 h := by
  intro n34
  induction n34 with
  | zero => intro y2 h hf hP; exact absurd hP id
  | succ n34 ih =>
    intro y2 h hf hP
    unfold P_M_follows_L34 at hP ⊢
    obtain ⟨ob, hP⟩ := hP
    refine ⟨ob, ?_⟩
    refine zif_i (fun c => ?_) (fun c => ?_)
    · have hP := zif_p hP c
      exact hk93 _ hP hf
    · have hP := zif_n hP c
      refine zif_i (fun c => ?_) (fun c => ?_)
      · have hP := zif_p hP c
        obtain ⟨ob, hP⟩ := hP
        refine ⟨ob, ?_⟩
        refine F_M_supposedOf hf hP (fun r10 h11 hP hf => ?_)
        refine F_M_follows_J73 hf hP hq (fun v0 h' hP hf => ih v0 h' hf hP)
      · have hP := zif_n hP c
        refine F_M_follows_J68 hf hP hq (fun v0 h' hP hf => ih v0 h' hf hP)
theorem F_M_follows_L119 {y1 : Int} {h0 : zH} {Q' Q : Int → zH → Prop} {k159' k159 : zH → Prop} (hq : ∀ r h', Q' r h' → zF 101 175 h0 h' → Q r h') (hk159 : ∀ h', k159' h' → zF 101 175 h0 h' → k159 h') : ∀ (n119 : Nat) (y2 : Int) (h : zH), zF 101 175 h0 h → P_M_follows_L119 y1 Q' k159' n119 y2 h → P_M_follows_L119 y1 Q k159 n119 y2 h := by
  intro n119
  induction n119 with
  | zero => intro y2 h hf hP; exact absurd hP id
  | succ n119 ih =>
    intro y2 h hf hP
    unfold P_M_follows_L119 at hP ⊢
    refine zif_i (fun c => ?_) (fun c => ?_)
    · have hP := zif_p hP c
      exact hk159 _ hP hf
    · have hP := zif_n hP c
      refine zif_i (fun c => ?_) (fun c => ?_)
      · have hP := zif_p hP c
        obtain ⟨ob, hP⟩ := hP
        refine ⟨ob, ?_⟩
        obtain ⟨ob, hP⟩ := hP
        refine ⟨ob, ?_⟩
        refine F_M_press hf hP (fun r15 h16 hP hf => ?_)
        intro x2_17 e_x2_17
        have hP := hP x2_17 e_x2_17
        exact ih _ _ hf hP
      · have hP := zif_n hP c
        exact hk159 _ hP hf
theorem F_M_follows_L161 {y1 : Int} {h0 : zH} {Q' Q : Int → zH → Prop} {k198' k198 : zH → Prop} (hq : ∀ r h', Q' r h' → zF 101 175 h0 h' → Q r h') (hk198 : ∀ h', k198' h' → zF 101 175 h0 h' → k198 h') : ∀ (n161 : Nat) (y2 : Int) (h : zH), zF 101 175 h0 h → P_M_follows_L161 y1 Q' k198' n161 y2 h → P_M_follows_L161 y1 Q k198 n161 y2 h := by
  intro n161
  induction n161 with
  | zero => intro y2 h hf hP; exact absurd hP id
  | succ n161 ih =>
    intro y2 h hf hP
    unfold P_M_follows_L161 at hP ⊢
    refine zif_i (fun c => ?_) (fun c => ?_)
    · have hP := zif_p hP c
      exact hk198 _ hP hf
    · have hP := zif_n hP c
      refine zif_i (fun c => ?_) (fun c => ?_)
      · have hP := zif_p hP c
        obtain ⟨ob, hP⟩ := hP
        refine ⟨ob, ?_⟩
        obtain ⟨ob, hP⟩ := hP
        refine ⟨ob, ?_⟩
        refine F_M_press hf hP (fun r19 h20 hP hf => ?_)
        intro x2_21 e_x2_21
        have hP := hP x2_21 e_x2_21
        exact ih _ _ hf hP
      · have hP := zif_n hP c
        exact hk198 _ hP hf
theorem F_M_follows_J198 {y1 : Int} {h0 h : zH} {Q' Q : Int → zH → Prop} {k98' k98 : zH → Prop} (hf : zF 101 175 h0 h) (hP : P_M_follows_J198 y1 h Q' k98') (hq : ∀ r h', Q' r h' → zF 101 175 h0 h' → Q r h') (hk98 : ∀ h', k98' h' → zF 101 175 h0 h' → k98 h') : P_M_follows_J198 y1 h Q k98 := by
  unfold P_M_follows_J198 at hP ⊢
  exact hk98 _ hP hf
theorem F_M_follows_J159 {y1 : Int} {h0 h : zH} {Q' Q : Int → zH → Prop} {k98' k98 : zH → Prop} (hf : zF 101 175 h0 h) (hP : P_M_follows_J159 y1 h Q' k98') (hq : ∀ r h', Q' r h' → zF 101 175 h0 h' → Q r h') (hk98 : ∀ h', k98' h' → zF 101 175 h0 h' → k98 h') : P_M_follows_J159 y1 h Q k98 := by
  unfold P_M_follows_J159 at hP ⊢
  obtain ⟨n161, hP⟩ := hP
  refine ⟨n161, ?_⟩
  refine F_M_follows_L161 hq (fun h22 hP hf => ?_) _ _ _ hf hP
  refine F_M_follows_J198 hf hP hq hk98
theorem F_M_follows_L98 {y1 : Int} {h0 : zH} {Q' Q : Int → zH → Prop} (hq : ∀ r h', Q' r h' → zF 101 175 h0 h' → Q r h') : ∀ (n98 : Nat) (h : zH), zF 101 175 h0 h → P_M_follows_L98 y1 Q' n98 h → P_M_follows_L98 y1 Q n98 h := by
  intro n98
  induction n98 with
  | zero => intro h hf hP; exact absurd hP id
  | succ n98 ih =>
    intro h hf hP
    unfold P_M_follows_L98 at hP ⊢
    refine zif_i (fun c => ?_) (fun c => ?_)
    · have hP := zif_p hP c
      obtain ⟨ob, hP⟩ := hP
      refine ⟨ob, ?_⟩
      exact hq _ _ hP hf
    · have hP := zif_n hP c
      refine zif_i (fun c => ?_) (fun c => ?_)
      · have hP := zif_p hP c
        intro h14 e_h14
        have hP := hP h14 e_h14
        have hf := zF.w hf e_h14 (by decide) (by decide)
        obtain ⟨n119, hP⟩ := hP
        refine ⟨n119, ?_⟩
        refine F_M_follows_L119 hq (fun h18 hP hf => ?_) _ _ _ hf hP
        refine F_M_follows_J159 hf hP hq (fun h' hP hf => ih h' hf hP)
      · have hP := zif_n hP c
        obtain ⟨ob, hP⟩ := hP
        refine ⟨ob, ?_⟩
        exact hq _ _ hP hf
theorem F_M_follows {a1 : Int} {h0 h : zH} {Q' Q : Int → zH → Prop} (hf : zF 101 175 h0 h) (hP : P_M_follows a1 h Q') (hq : ∀ r h', Q' r h' → zF 101 175 h0 h' → Q r h') : P_M_follows a1 h Q := by
  unfold P_M_follows at hP ⊢
  obtain ⟨n2, hP⟩ := hP
  refine ⟨n2, ?_⟩
  refine F_M_follows_L2 hq (fun h3 hP hf => ?_) _ _ _ hf hP
  intro h4 e_h4
  have hP := hP h4 e_h4
  have hf := zF.w hf e_h4 (by decide) (by decide)
  obtain ⟨ob, hP⟩ := hP
  refine ⟨ob, ?_⟩
  intro x2_5 e_x2_5
  have hP := hP x2_5 e_x2_5
  obtain ⟨n34, hP⟩ := hP
  refine ⟨n34, ?_⟩
  refine F_M_follows_L34 hq (fun h12 hP hf => ?_) _ _ _ hf hP
  intro h13 e_h13
  have hP := hP h13 e_h13
  have hf := zF.w hf e_h13 (by decide) (by decide)
  obtain ⟨n98, hP⟩ := hP
  refine ⟨n98, ?_⟩
  refine F_M_follows_L98 hq _ _ hf hP
theorem F_M_isAssumed_J31 {y1 y3 s0 : Int} {h0 h : zH} {Q' Q : Int → zH → Prop} {k4' k4 : Int → Int → zH → Prop} (hf : zF 101 175 h0 h) (hP : P_M_isAssumed_J31 y1 y3 s0 h Q' k4') (hq : ∀ r h', Q' r h' → zF 101 175 h0 h' → Q r h') (hk4 : ∀ v0 v1 h', k4' v0 v1 h' → zF 101 175 h0 h' → k4 v0 v1 h') : P_M_isAssumed_J31 y1 y3 s0 h Q k4 := by
  unfold P_M_isAssumed_J31 at hP ⊢
  intro x3_1 e_x3_1
  have hP := hP x3_1 e_x3_1
  exact hk4 _ _ _ hP hf
theorem F_M_isAssumed_L4 {y1 : Int} {h0 : zH} {Q' Q : Int → zH → Prop} (hq : ∀ r h', Q' r h' → zF 101 175 h0 h' → Q r h') : ∀ (n4 : Nat) (y2 y3 : Int) (h : zH), zF 101 175 h0 h → P_M_isAssumed_L4 y1 Q' n4 y2 y3 h → P_M_isAssumed_L4 y1 Q n4 y2 y3 h := by
  intro n4
  induction n4 with
  | zero => intro y2 y3 h hf hP; exact absurd hP id
  | succ n4 ih =>
    intro y2 y3 h hf hP
    unfold P_M_isAssumed_L4 at hP ⊢
    refine zif_i (fun c => ?_) (fun c => ?_)
    · have hP := zif_p hP c
      obtain ⟨ob, hP⟩ := hP
      refine ⟨ob, ?_⟩
      exact hq _ _ hP hf
    · have hP := zif_n hP c
      obtain ⟨ob, hP⟩ := hP
      refine ⟨ob, ?_⟩
      refine F_M_isAssumed_J31 hf hP hq (fun v0 v1 h' hP hf => ih v0 v1 h' hf hP)
theorem F_M_isAssumed {a1 : Int} {h0 h : zH} {Q' Q : Int → zH → Prop} (hf : zF 101 175 h0 h) (hP : P_M_isAssumed a1 h Q') (hq : ∀ r h', Q' r h' → zF 101 175 h0 h' → Q r h') : P_M_isAssumed a1 h Q := by
  unfold P_M_isAssumed at hP ⊢
  obtain ⟨n4, hP⟩ := hP
  refine ⟨n4, ?_⟩
  refine F_M_isAssumed_L4 hq _ _ _ _ hf hP
theorem F_M_check_L2 {h0 : zH} {Q' Q : Int → zH → Prop} {k24' k24 : Int → zH → Prop} (hq : ∀ r h', Q' r h' → zF 101 175 h0 h' → Q r h') (hk24 : ∀ v0 h', k24' v0 h' → zF 101 175 h0 h' → k24 v0 h') : ∀ (n2 : Nat) (y1 : Int) (h : zH), zF 101 175 h0 h → P_M_check_L2 Q' k24' n2 y1 h → P_M_check_L2 Q k24 n2 y1 h := by
  intro n2
  induction n2 with
  | zero => intro y1 h hf hP; exact absurd hP id
  | succ n2 ih =>
    intro y1 h hf hP
    unfold P_M_check_L2 at hP ⊢
    refine zif_i (fun c => ?_) (fun c => ?_)
    · have hP := zif_p hP c
      exact hk24 _ _ hP hf
    · have hP := zif_n hP c
      refine F_M_follows hf hP (fun r1 h2 hP hf => ?_)
      refine zif_i (fun c => ?_) (fun c => ?_)
      · have hP := zif_p hP c
        exact hk24 _ _ hP hf
      · have hP := zif_n hP c
        intro x1_3 e_x1_3
        have hP := hP x1_3 e_x1_3
        exact ih _ _ hf hP
theorem F_M_check_J116 {y2 s0 : Int} {h0 h : zH} {Q' Q : Int → zH → Prop} (hf : zF 101 175 h0 h) (hP : P_M_check_J116 y2 s0 h Q') (hq : ∀ r h', Q' r h' → zF 101 175 h0 h' → Q r h') : P_M_check_J116 y2 s0 h Q := by
  unfold P_M_check_J116 at hP ⊢
  intro h5 e_h5
  have hP := hP h5 e_h5
  have hf := zF.w hf e_h5 (by decide) (by decide)
  exact hq _ _ hP hf
theorem F_M_check_J104 {y1 y2 : Int} {h0 h : zH} {Q' Q : Int → zH → Prop} (hf : zF 101 175 h0 h) (hP : P_M_check_J104 y1 y2 h Q') (hq : ∀ r h', Q' r h' → zF 101 175 h0 h' → Q r h') : P_M_check_J104 y1 y2 h Q := by
  unfold P_M_check_J104 at hP ⊢
  refine F_M_check_J116 hf hP hq
theorem F_M_check_J97 {y1 y3 s0 : Int} {h0 h : zH} {Q' Q : Int → zH → Prop} {k61' k61 : Int → Int → zH → Prop} (hf : zF 101 175 h0 h) (hP : P_M_check_J97 y1 y3 s0 h Q' k61') (hq : ∀ r h', Q' r h' → zF 101 175 h0 h' → Q r h') (hk61 : ∀ v0 v1 h', k61' v0 v1 h' → zF 101 175 h0 h' → k61 v0 v1 h') : P_M_check_J97 y1 y3 s0 h Q k61 := by
  unfold P_M_check_J97 at hP ⊢
  intro x3_7 e_x3_7
  have hP := hP x3_7 e_x3_7
  exact hk61 _ _ _ hP hf
theorem F_M_check_J96 {y1 y3 : Int} {h0 h : zH} {Q' Q : Int → zH → Prop} {k61' k61 : Int → Int → zH → Prop} (hf : zF 101 175 h0 h) (hP : P_M_check_J96 y1 y3 h Q' k61') (hq : ∀ r h', Q' r h' → zF 101 175 h0 h' → Q r h') (hk61 : ∀ v0 v1 h', k61' v0 v1 h' → zF 101 175 h0 h' → k61 v0 v1 h') : P_M_check_J96 y1 y3 h Q k61 := by
  unfold P_M_check_J96 at hP ⊢
  refine F_M_check_J97 hf hP hq hk61
theorem F_M_check_L61 {y1 : Int} {h0 : zH} {Q' Q : Int → zH → Prop} {k104' k104 : Int → zH → Prop} (hq : ∀ r h', Q' r h' → zF 101 175 h0 h' → Q r h') (hk104 : ∀ v0 h', k104' v0 h' → zF 101 175 h0 h' → k104 v0 h') : ∀ (n61 : Nat) (y2 y3 : Int) (h : zH), zF 101 175 h0 h → P_M_check_L61 y1 Q' k104' n61 y2 y3 h → P_M_check_L61 y1 Q k104 n61 y2 y3 h := by
  intro n61
  induction n61 with
  | zero => intro y2 y3 h hf hP; exact absurd hP id
  | succ n61 ih =>
    intro y2 y3 h hf hP
    unfold P_M_check_L61 at hP ⊢
    obtain ⟨ob, hP⟩ := hP
    refine ⟨ob, ?_⟩
    refine zif_i (fun c => ?_) (fun c => ?_)
    · have hP := zif_p hP c
      exact hk104 _ _ hP hf
    · have hP := zif_n hP c
      refine zif_i (fun c => ?_) (fun c => ?_)
      · have hP := zif_p hP c
        refine F_M_check_J96 hf hP hq (fun v0 v1 h' hP hf => ih v0 v1 h' hf hP)
      · have hP := zif_n hP c
        obtain ⟨ob, hP⟩ := hP
        refine ⟨ob, ?_⟩
        refine F_M_isAssumed hf hP (fun r8 h9 hP hf => ?_)
        refine F_M_check_J97 hf hP hq (fun v0 v1 h' hP hf => ih v0 v1 h' hf hP)
theorem F_M_check_J44 {y1 s0 : Int} {h0 h : zH} {Q' Q : Int → zH → Prop} (hf : zF 101 175 h0 h) (hP : P_M_check_J44 y1 s0 h Q') (hq : ∀ r h', Q' r h' → zF 101 175 h0 h' → Q r h') : P_M_check_J44 y1 s0 h Q := by
  unfold P_M_check_J44 at hP ⊢
  refine zif_i (fun c => ?_) (fun c => ?_)
  · have hP := zif_p hP c
    refine F_M_check_J104 hf hP hq
  · have hP := zif_n hP c
    obtain ⟨ob, hP⟩ := hP
    refine ⟨ob, ?_⟩
    intro x3_6 e_x3_6
    have hP := hP x3_6 e_x3_6
    obtain ⟨n61, hP⟩ := hP
    refine ⟨n61, ?_⟩
    refine F_M_check_L61 hq (fun u2_104 h10 hP hf => ?_) _ _ _ _ hf hP
    refine F_M_check_J104 hf hP hq
theorem F_M_check_J24 {y1 : Int} {h0 h : zH} {Q' Q : Int → zH → Prop} (hf : zF 101 175 h0 h) (hP : P_M_check_J24 y1 h Q') (hq : ∀ r h', Q' r h' → zF 101 175 h0 h' → Q r h') : P_M_check_J24 y1 h Q := by
  unfold P_M_check_J24 at hP ⊢
  refine F_M_check_J44 hf hP hq
theorem F_M_check {h0 h : zH} {Q' Q : Int → zH → Prop} (hf : zF 101 175 h0 h) (hP : P_M_check h Q') (hq : ∀ r h', Q' r h' → zF 101 175 h0 h' → Q r h') : P_M_check h Q := by
  unfold P_M_check at hP ⊢
  obtain ⟨n2, hP⟩ := hP
  refine ⟨n2, ?_⟩
  refine F_M_check_L2 hq (fun u1_24 h4 hP hf => ?_) _ _ _ hf hP
  refine F_M_check_J24 hf hP hq
theorem F_M_refusedAt {h0 h : zH} {Q' Q : Int → zH → Prop} (hf : zF 101 175 h0 h) (hP : P_M_refusedAt h Q') (hq : ∀ r h', Q' r h' → zF 101 175 h0 h' → Q r h') : P_M_refusedAt h Q := by
  unfold P_M_refusedAt at hP ⊢
  exact hq _ _ hP hf
theorem F_M_counted_J75 {y1 y2 y3 s0 s1 : Int} {h0 h : zH} {Q' Q : Int → zH → Prop} (hf : zF 101 175 h0 h) (hP : P_M_counted_J75 y1 y2 y3 s0 s1 h Q') (hq : ∀ r h', Q' r h' → zF 101 175 h0 h' → Q r h') : P_M_counted_J75 y1 y2 y3 s0 s1 h Q := by
  unfold P_M_counted_J75 at hP ⊢
  intro h3 e_h3
  have hP := hP h3 e_h3
  have hf := zF.w hf e_h3 (by decide) (by decide)
  obtain ⟨ob, hP⟩ := hP
  refine ⟨ob, ?_⟩
  intro h4 e_h4
  have hP := hP h4 e_h4
  have hf := zF.w hf e_h4 (by decide) (by decide)
  exact hq _ _ hP hf
theorem F_M_counted_J60 {y1 y2 s0 : Int} {h0 h : zH} {Q' Q : Int → zH → Prop} (hf : zF 101 175 h0 h) (hP : P_M_counted_J60 y1 y2 s0 h Q') (hq : ∀ r h', Q' r h' → zF 101 175 h0 h' → Q r h') : P_M_counted_J60 y1 y2 s0 h Q := by
  unfold P_M_counted_J60 at hP ⊢
  refine F_M_counted_J75 hf hP hq
theorem F_M_counted_J46 {y1 y2 : Int} {h0 h : zH} {Q' Q : Int → zH → Prop} (hf : zF 101 175 h0 h) (hP : P_M_counted_J46 y1 y2 h Q') (hq : ∀ r h', Q' r h' → zF 101 175 h0 h' → Q r h') : P_M_counted_J46 y1 y2 h Q := by
  unfold P_M_counted_J46 at hP ⊢
  obtain ⟨ob, hP⟩ := hP
  refine ⟨ob, ?_⟩
  refine F_M_counted_J60 hf hP hq
theorem F_M_counted {a1 a2 : Int} {h0 h : zH} {Q' Q : Int → zH → Prop} (hf : zF 101 175 h0 h) (hP : P_M_counted a1 a2 h Q') (hq : ∀ r h', Q' r h' → zF 101 175 h0 h' → Q r h') : P_M_counted a1 a2 h Q := by
  unfold P_M_counted at hP ⊢
  refine F_M_isName hf hP (fun r1 h2 hP hf => ?_)
  refine zif_i (fun c => ?_) (fun c => ?_)
  · have hP := zif_p hP c
    refine F_M_fail hf hP (fun r7 h8 hP hf => ?_)
    exact hq _ _ hP hf
  · have hP := zif_n hP c
    refine zif_i (fun c => ?_) (fun c => ?_)
    · have hP := zif_p hP c
      refine F_M_counted_J46 hf hP hq
    · have hP := zif_n hP c
      obtain ⟨ob, hP⟩ := hP
      refine ⟨ob, ?_⟩
      refine zif_i (fun c => ?_) (fun c => ?_)
      · have hP := zif_p hP c
        refine zif_i (fun c => ?_) (fun c => ?_)
        · have hP := zif_p hP c
          refine F_M_fail hf hP (fun r5 h6 hP hf => ?_)
          exact hq _ _ hP hf
        · have hP := zif_n hP c
          refine F_M_counted_J46 hf hP hq
      · have hP := zif_n hP c
        refine F_M_counted_J46 hf hP hq
theorem F_M_bar_J63 {y1 y2 y3 y4 : Int} {h0 h : zH} {Q' Q : Int → zH → Prop} {k5' k5 : Int → Int → zH → Prop} (hf : zF 101 175 h0 h) (hP : P_M_bar_J63 y1 y2 y3 y4 h Q' k5') (hq : ∀ r h', Q' r h' → zF 101 175 h0 h' → Q r h') (hk5 : ∀ v0 v1 h', k5' v0 v1 h' → zF 101 175 h0 h' → k5 v0 v1 h') : P_M_bar_J63 y1 y2 y3 y4 h Q k5 := by
  unfold P_M_bar_J63 at hP ⊢
  intro x4_2 e_x4_2
  have hP := hP x4_2 e_x4_2
  exact hk5 _ _ _ hP hf
theorem F_M_bar_J59 {y1 y2 y3 y4 s0 s1 : Int} {h0 h : zH} {Q' Q : Int → zH → Prop} {k5' k5 : Int → Int → zH → Prop} (hf : zF 101 175 h0 h) (hP : P_M_bar_J59 y1 y2 y3 y4 s0 s1 h Q' k5') (hq : ∀ r h', Q' r h' → zF 101 175 h0 h' → Q r h') (hk5 : ∀ v0 v1 h', k5' v0 v1 h' → zF 101 175 h0 h' → k5 v0 v1 h') : P_M_bar_J59 y1 y2 y3 y4 s0 s1 h Q k5 := by
  unfold P_M_bar_J59 at hP ⊢
  obtain ⟨ob, hP⟩ := hP
  refine ⟨ob, ?_⟩
  intro h3 e_h3
  have hP := hP h3 e_h3
  have hf := zF.w hf e_h3 (by decide) (by decide)
  intro x3_4 e_x3_4
  have hP := hP x3_4 e_x3_4
  refine F_M_bar_J63 hf hP hq hk5
theorem F_M_bar_L5 {y1 y2 : Int} {h0 : zH} {Q' Q : Int → zH → Prop} (hq : ∀ r h', Q' r h' → zF 101 175 h0 h' → Q r h') : ∀ (n5 : Nat) (y3 y4 : Int) (h : zH), zF 101 175 h0 h → P_M_bar_L5 y1 y2 Q' n5 y3 y4 h → P_M_bar_L5 y1 y2 Q n5 y3 y4 h := by
  intro n5
  induction n5 with
  | zero => intro y3 y4 h hf hP; exact absurd hP id
  | succ n5 ih =>
    intro y3 y4 h hf hP
    unfold P_M_bar_L5 at hP ⊢
    refine zif_i (fun c => ?_) (fun c => ?_)
    · have hP := zif_p hP c
      obtain ⟨ob, hP⟩ := hP
      refine ⟨ob, ?_⟩
      intro h1 e_h1
      have hP := hP h1 e_h1
      have hf := zF.w hf e_h1 (by decide) (by decide)
      exact hq _ _ hP hf
    · have hP := zif_n hP c
      obtain ⟨ob, hP⟩ := hP
      refine ⟨ob, ?_⟩
      refine zif_i (fun c => ?_) (fun c => ?_)
      · have hP := zif_p hP c
        refine F_M_bar_J63 hf hP hq (fun v0 v1 h' hP hf => ih v0 v1 h' hf hP)
      · have hP := zif_n hP c
        obtain ⟨ob, hP⟩ := hP
        refine ⟨ob, ?_⟩
        refine F_M_bar_J59 hf hP hq (fun v0 v1 h' hP hf => ih v0 v1 h' hf hP)
theorem F_M_bar {a1 a2 : Int} {h0 h : zH} {Q' Q : Int → zH → Prop} (hf : zF 101 175 h0 h) (hP : P_M_bar a1 a2 h Q') (hq : ∀ r h', Q' r h' → zF 101 175 h0 h' → Q r h') : P_M_bar a1 a2 h Q := by
  unfold P_M_bar at hP ⊢
  obtain ⟨n5, hP⟩ := hP
  refine ⟨n5, ?_⟩
  refine F_M_bar_L5 hq _ _ _ _ hf hP
theorem F_M_next {a1 : Int} {h0 h : zH} {Q' Q : Int → zH → Prop} (hf : zF 101 175 h0 h) (hP : P_M_next a1 h Q') (hq : ∀ r h', Q' r h' → zF 101 175 h0 h' → Q r h') : P_M_next a1 h Q := by
  unfold P_M_next at hP ⊢
  refine F_M_areSteps hf hP (fun r1 h2 hP hf => ?_)
  refine zif_i (fun c => ?_) (fun c => ?_)
  · have hP := zif_p hP c
    refine F_M_fail hf hP (fun r21 h22 hP hf => ?_)
    exact hq _ _ hP hf
  · have hP := zif_n hP c
    refine zif_i (fun c => ?_) (fun c => ?_)
    · have hP := zif_p hP c
      refine F_M_fail hf hP (fun r19 h20 hP hf => ?_)
      exact hq _ _ hP hf
    · have hP := zif_n hP c
      refine F_M_prepare hf hP (fun r3 h4 hP hf => ?_)
      intro h5 e_h5
      have hP := hP h5 e_h5
      have hf := zF.w hf e_h5 (by decide) (by decide)
      intro h6 e_h6
      have hP := hP h6 e_h6
      have hf := zF.w hf e_h6 (by decide) (by decide)
      intro h7 e_h7
      have hP := hP h7 e_h7
      have hf := zF.w hf e_h7 (by decide) (by decide)
      intro h8 e_h8
      have hP := hP h8 e_h8
      have hf := zF.w hf e_h8 (by decide) (by decide)
      intro h9 e_h9
      have hP := hP h9 e_h9
      have hf := zF.w hf e_h9 (by decide) (by decide)
      intro h10 e_h10
      have hP := hP h10 e_h10
      have hf := zF.w hf e_h10 (by decide) (by decide)
      refine F_M_solving hf hP (fun r11 h12 hP hf => ?_)
      refine F_M_ended hf hP (fun r13 h14 hP hf => ?_)
      intro h15 e_h15
      have hP := hP h15 e_h15
      have hf := zF.w hf e_h15 (by decide) (by decide)
      refine zif_i (fun c => ?_) (fun c => ?_)
      · have hP := zif_p hP c
        refine F_M_bar hf hP (fun r16 h17 hP hf => ?_)
        intro h18 e_h18
        have hP := hP h18 e_h18
        have hf := zF.w hf e_h18 (by decide) (by decide)
        exact hq _ _ hP hf
      · have hP := zif_n hP c
        exact hq _ _ hP hf
theorem F_M_unbar {h0 h : zH} {Q' Q : Int → zH → Prop} (hf : zF 101 175 h0 h) (hP : P_M_unbar h Q') (hq : ∀ r h', Q' r h' → zF 101 175 h0 h' → Q r h') : P_M_unbar h Q := by
  unfold P_M_unbar at hP ⊢
  intro x1_1 e_x1_1
  have hP := hP x1_1 e_x1_1
  intro h2 e_h2
  have hP := hP h2 e_h2
  have hf := zF.w hf e_h2 (by decide) (by decide)
  exact hq _ _ hP hf
theorem F_M_count_L35 {y1 : Int} {h0 : zH} {Q' Q : Int → zH → Prop} {k90' k90 : Int → Int → zH → Prop} (hq : ∀ r h', Q' r h' → zF 101 175 h0 h' → Q r h') (hk90 : ∀ v0 v1 h', k90' v0 v1 h' → zF 101 175 h0 h' → k90 v0 v1 h') : ∀ (n35 : Nat) (y3 y4 : Int) (h : zH), zF 101 175 h0 h → P_M_count_L35 y1 Q' k90' n35 y3 y4 h → P_M_count_L35 y1 Q k90 n35 y3 y4 h := by
  intro n35
  induction n35 with
  | zero => intro y3 y4 h hf hP; exact absurd hP id
  | succ n35 ih =>
    intro y3 y4 h hf hP
    unfold P_M_count_L35 at hP ⊢
    refine zif_i (fun c => ?_) (fun c => ?_)
    · have hP := zif_p hP c
      exact hk90 _ _ _ hP hf
    · have hP := zif_n hP c
      refine zif_i (fun c => ?_) (fun c => ?_)
      · have hP := zif_p hP c
        refine F_M_prepare hf hP (fun r8 h9 hP hf => ?_)
        intro h10 e_h10
        have hP := hP h10 e_h10
        have hf := zF.w hf e_h10 (by decide) (by decide)
        intro h11 e_h11
        have hP := hP h11 e_h11
        have hf := zF.w hf e_h11 (by decide) (by decide)
        refine F_M_solving hf hP (fun r12 h13 hP hf => ?_)
        refine zif_i (fun c => ?_) (fun c => ?_)
        · have hP := zif_p hP c
          refine F_M_bar hf hP (fun r14 h15 hP hf => ?_)
          intro x3_16 e_x3_16
          have hP := hP x3_16 e_x3_16
          exact ih _ _ _ hf hP
        · have hP := zif_n hP c
          exact ih _ _ _ hf hP
      · have hP := zif_n hP c
        exact hk90 _ _ _ hP hf
theorem F_M_count_J90 {y3 y4 : Int} {h0 h : zH} {Q' Q : Int → zH → Prop} (hf : zF 101 175 h0 h) (hP : P_M_count_J90 y3 y4 h Q') (hq : ∀ r h', Q' r h' → zF 101 175 h0 h' → Q r h') : P_M_count_J90 y3 y4 h Q := by
  unfold P_M_count_J90 at hP ⊢
  intro h18 e_h18
  have hP := hP h18 e_h18
  have hf := zF.w hf e_h18 (by decide) (by decide)
  exact hq _ _ hP hf
theorem F_M_count {a1 a2 : Int} {h0 h : zH} {Q' Q : Int → zH → Prop} (hf : zF 101 175 h0 h) (hP : P_M_count a1 a2 h Q') (hq : ∀ r h', Q' r h' → zF 101 175 h0 h' → Q r h') : P_M_count a1 a2 h Q := by
  unfold P_M_count at hP ⊢
  refine F_M_in hf hP (fun r1 h2 hP hf => ?_)
  refine zif_i (fun c => ?_) (fun c => ?_)
  · have hP := zif_p hP c
    refine F_M_fail hf hP (fun r3 h4 hP hf => ?_)
    exact hq _ _ hP hf
  · have hP := zif_n hP c
    refine F_M_areSteps hf hP (fun r5 h6 hP hf => ?_)
    refine zif_i (fun c => ?_) (fun c => ?_)
    · have hP := zif_p hP c
      refine F_M_fail hf hP (fun r19 h20 hP hf => ?_)
      exact hq _ _ hP hf
    · have hP := zif_n hP c
      intro h7 e_h7
      have hP := hP h7 e_h7
      have hf := zF.w hf e_h7 (by decide) (by decide)
      obtain ⟨n35, hP⟩ := hP
      refine ⟨n35, ?_⟩
      refine F_M_count_L35 hq (fun u3_90 u4_90 h17 hP hf => ?_) _ _ _ _ hf hP
      refine F_M_count_J90 hf hP hq
theorem F_M_force_L10 {h0 : zH} {Q' Q : Int → zH → Prop} {k45' k45 : zH → Prop} (hq : ∀ r h', Q' r h' → zF 101 175 h0 h' → Q r h') (hk45 : ∀ h', k45' h' → zF 101 175 h0 h' → k45 h') : ∀ (n10 : Nat) (h : zH), zF 101 175 h0 h → P_M_force_L10 Q' k45' n10 h → P_M_force_L10 Q k45 n10 h := by
  intro n10
  induction n10 with
  | zero => intro h hf hP; exact absurd hP id
  | succ n10 ih =>
    intro h hf hP
    unfold P_M_force_L10 at hP ⊢
    refine zif_i (fun c => ?_) (fun c => ?_)
    · have hP := zif_p hP c
      exact hk45 _ hP hf
    · have hP := zif_n hP c
      refine zif_i (fun c => ?_) (fun c => ?_)
      · have hP := zif_p hP c
        exact hk45 _ hP hf
      · have hP := zif_n hP c
        refine F_M_become hf hP (fun r5 h6 hP hf => ?_)
        refine F_M_find hf hP (fun r7 h8 hP hf => ?_)
        exact ih _ hf hP
theorem F_M_force_J45 {h0 h : zH} {Q' Q : Int → zH → Prop} (hf : zF 101 175 h0 h) (hP : P_M_force_J45 h Q') (hq : ∀ r h', Q' r h' → zF 101 175 h0 h' → Q r h') : P_M_force_J45 h Q := by
  unfold P_M_force_J45 at hP ⊢
  exact hq _ _ hP hf
theorem F_M_force {h0 h : zH} {Q' Q : Int → zH → Prop} (hf : zF 101 175 h0 h) (hP : P_M_force h Q') (hq : ∀ r h', Q' r h' → zF 101 175 h0 h' → Q r h') : P_M_force h Q := by
  unfold P_M_force at hP ⊢
  refine F_M_prepare hf hP (fun r1 h2 hP hf => ?_)
  refine F_M_find hf hP (fun r3 h4 hP hf => ?_)
  obtain ⟨n10, hP⟩ := hP
  refine ⟨n10, ?_⟩
  refine F_M_force_L10 hq (fun h9 hP hf => ?_) _ _ hf hP
  refine F_M_force_J45 hf hP hq
theorem F_M_forced {h0 h : zH} {Q' Q : Int → zH → Prop} (hf : zF 101 175 h0 h) (hP : P_M_forced h Q') (hq : ∀ r h', Q' r h' → zF 101 175 h0 h' → Q r h') : P_M_forced h Q := by
  unfold P_M_forced at hP ⊢
  refine F_M_force hf hP (fun r1 h2 hP hf => ?_)
  exact hq _ _ hP hf
theorem F_M_forcedAt {a1 : Int} {h0 h : zH} {Q' Q : Int → zH → Prop} (hf : zF 101 175 h0 h) (hP : P_M_forcedAt a1 h Q') (hq : ∀ r h', Q' r h' → zF 101 175 h0 h' → Q r h') : P_M_forcedAt a1 h Q := by
  unfold P_M_forcedAt at hP ⊢
  refine F_M_force hf hP (fun r1 h2 hP hf => ?_)
  refine F_M_in hf hP (fun r3 h4 hP hf => ?_)
  obtain ⟨ob, hP⟩ := hP
  refine ⟨ob, ?_⟩
  exact hq _ _ hP hf
theorem F_M_why {a1 : Int} {h0 h : zH} {Q' Q : Int → zH → Prop} (hf : zF 101 175 h0 h) (hP : P_M_why a1 h Q') (hq : ∀ r h', Q' r h' → zF 101 175 h0 h' → Q r h') : P_M_why a1 h Q := by
  unfold P_M_why at hP ⊢
  refine F_M_isName hf hP (fun r1 h2 hP hf => ?_)
  refine zif_i (fun c => ?_) (fun c => ?_)
  · have hP := zif_p hP c
    refine F_M_fail hf hP (fun r5 h6 hP hf => ?_)
    exact hq _ _ hP hf
  · have hP := zif_n hP c
    refine F_M_force hf hP (fun r3 h4 hP hf => ?_)
    obtain ⟨ob, hP⟩ := hP
    refine ⟨ob, ?_⟩
    obtain ⟨ob, hP⟩ := hP
    refine ⟨ob, ?_⟩
    exact hq _ _ hP hf
theorem F_M_add {a1 : Int} {h0 h : zH} {Q' Q : Int → zH → Prop} (hf : zF 101 175 h0 h) (hP : P_M_add a1 h Q') (hq : ∀ r h', Q' r h' → zF 101 175 h0 h' → Q r h') : P_M_add a1 h Q := by
  unfold P_M_add at hP ⊢
  intro h1 e_h1
  have hP := hP h1 e_h1
  have hf := zF.w hf e_h1 (by decide) (by decide)
  exact hq _ _ hP hf
theorem F_M_digest_L17 {h0 : zH} {Q' Q : Int → zH → Prop} {k41' k41 : zH → Prop} (hq : ∀ r h', Q' r h' → zF 101 175 h0 h' → Q r h') (hk41 : ∀ h', k41' h' → zF 101 175 h0 h' → k41 h') : ∀ (n17 : Nat) (y1 : Int) (h : zH), zF 101 175 h0 h → P_M_digest_L17 Q' k41' n17 y1 h → P_M_digest_L17 Q k41 n17 y1 h := by
  intro n17
  induction n17 with
  | zero => intro y1 h hf hP; exact absurd hP id
  | succ n17 ih =>
    intro y1 h hf hP
    unfold P_M_digest_L17 at hP ⊢
    refine zif_i (fun c => ?_) (fun c => ?_)
    · have hP := zif_p hP c
      exact hk41 _ hP hf
    · have hP := zif_n hP c
      obtain ⟨ob, hP⟩ := hP
      refine ⟨ob, ?_⟩
      refine F_M_add hf hP (fun r4 h5 hP hf => ?_)
      intro x1_6 e_x1_6
      have hP := hP x1_6 e_x1_6
      exact ih _ _ hf hP
theorem F_M_digest_L58 {y1 : Int} {h0 : zH} {Q' Q : Int → zH → Prop} {k86' k86 : zH → Prop} (hq : ∀ r h', Q' r h' → zF 101 175 h0 h' → Q r h') (hk86 : ∀ h', k86' h' → zF 101 175 h0 h' → k86 h') : ∀ (n58 : Nat) (y2 : Int) (h : zH), zF 101 175 h0 h → P_M_digest_L58 y1 Q' k86' n58 y2 h → P_M_digest_L58 y1 Q k86 n58 y2 h := by
  intro n58
  induction n58 with
  | zero => intro y2 h hf hP; exact absurd hP id
  | succ n58 ih =>
    intro y2 h hf hP
    unfold P_M_digest_L58 at hP ⊢
    obtain ⟨ob, hP⟩ := hP
    refine ⟨ob, ?_⟩
    refine zif_i (fun c => ?_) (fun c => ?_)
    · have hP := zif_p hP c
      exact hk86 _ hP hf
    · have hP := zif_n hP c
      obtain ⟨ob, hP⟩ := hP
      refine ⟨ob, ?_⟩
      refine F_M_add hf hP (fun r9 h10 hP hf => ?_)
      intro x2_11 e_x2_11
      have hP := hP x2_11 e_x2_11
      exact ih _ _ hf hP
theorem F_M_digest_L43 {h0 : zH} {Q' Q : Int → zH → Prop} {k97' k97 : zH → Prop} (hq : ∀ r h', Q' r h' → zF 101 175 h0 h' → Q r h') (hk97 : ∀ h', k97' h' → zF 101 175 h0 h' → k97 h') : ∀ (n43 : Nat) (y1 : Int) (h : zH), zF 101 175 h0 h → P_M_digest_L43 Q' k97' n43 y1 h → P_M_digest_L43 Q k97 n43 y1 h := by
  intro n43
  induction n43 with
  | zero => intro y1 h hf hP; exact absurd hP id
  | succ n43 ih =>
    intro y1 h hf hP
    unfold P_M_digest_L43 at hP ⊢
    refine zif_i (fun c => ?_) (fun c => ?_)
    · have hP := zif_p hP c
      exact hk97 _ hP hf
    · have hP := zif_n hP c
      obtain ⟨ob, hP⟩ := hP
      refine ⟨ob, ?_⟩
      intro x2_8 e_x2_8
      have hP := hP x2_8 e_x2_8
      obtain ⟨n58, hP⟩ := hP
      refine ⟨n58, ?_⟩
      refine F_M_digest_L58 hq (fun h12 hP hf => ?_) _ _ _ hf hP
      refine F_M_add hf hP (fun r13 h14 hP hf => ?_)
      intro x1_15 e_x1_15
      have hP := hP x1_15 e_x1_15
      exact ih _ _ hf hP
theorem F_M_digest_L99 {h0 : zH} {Q' Q : Int → zH → Prop} {k123' k123 : zH → Prop} (hq : ∀ r h', Q' r h' → zF 101 175 h0 h' → Q r h') (hk123 : ∀ h', k123' h' → zF 101 175 h0 h' → k123 h') : ∀ (n99 : Nat) (y1 : Int) (h : zH), zF 101 175 h0 h → P_M_digest_L99 Q' k123' n99 y1 h → P_M_digest_L99 Q k123 n99 y1 h := by
  intro n99
  induction n99 with
  | zero => intro y1 h hf hP; exact absurd hP id
  | succ n99 ih =>
    intro y1 h hf hP
    unfold P_M_digest_L99 at hP ⊢
    refine zif_i (fun c => ?_) (fun c => ?_)
    · have hP := zif_p hP c
      exact hk123 _ hP hf
    · have hP := zif_n hP c
      obtain ⟨ob, hP⟩ := hP
      refine ⟨ob, ?_⟩
      refine F_M_add hf hP (fun r17 h18 hP hf => ?_)
      intro x1_19 e_x1_19
      have hP := hP x1_19 e_x1_19
      exact ih _ _ hf hP
theorem F_M_digest_L161 {y1 : Int} {h0 : zH} {Q' Q : Int → zH → Prop} {k192' k192 : zH → Prop} (hq : ∀ r h', Q' r h' → zF 101 175 h0 h' → Q r h') (hk192 : ∀ h', k192' h' → zF 101 175 h0 h' → k192 h') : ∀ (n161 : Nat) (y2 : Int) (h : zH), zF 101 175 h0 h → P_M_digest_L161 y1 Q' k192' n161 y2 h → P_M_digest_L161 y1 Q k192 n161 y2 h := by
  intro n161
  induction n161 with
  | zero => intro y2 h hf hP; exact absurd hP id
  | succ n161 ih =>
    intro y2 h hf hP
    unfold P_M_digest_L161 at hP ⊢
    obtain ⟨ob, hP⟩ := hP
    refine ⟨ob, ?_⟩
    refine zif_i (fun c => ?_) (fun c => ?_)
    · have hP := zif_p hP c
      exact hk192 _ hP hf
    · have hP := zif_n hP c
      obtain ⟨ob, hP⟩ := hP
      refine ⟨ob, ?_⟩
      refine F_M_add hf hP (fun r25 h26 hP hf => ?_)
      intro x2_27 e_x2_27
      have hP := hP x2_27 e_x2_27
      exact ih _ _ hf hP
theorem F_M_digest_J156 {y1 s0 : Int} {h0 h : zH} {Q' Q : Int → zH → Prop} {k130' k130 : Int → zH → Prop} (hf : zF 101 175 h0 h) (hP : P_M_digest_J156 y1 s0 h Q' k130') (hq : ∀ r h', Q' r h' → zF 101 175 h0 h' → Q r h') (hk130 : ∀ v0 h', k130' v0 h' → zF 101 175 h0 h' → k130 v0 h') : P_M_digest_J156 y1 s0 h Q k130 := by
  unfold P_M_digest_J156 at hP ⊢
  refine F_M_add hf hP (fun r23 h24 hP hf => ?_)
  obtain ⟨n161, hP⟩ := hP
  refine ⟨n161, ?_⟩
  refine F_M_digest_L161 hq (fun h28 hP hf => ?_) _ _ _ hf hP
  intro x1_29 e_x1_29
  have hP := hP x1_29 e_x1_29
  exact hk130 _ _ hP hf
theorem F_M_digest_L130 {h0 : zH} {Q' Q : Int → zH → Prop} {k198' k198 : zH → Prop} (hq : ∀ r h', Q' r h' → zF 101 175 h0 h' → Q r h') (hk198 : ∀ h', k198' h' → zF 101 175 h0 h' → k198 h') : ∀ (n130 : Nat) (y1 : Int) (h : zH), zF 101 175 h0 h → P_M_digest_L130 Q' k198' n130 y1 h → P_M_digest_L130 Q k198 n130 y1 h := by
  intro n130
  induction n130 with
  | zero => intro y1 h hf hP; exact absurd hP id
  | succ n130 ih =>
    intro y1 h hf hP
    unfold P_M_digest_L130 at hP ⊢
    refine zif_i (fun c => ?_) (fun c => ?_)
    · have hP := zif_p hP c
      exact hk198 _ hP hf
    · have hP := zif_n hP c
      obtain ⟨ob, hP⟩ := hP
      refine ⟨ob, ?_⟩
      obtain ⟨ob, hP⟩ := hP
      refine ⟨ob, ?_⟩
      refine F_M_digest_J156 hf hP hq (fun v0 h' hP hf => ih v0 h' hf hP)
theorem F_M_digest_J239 {y1 s0 : Int} {h0 h : zH} {Q' Q : Int → zH → Prop} {k216' k216 : Int → zH → Prop} (hf : zF 101 175 h0 h) (hP : P_M_digest_J239 y1 s0 h Q' k216') (hq : ∀ r h', Q' r h' → zF 101 175 h0 h' → Q r h') (hk216 : ∀ v0 h', k216' v0 h' → zF 101 175 h0 h' → k216 v0 h') : P_M_digest_J239 y1 s0 h Q k216 := by
  unfold P_M_digest_J239 at hP ⊢
  refine F_M_add hf hP (fun r37 h38 hP hf => ?_)
  intro x1_39 e_x1_39
  have hP := hP x1_39 e_x1_39
  exact hk216 _ _ hP hf
theorem F_M_digest_L216 {h0 : zH} {Q' Q : Int → zH → Prop} (hq : ∀ r h', Q' r h' → zF 101 175 h0 h' → Q r h') : ∀ (n216 : Nat) (y1 : Int) (h : zH), zF 101 175 h0 h → P_M_digest_L216 Q' n216 y1 h → P_M_digest_L216 Q n216 y1 h := by
  intro n216
  induction n216 with
  | zero => intro y1 h hf hP; exact absurd hP id
  | succ n216 ih =>
    intro y1 h hf hP
    unfold P_M_digest_L216 at hP ⊢
    refine zif_i (fun c => ?_) (fun c => ?_)
    · have hP := zif_p hP c
      refine F_M_add hf hP (fun r35 h36 hP hf => ?_)
      exact hq _ _ hP hf
    · have hP := zif_n hP c
      obtain ⟨ob, hP⟩ := hP
      refine ⟨ob, ?_⟩
      refine F_M_digest_J239 hf hP hq (fun v0 h' hP hf => ih v0 h' hf hP)
theorem F_M_digest {h0 h : zH} {Q' Q : Int → zH → Prop} (hf : zF 101 175 h0 h) (hP : P_M_digest h Q') (hq : ∀ r h', Q' r h' → zF 101 175 h0 h' → Q r h') : P_M_digest h Q := by
  unfold P_M_digest at hP ⊢
  intro h1 e_h1
  have hP := hP h1 e_h1
  have hf := zF.w hf e_h1 (by decide) (by decide)
  refine F_M_add hf hP (fun r2 h3 hP hf => ?_)
  obtain ⟨n17, hP⟩ := hP
  refine ⟨n17, ?_⟩
  refine F_M_digest_L17 hq (fun h7 hP hf => ?_) _ _ _ hf hP
  obtain ⟨n43, hP⟩ := hP
  refine ⟨n43, ?_⟩
  refine F_M_digest_L43 hq (fun h16 hP hf => ?_) _ _ _ hf hP
  obtain ⟨n99, hP⟩ := hP
  refine ⟨n99, ?_⟩
  refine F_M_digest_L99 hq (fun h20 hP hf => ?_) _ _ _ hf hP
  refine F_M_add hf hP (fun r21 h22 hP hf => ?_)
  obtain ⟨n130, hP⟩ := hP
  refine ⟨n130, ?_⟩
  refine F_M_digest_L130 hq (fun h30 hP hf => ?_) _ _ _ hf hP
  refine F_M_add hf hP (fun r31 h32 hP hf => ?_)
  refine F_M_add hf hP (fun r33 h34 hP hf => ?_)
  obtain ⟨n216, hP⟩ := hP
  refine ⟨n216, ?_⟩
  refine F_M_digest_L216 hq _ _ _ hf hP
theorem F_M_status {h0 h : zH} {Q' Q : Int → zH → Prop} (hf : zF 101 175 h0 h) (hP : P_M_status h Q') (hq : ∀ r h', Q' r h' → zF 101 175 h0 h' → Q r h') : P_M_status h Q := by
  unfold P_M_status at hP ⊢
  exact hq _ _ hP hf
theorem F_M_about {a1 : Int} {h0 h : zH} {Q' Q : Int → zH → Prop} (hf : zF 101 175 h0 h) (hP : P_M_about a1 h Q') (hq : ∀ r h', Q' r h' → zF 101 175 h0 h' → Q r h') : P_M_about a1 h Q := by
  unfold P_M_about at hP ⊢
  refine zif_i (fun c => ?_) (fun c => ?_)
  · have hP := zif_p hP c
    exact hq _ _ hP hf
  · have hP := zif_n hP c
    refine zif_i (fun c => ?_) (fun c => ?_)
    · have hP := zif_p hP c
      exact hq _ _ hP hf
    · have hP := zif_n hP c
      refine zif_i (fun c => ?_) (fun c => ?_)
      · have hP := zif_p hP c
        exact hq _ _ hP hf
      · have hP := zif_n hP c
        refine zif_i (fun c => ?_) (fun c => ?_)
        · have hP := zif_p hP c
          obtain ⟨ob, hP⟩ := hP
          refine ⟨ob, ?_⟩
          exact hq _ _ hP hf
        · have hP := zif_n hP c
          refine zif_i (fun c => ?_) (fun c => ?_)
          · have hP := zif_p hP c
            exact hq _ _ hP hf
          · have hP := zif_n hP c
            refine zif_i (fun c => ?_) (fun c => ?_)
            · have hP := zif_p hP c
              exact hq _ _ hP hf
            · have hP := zif_n hP c
              refine zif_i (fun c => ?_) (fun c => ?_)
              · have hP := zif_p hP c
                exact hq _ _ hP hf
              · have hP := zif_n hP c
                refine zif_i (fun c => ?_) (fun c => ?_)
                · have hP := zif_p hP c
                  exact hq _ _ hP hf
                · have hP := zif_n hP c
                  refine zif_i (fun c => ?_) (fun c => ?_)
                  · have hP := zif_p hP c
                    exact hq _ _ hP hf
                  · have hP := zif_n hP c
                    refine zif_i (fun c => ?_) (fun c => ?_)
                    · have hP := zif_p hP c
                      exact hq _ _ hP hf
                    · have hP := zif_n hP c
                      refine F_M_fail hf hP (fun r1 h2 hP hf => ?_)
                      exact hq _ _ hP hf
