/-! printed by frames.py -/
set_option maxRecDepth 100000
theorem F_E_clear_L18 {e : Int} {h0 : zH} {Q' Q : Int → zH → Prop} {k38' k38 : zH → Prop} (hq : ∀ r h', Q' r h' → zF e (e + 33) h0 h' → Q r h') (hk38 : ∀ h', k38' h' → zF e (e + 33) h0 h' → k38 h') : ∀ (n18 : Nat) (y1 : Int) (h : zH), zF e (e + 33) h0 h → P_E_clear_L18 e Q' k38' n18 y1 h → P_E_clear_L18 e Q k38 n18 y1 h := by
  intro n18
  induction n18 with
  | zero => intro y1 h hf hP; exact absurd hP id
  | succ n18 ih =>
    intro y1 h hf hP
    unfold P_E_clear_L18 at hP ⊢
    refine zif_i (fun c => ?_) (fun c => ?_)
    · have hP := zif_p hP c
      exact hk38 _ hP hf
    · have hP := zif_n hP c
      obtain ⟨ob, hP⟩ := hP
      refine ⟨ob, ?_⟩
      intro h3 e_h3
      have hP := hP h3 e_h3
      have hf := zF.w hf e_h3 (by omega) (by omega)
      intro x1_4 e_x1_4
      have hP := hP x1_4 e_x1_4
      exact ih _ _ hf hP
theorem F_E_clear_L40 {e : Int} {h0 : zH} {Q' Q : Int → zH → Prop} {k59' k59 : zH → Prop} (hq : ∀ r h', Q' r h' → zF e (e + 33) h0 h' → Q r h') (hk59 : ∀ h', k59' h' → zF e (e + 33) h0 h' → k59 h') : ∀ (n40 : Nat) (y1 : Int) (h : zH), zF e (e + 33) h0 h → P_E_clear_L40 e Q' k59' n40 y1 h → P_E_clear_L40 e Q k59 n40 y1 h := by
  intro n40
  induction n40 with
  | zero => intro y1 h hf hP; exact absurd hP id
  | succ n40 ih =>
    intro y1 h hf hP
    unfold P_E_clear_L40 at hP ⊢
    refine zif_i (fun c => ?_) (fun c => ?_)
    · have hP := zif_p hP c
      exact hk59 _ hP hf
    · have hP := zif_n hP c
      obtain ⟨ob, hP⟩ := hP
      refine ⟨ob, ?_⟩
      intro h6 e_h6
      have hP := hP h6 e_h6
      have hf := zF.w hf e_h6 (by omega) (by omega)
      intro x1_7 e_x1_7
      have hP := hP x1_7 e_x1_7
      exact ih _ _ hf hP
theorem F_E_clear_L61 {e : Int} {h0 : zH} {Q' Q : Int → zH → Prop} {k85' k85 : zH → Prop} (hq : ∀ r h', Q' r h' → zF e (e + 33) h0 h' → Q r h') (hk85 : ∀ h', k85' h' → zF e (e + 33) h0 h' → k85 h') : ∀ (n61 : Nat) (y1 : Int) (h : zH), zF e (e + 33) h0 h → P_E_clear_L61 e Q' k85' n61 y1 h → P_E_clear_L61 e Q k85 n61 y1 h := by
  intro n61
  induction n61 with
  | zero => intro y1 h hf hP; exact absurd hP id
  | succ n61 ih =>
    intro y1 h hf hP
    unfold P_E_clear_L61 at hP ⊢
    refine zif_i (fun c => ?_) (fun c => ?_)
    · have hP := zif_p hP c
      exact hk85 _ hP hf
    · have hP := zif_n hP c
      obtain ⟨ob, hP⟩ := hP
      refine ⟨ob, ?_⟩
      intro h9 e_h9
      have hP := hP h9 e_h9
      have hf := zF.w hf e_h9 (by omega) (by omega)
      intro x1_10 e_x1_10
      have hP := hP x1_10 e_x1_10
      exact ih _ _ hf hP
theorem F_E_clear_L87 {e : Int} {h0 : zH} {Q' Q : Int → zH → Prop} {k136' k136 : zH → Prop} (hq : ∀ r h', Q' r h' → zF e (e + 33) h0 h' → Q r h') (hk136 : ∀ h', k136' h' → zF e (e + 33) h0 h' → k136 h') : ∀ (n87 : Nat) (y1 : Int) (h : zH), zF e (e + 33) h0 h → P_E_clear_L87 e Q' k136' n87 y1 h → P_E_clear_L87 e Q k136 n87 y1 h := by
  intro n87
  induction n87 with
  | zero => intro y1 h hf hP; exact absurd hP id
  | succ n87 ih =>
    intro y1 h hf hP
    unfold P_E_clear_L87 at hP ⊢
    refine zif_i (fun c => ?_) (fun c => ?_)
    · have hP := zif_p hP c
      exact hk136 _ hP hf
    · have hP := zif_n hP c
      obtain ⟨ob, hP⟩ := hP
      refine ⟨ob, ?_⟩
      intro h12 e_h12
      have hP := hP h12 e_h12
      have hf := zF.w hf e_h12 (by omega) (by omega)
      obtain ⟨ob, hP⟩ := hP
      refine ⟨ob, ?_⟩
      intro h13 e_h13
      have hP := hP h13 e_h13
      have hf := zF.w hf e_h13 (by omega) (by omega)
      obtain ⟨ob, hP⟩ := hP
      refine ⟨ob, ?_⟩
      obtain ⟨ob, hP⟩ := hP
      refine ⟨ob, ?_⟩
      obtain ⟨ob, hP⟩ := hP
      refine ⟨ob, ?_⟩
      intro h14 e_h14
      have hP := hP h14 e_h14
      have hf := zF.w hf e_h14 (by omega) (by omega)
      intro x1_15 e_x1_15
      have hP := hP x1_15 e_x1_15
      exact ih _ _ hf hP
theorem F_E_clear {e : Int} {h0 h : zH} {Q' Q : Int → zH → Prop} (hf : zF e (e + 33) h0 h) (hP : P_E_clear e h Q') (hq : ∀ r h', Q' r h' → zF e (e + 33) h0 h' → Q r h') : P_E_clear e h Q := by
  unfold P_E_clear at hP ⊢
  intro h1 e_h1
  have hP := hP h1 e_h1
  have hf := zF.w hf e_h1 (by omega) (by omega)
  intro h2 e_h2
  have hP := hP h2 e_h2
  have hf := zF.w hf e_h2 (by omega) (by omega)
  obtain ⟨n18, hP⟩ := hP
  refine ⟨n18, ?_⟩
  refine F_E_clear_L18 hq (fun h5 hP hf => ?_) _ _ _ hf hP
  obtain ⟨n40, hP⟩ := hP
  refine ⟨n40, ?_⟩
  refine F_E_clear_L40 hq (fun h8 hP hf => ?_) _ _ _ hf hP
  obtain ⟨n61, hP⟩ := hP
  refine ⟨n61, ?_⟩
  refine F_E_clear_L61 hq (fun h11 hP hf => ?_) _ _ _ hf hP
  obtain ⟨n87, hP⟩ := hP
  refine ⟨n87, ?_⟩
  refine F_E_clear_L87 hq (fun h16 hP hf => ?_) _ _ _ hf hP
  intro h17 e_h17
  have hP := hP h17 e_h17
  have hf := zF.w hf e_h17 (by omega) (by omega)
  intro h18 e_h18
  have hP := hP h18 e_h18
  have hf := zF.w hf e_h18 (by omega) (by omega)
  intro h19 e_h19
  have hP := hP h19 e_h19
  have hf := zF.w hf e_h19 (by omega) (by omega)
  intro h20 e_h20
  have hP := hP h20 e_h20
  have hf := zF.w hf e_h20 (by omega) (by omega)
  intro h21 e_h21
  have hP := hP h21 e_h21
  have hf := zF.w hf e_h21 (by omega) (by omega)
  intro h22 e_h22
  have hP := hP h22 e_h22
  have hf := zF.w hf e_h22 (by omega) (by omega)
  intro h23 e_h23
  have hP := hP h23 e_h23
  have hf := zF.w hf e_h23 (by omega) (by omega)
  intro h24 e_h24
  have hP := hP h24 e_h24
  have hf := zF.w hf e_h24 (by omega) (by omega)
  intro h25 e_h25
  have hP := hP h25 e_h25
  have hf := zF.w hf e_h25 (by omega) (by omega)
  intro h26 e_h26
  have hP := hP h26 e_h26
  have hf := zF.w hf e_h26 (by omega) (by omega)
  intro h27 e_h27
  have hP := hP h27 e_h27
  have hf := zF.w hf e_h27 (by omega) (by omega)
  intro h28 e_h28
  have hP := hP h28 e_h28
  have hf := zF.w hf e_h28 (by omega) (by omega)
  intro h29 e_h29
  have hP := hP h29 e_h29
  have hf := zF.w hf e_h29 (by omega) (by omega)
  intro h30 e_h30
  have hP := hP h30 e_h30
  have hf := zF.w hf e_h30 (by omega) (by omega)
  intro h31 e_h31
  have hP := hP h31 e_h31
  have hf := zF.w hf e_h31 (by omega) (by omega)
  intro h32 e_h32
  have hP := hP h32 e_h32
  have hf := zF.w hf e_h32 (by omega) (by omega)
  intro h33 e_h33
  have hP := hP h33 e_h33
  have hf := zF.w hf e_h33 (by omega) (by omega)
  intro h34 e_h34
  have hP := hP h34 e_h34
  have hf := zF.w hf e_h34 (by omega) (by omega)
  intro h35 e_h35
  have hP := hP h35 e_h35
  have hf := zF.w hf e_h35 (by omega) (by omega)
  exact hq _ _ hP hf
theorem F_E_index {e a1 : Int} {h0 h : zH} {Q' Q : Int → zH → Prop} (hf : zF e (e + 33) h0 h) (hP : P_E_index e a1 h Q') (hq : ∀ r h', Q' r h' → zF e (e + 33) h0 h' → Q r h') : P_E_index e a1 h Q := by
  unfold P_E_index at hP ⊢
  exact hq _ _ hP hf
theorem F_E_isTrue_J18 {e s0 s1 : Int} {h0 h : zH} {Q' Q : Int → zH → Prop} (hf : zF e (e + 33) h0 h) (hP : P_E_isTrue_J18 e s0 s1 h Q') (hq : ∀ r h', Q' r h' → zF e (e + 33) h0 h' → Q r h') : P_E_isTrue_J18 e s0 s1 h Q := by
  unfold P_E_isTrue_J18 at hP ⊢
  exact hq _ _ hP hf
theorem F_E_isTrue {e a1 : Int} {h0 h : zH} {Q' Q : Int → zH → Prop} (hf : zF e (e + 33) h0 h) (hP : P_E_isTrue e a1 h Q') (hq : ∀ r h', Q' r h' → zF e (e + 33) h0 h' → Q r h') : P_E_isTrue e a1 h Q := by
  unfold P_E_isTrue at hP ⊢
  obtain ⟨ob, hP⟩ := hP
  refine ⟨ob, ?_⟩
  refine F_E_isTrue_J18 hf hP hq
theorem F_E_look_J40 {e y1 s0 : Int} {h0 h : zH} {Q' Q : Int → zH → Prop} (hf : zF e (e + 33) h0 h) (hP : P_E_look_J40 e y1 s0 h Q') (hq : ∀ r h', Q' r h' → zF e (e + 33) h0 h' → Q r h') : P_E_look_J40 e y1 s0 h Q := by
  unfold P_E_look_J40 at hP ⊢
  intro x3_1 e_x3_1
  have hP := hP x3_1 e_x3_1
  obtain ⟨ob, hP⟩ := hP
  refine ⟨ob, ?_⟩
  obtain ⟨ob, hP⟩ := hP
  refine ⟨ob, ?_⟩
  intro h2 e_h2
  have hP := hP h2 e_h2
  have hf := zF.w hf e_h2 (by omega) (by omega)
  exact hq _ _ hP hf
theorem F_E_look {e a1 : Int} {h0 h : zH} {Q' Q : Int → zH → Prop} (hf : zF e (e + 33) h0 h) (hP : P_E_look e a1 h Q') (hq : ∀ r h', Q' r h' → zF e (e + 33) h0 h' → Q r h') : P_E_look e a1 h Q := by
  unfold P_E_look at hP ⊢
  obtain ⟨ob, hP⟩ := hP
  refine ⟨ob, ?_⟩
  obtain ⟨ob, hP⟩ := hP
  refine ⟨ob, ?_⟩
  refine F_E_look_J40 hf hP hq
theorem F_E_lay_J168 {e y1 y2 y4 y5 s0 s1 s2 : Int} {h0 h : zH} {Q' Q : Int → zH → Prop} {k44' k44 : Int → zH → Prop} (hf : zF e (e + 33) h0 h) (hP : P_E_lay_J168 e y1 y2 y4 y5 s0 s1 s2 h Q' k44') (hq : ∀ r h', Q' r h' → zF e (e + 33) h0 h' → Q r h') (hk44 : ∀ v0 h', k44' v0 h' → zF e (e + 33) h0 h' → k44 v0 h') : P_E_lay_J168 e y1 y2 y4 y5 s0 s1 s2 h Q k44 := by
  unfold P_E_lay_J168 at hP ⊢
  obtain ⟨ob, hP⟩ := hP
  refine ⟨ob, ?_⟩
  intro h23 e_h23
  have hP := hP h23 e_h23
  have hf := zF.w hf e_h23 (by omega) (by omega)
  intro x5_24 e_x5_24
  have hP := hP x5_24 e_x5_24
  exact hk44 _ _ hP hf
theorem F_E_lay_J144 {e y1 y2 y4 y5 y6 s0 s1 s2 : Int} {h0 h : zH} {Q' Q : Int → zH → Prop} {k44' k44 : Int → zH → Prop} (hf : zF e (e + 33) h0 h) (hP : P_E_lay_J144 e y1 y2 y4 y5 y6 s0 s1 s2 h Q' k44') (hq : ∀ r h', Q' r h' → zF e (e + 33) h0 h' → Q r h') (hk44 : ∀ v0 h', k44' v0 h' → zF e (e + 33) h0 h' → k44 v0 h') : P_E_lay_J144 e y1 y2 y4 y5 y6 s0 s1 s2 h Q k44 := by
  unfold P_E_lay_J144 at hP ⊢
  obtain ⟨ob, hP⟩ := hP
  refine ⟨ob, ?_⟩
  intro h20 e_h20
  have hP := hP h20 e_h20
  have hf := zF.w hf e_h20 (by omega) (by omega)
  obtain ⟨ob, hP⟩ := hP
  refine ⟨ob, ?_⟩
  refine F_E_isTrue hf hP (fun r21 h22 hP hf => ?_)
  refine F_E_lay_J168 hf hP hq hk44
theorem F_E_lay_L44 {e y1 y2 y4 : Int} {h0 : zH} {Q' Q : Int → zH → Prop} (hq : ∀ r h', Q' r h' → zF e (e + 33) h0 h' → Q r h') : ∀ (n44 : Nat) (y5 : Int) (h : zH), zF e (e + 33) h0 h → P_E_lay_L44 e y1 y2 y4 Q' n44 y5 h → P_E_lay_L44 e y1 y2 y4 Q n44 y5 h := by
  intro n44
  induction n44 with
  | zero => intro y5 h hf hP; exact absurd hP id
  | succ n44 ih =>
    intro y5 h hf hP
    unfold P_E_lay_L44 at hP ⊢
    refine zif_i (fun c => ?_) (fun c => ?_)
    · have hP := zif_p hP c
      refine F_E_look hf hP (fun r6 h7 hP hf => ?_)
      exact hq _ _ hP hf
    · have hP := zif_n hP c
      obtain ⟨ob, hP⟩ := hP
      refine ⟨ob, ?_⟩
      intro x6_8 e_x6_8
      have hP := hP x6_8 e_x6_8
      obtain ⟨ob, hP⟩ := hP
      refine ⟨ob, ?_⟩
      intro h9 e_h9
      have hP := hP h9 e_h9
      have hf := zF.w hf e_h9 (by omega) (by omega)
      obtain ⟨ob, hP⟩ := hP
      refine ⟨ob, ?_⟩
      intro h10 e_h10
      have hP := hP h10 e_h10
      have hf := zF.w hf e_h10 (by omega) (by omega)
      refine F_E_index hf hP (fun r11 h12 hP hf => ?_)
      obtain ⟨ob, hP⟩ := hP
      refine ⟨ob, ?_⟩
      obtain ⟨ob, hP⟩ := hP
      refine ⟨ob, ?_⟩
      intro h13 e_h13
      have hP := hP h13 e_h13
      have hf := zF.w hf e_h13 (by omega) (by omega)
      refine F_E_index hf hP (fun r14 h15 hP hf => ?_)
      obtain ⟨ob, hP⟩ := hP
      refine ⟨ob, ?_⟩
      intro h16 e_h16
      have hP := hP h16 e_h16
      have hf := zF.w hf e_h16 (by omega) (by omega)
      intro h17 e_h17
      have hP := hP h17 e_h17
      have hf := zF.w hf e_h17 (by omega) (by omega)
      obtain ⟨ob, hP⟩ := hP
      refine ⟨ob, ?_⟩
      refine F_E_isTrue hf hP (fun r18 h19 hP hf => ?_)
      refine F_E_lay_J144 hf hP hq (fun v0 h' hP hf => ih v0 h' hf hP)
theorem F_E_lay {e a1 a2 a3 a4 : Int} {h0 h : zH} {Q' Q : Int → zH → Prop} (hf : zF e (e + 33) h0 h) (hP : P_E_lay e a1 a2 a3 a4 h Q') (hq : ∀ r h', Q' r h' → zF e (e + 33) h0 h' → Q r h') : P_E_lay e a1 a2 a3 a4 h Q := by
  unfold P_E_lay at hP ⊢
  obtain ⟨ob, hP⟩ := hP
  refine ⟨ob, ?_⟩
  intro h1 e_h1
  have hP := hP h1 e_h1
  have hf := zF.w hf e_h1 (by omega) (by omega)
  obtain ⟨ob, hP⟩ := hP
  refine ⟨ob, ?_⟩
  intro h2 e_h2
  have hP := hP h2 e_h2
  have hf := zF.w hf e_h2 (by omega) (by omega)
  obtain ⟨ob, hP⟩ := hP
  refine ⟨ob, ?_⟩
  intro h3 e_h3
  have hP := hP h3 e_h3
  have hf := zF.w hf e_h3 (by omega) (by omega)
  obtain ⟨ob, hP⟩ := hP
  refine ⟨ob, ?_⟩
  intro h4 e_h4
  have hP := hP h4 e_h4
  have hf := zF.w hf e_h4 (by omega) (by omega)
  obtain ⟨ob, hP⟩ := hP
  refine ⟨ob, ?_⟩
  intro h5 e_h5
  have hP := hP h5 e_h5
  have hf := zF.w hf e_h5 (by omega) (by omega)
  obtain ⟨n44, hP⟩ := hP
  refine ⟨n44, ?_⟩
  refine F_E_lay_L44 hq _ _ _ hf hP
theorem F_E_layCase_J55 {e y1 y2 : Int} {h0 h : zH} {Q' Q : Int → zH → Prop} {k2' k2 : Int → zH → Prop} (hf : zF e (e + 33) h0 h) (hP : P_E_layCase_J55 e y1 y2 h Q' k2') (hq : ∀ r h', Q' r h' → zF e (e + 33) h0 h' → Q r h') (hk2 : ∀ v0 h', k2' v0 h' → zF e (e + 33) h0 h' → k2 v0 h') : P_E_layCase_J55 e y1 y2 h Q k2 := by
  unfold P_E_layCase_J55 at hP ⊢
  intro x2_3 e_x2_3
  have hP := hP x2_3 e_x2_3
  exact hk2 _ _ hP hf
theorem F_E_layCase_J23 {e y1 y2 : Int} {h0 h : zH} {Q' Q : Int → zH → Prop} {k2' k2 : Int → zH → Prop} (hf : zF e (e + 33) h0 h) (hP : P_E_layCase_J23 e y1 y2 h Q' k2') (hq : ∀ r h', Q' r h' → zF e (e + 33) h0 h' → Q r h') (hk2 : ∀ v0 h', k2' v0 h' → zF e (e + 33) h0 h' → k2 v0 h') : P_E_layCase_J23 e y1 y2 h Q k2 := by
  unfold P_E_layCase_J23 at hP ⊢
  obtain ⟨ob, hP⟩ := hP
  refine ⟨ob, ?_⟩
  obtain ⟨ob, hP⟩ := hP
  refine ⟨ob, ?_⟩
  refine F_E_lay hf hP (fun r1 h2 hP hf => ?_)
  refine F_E_layCase_J55 hf hP hq hk2
theorem F_E_layCase_L2 {e y1 : Int} {h0 : zH} {Q' Q : Int → zH → Prop} (hq : ∀ r h', Q' r h' → zF e (e + 33) h0 h' → Q r h') : ∀ (n2 : Nat) (y2 : Int) (h : zH), zF e (e + 33) h0 h → P_E_layCase_L2 e y1 Q' n2 y2 h → P_E_layCase_L2 e y1 Q n2 y2 h := by
  intro n2
  induction n2 with
  | zero => intro y2 h hf hP; exact absurd hP id
  | succ n2 ih =>
    intro y2 h hf hP
    unfold P_E_layCase_L2 at hP ⊢
    refine zif_i (fun c => ?_) (fun c => ?_)
    · have hP := zif_p hP c
      exact hq _ _ hP hf
    · have hP := zif_n hP c
      refine zif_i (fun c => ?_) (fun c => ?_)
      · have hP := zif_p hP c
        refine F_E_layCase_J23 hf hP hq (fun v0 h' hP hf => ih v0 h' hf hP)
      · have hP := zif_n hP c
        obtain ⟨ob, hP⟩ := hP
        refine ⟨ob, ?_⟩
        refine zif_i (fun c => ?_) (fun c => ?_)
        · have hP := zif_p hP c
          refine F_E_layCase_J23 hf hP hq (fun v0 h' hP hf => ih v0 h' hf hP)
        · have hP := zif_n hP c
          refine F_E_layCase_J55 hf hP hq (fun v0 h' hP hf => ih v0 h' hf hP)
theorem F_E_layCase {e a1 : Int} {h0 h : zH} {Q' Q : Int → zH → Prop} (hf : zF e (e + 33) h0 h) (hP : P_E_layCase e a1 h Q') (hq : ∀ r h', Q' r h' → zF e (e + 33) h0 h' → Q r h') : P_E_layCase e a1 h Q := by
  unfold P_E_layCase at hP ⊢
  obtain ⟨n2, hP⟩ := hP
  refine ⟨n2, ?_⟩
  refine F_E_layCase_L2 hq _ _ _ hf hP
theorem F_JI_numberOfTrailingZeros_J62 {y0 y1 : Int} {lo hi : Int} {h0 h : zH} {Q' Q : Int → zH → Prop} (hf : zF lo hi h0 h) (hP : P_JI_numberOfTrailingZeros_J62 y0 y1 h Q') (hq : ∀ r h', Q' r h' → zF lo hi h0 h' → Q r h') : P_JI_numberOfTrailingZeros_J62 y0 y1 h Q := by
  unfold P_JI_numberOfTrailingZeros_J62 at hP ⊢
  refine zif_i (fun c => ?_) (fun c => ?_)
  · have hP := zif_p hP c
    exact hq _ _ hP hf
  · have hP := zif_n hP c
    intro x1_2 e_x1_2
    have hP := hP x1_2 e_x1_2
    intro x0_3 e_x0_3
    have hP := hP x0_3 e_x0_3
    exact hq _ _ hP hf
theorem F_JI_numberOfTrailingZeros_J49 {y0 y1 : Int} {lo hi : Int} {h0 h : zH} {Q' Q : Int → zH → Prop} (hf : zF lo hi h0 h) (hP : P_JI_numberOfTrailingZeros_J49 y0 y1 h Q') (hq : ∀ r h', Q' r h' → zF lo hi h0 h' → Q r h') : P_JI_numberOfTrailingZeros_J49 y0 y1 h Q := by
  unfold P_JI_numberOfTrailingZeros_J49 at hP ⊢
  refine zif_i (fun c => ?_) (fun c => ?_)
  · have hP := zif_p hP c
    refine F_JI_numberOfTrailingZeros_J62 hf hP hq
  · have hP := zif_n hP c
    intro x1_4 e_x1_4
    have hP := hP x1_4 e_x1_4
    intro x0_5 e_x0_5
    have hP := hP x0_5 e_x0_5
    refine F_JI_numberOfTrailingZeros_J62 hf hP hq
theorem F_JI_numberOfTrailingZeros_J34 {y0 y1 : Int} {lo hi : Int} {h0 h : zH} {Q' Q : Int → zH → Prop} (hf : zF lo hi h0 h) (hP : P_JI_numberOfTrailingZeros_J34 y0 y1 h Q') (hq : ∀ r h', Q' r h' → zF lo hi h0 h' → Q r h') : P_JI_numberOfTrailingZeros_J34 y0 y1 h Q := by
  unfold P_JI_numberOfTrailingZeros_J34 at hP ⊢
  refine zif_i (fun c => ?_) (fun c => ?_)
  · have hP := zif_p hP c
    refine F_JI_numberOfTrailingZeros_J49 hf hP hq
  · have hP := zif_n hP c
    intro x1_6 e_x1_6
    have hP := hP x1_6 e_x1_6
    intro x0_7 e_x0_7
    have hP := hP x0_7 e_x0_7
    refine F_JI_numberOfTrailingZeros_J49 hf hP hq
theorem F_JI_numberOfTrailingZeros {a1 : Int} {lo hi : Int} {h0 h : zH} {Q' Q : Int → zH → Prop} (hf : zF lo hi h0 h) (hP : P_JI_numberOfTrailingZeros a1 h Q') (hq : ∀ r h', Q' r h' → zF lo hi h0 h' → Q r h') : P_JI_numberOfTrailingZeros a1 h Q := by
  unfold P_JI_numberOfTrailingZeros at hP ⊢
  intro x0_1 e_x0_1
  have hP := hP x0_1 e_x0_1
  refine zif_i (fun c => ?_) (fun c => ?_)
  · have hP := zif_p hP c
    refine zif_i (fun c => ?_) (fun c => ?_)
    · have hP := zif_p hP c
      refine F_JI_numberOfTrailingZeros_J34 hf hP hq
    · have hP := zif_n hP c
      intro x1_8 e_x1_8
      have hP := hP x1_8 e_x1_8
      intro x0_9 e_x0_9
      have hP := hP x0_9 e_x0_9
      refine F_JI_numberOfTrailingZeros_J34 hf hP hq
  · have hP := zif_n hP c
    exact hq _ _ hP hf
theorem F_JL_numberOfTrailingZeros {a1 : Int} {lo hi : Int} {h0 h : zH} {Q' Q : Int → zH → Prop} (hf : zF lo hi h0 h) (hP : P_JL_numberOfTrailingZeros a1 h Q') (hq : ∀ r h', Q' r h' → zF lo hi h0 h' → Q r h') : P_JL_numberOfTrailingZeros a1 h Q := by
  unfold P_JL_numberOfTrailingZeros at hP ⊢
  intro x2_1 e_x2_1
  have hP := hP x2_1 e_x2_1
  refine zif_i (fun c => ?_) (fun c => ?_)
  · have hP := zif_p hP c
    refine F_JI_numberOfTrailingZeros hf hP (fun r4 h5 hP hf => ?_)
    exact hq _ _ hP hf
  · have hP := zif_n hP c
    refine F_JI_numberOfTrailingZeros hf hP (fun r2 h3 hP hf => ?_)
    exact hq _ _ hP hf
theorem F_E_firstQuarrel_L15 {e y1 : Int} {h0 : zH} {Q' Q : Int → zH → Prop} {k61' k61 : zH → Prop} (hq : ∀ r h', Q' r h' → zF e (e + 33) h0 h' → Q r h') (hk61 : ∀ h', k61' h' → zF e (e + 33) h0 h' → k61 h') : ∀ (n15 : Nat) (y2 : Int) (h : zH), zF e (e + 33) h0 h → P_E_firstQuarrel_L15 e y1 Q' k61' n15 y2 h → P_E_firstQuarrel_L15 e y1 Q k61 n15 y2 h := by
  intro n15
  induction n15 with
  | zero => intro y2 h hf hP; exact absurd hP id
  | succ n15 ih =>
    intro y2 h hf hP
    unfold P_E_firstQuarrel_L15 at hP ⊢
    refine zif_i (fun c => ?_) (fun c => ?_)
    · have hP := zif_p hP c
      exact hk61 _ hP hf
    · have hP := zif_n hP c
      refine F_JL_numberOfTrailingZeros hf hP (fun r2 h3 hP hf => ?_)
      intro x4_4 e_x4_4
      have hP := hP x4_4 e_x4_4
      obtain ⟨ob, hP⟩ := hP
      refine ⟨ob, ?_⟩
      obtain ⟨ob, hP⟩ := hP
      refine ⟨ob, ?_⟩
      refine zif_i (fun c => ?_) (fun c => ?_)
      · have hP := zif_p hP c
        exact hq _ _ hP hf
      · have hP := zif_n hP c
        intro x2_5 e_x2_5
        have hP := hP x2_5 e_x2_5
        exact ih _ _ hf hP
theorem F_E_firstQuarrel_L2 {e : Int} {h0 : zH} {Q' Q : Int → zH → Prop} (hq : ∀ r h', Q' r h' → zF e (e + 33) h0 h' → Q r h') : ∀ (n2 : Nat) (y1 : Int) (h : zH), zF e (e + 33) h0 h → P_E_firstQuarrel_L2 e Q' n2 y1 h → P_E_firstQuarrel_L2 e Q n2 y1 h := by
  intro n2
  induction n2 with
  | zero => intro y1 h hf hP; exact absurd hP id
  | succ n2 ih =>
    intro y1 h hf hP
    unfold P_E_firstQuarrel_L2 at hP ⊢
    refine zif_i (fun c => ?_) (fun c => ?_)
    · have hP := zif_p hP c
      exact hq _ _ hP hf
    · have hP := zif_n hP c
      obtain ⟨ob, hP⟩ := hP
      refine ⟨ob, ?_⟩
      intro x2_1 e_x2_1
      have hP := hP x2_1 e_x2_1
      obtain ⟨n15, hP⟩ := hP
      refine ⟨n15, ?_⟩
      refine F_E_firstQuarrel_L15 hq (fun h6 hP hf => ?_) _ _ _ hf hP
      intro x1_7 e_x1_7
      have hP := hP x1_7 e_x1_7
      exact ih _ _ hf hP
theorem F_E_firstQuarrel {e : Int} {h0 h : zH} {Q' Q : Int → zH → Prop} (hf : zF e (e + 33) h0 h) (hP : P_E_firstQuarrel e h Q') (hq : ∀ r h', Q' r h' → zF e (e + 33) h0 h' → Q r h') : P_E_firstQuarrel e h Q := by
  unfold P_E_firstQuarrel at hP ⊢
  obtain ⟨n2, hP⟩ := hP
  refine ⟨n2, ?_⟩
  refine F_E_firstQuarrel_L2 hq _ _ _ hf hP
theorem F_E_firstForcing_L2 {e : Int} {h0 : zH} {Q' Q : Int → zH → Prop} {k19' k19 : Int → zH → Prop} (hq : ∀ r h', Q' r h' → zF e (e + 33) h0 h' → Q r h') (hk19 : ∀ v0 h', k19' v0 h' → zF e (e + 33) h0 h' → k19 v0 h') : ∀ (n2 : Nat) (y1 : Int) (h : zH), zF e (e + 33) h0 h → P_E_firstForcing_L2 e Q' k19' n2 y1 h → P_E_firstForcing_L2 e Q k19 n2 y1 h := by
  intro n2
  induction n2 with
  | zero => intro y1 h hf hP; exact absurd hP id
  | succ n2 ih =>
    intro y1 h hf hP
    unfold P_E_firstForcing_L2 at hP ⊢
    refine zif_i (fun c => ?_) (fun c => ?_)
    · have hP := zif_p hP c
      exact hq _ _ hP hf
    · have hP := zif_n hP c
      obtain ⟨ob, hP⟩ := hP
      refine ⟨ob, ?_⟩
      refine zif_i (fun c => ?_) (fun c => ?_)
      · have hP := zif_p hP c
        intro x1_1 e_x1_1
        have hP := hP x1_1 e_x1_1
        exact ih _ _ hf hP
      · have hP := zif_n hP c
        exact hk19 _ _ hP hf
theorem F_E_firstForcing {e : Int} {h0 h : zH} {Q' Q : Int → zH → Prop} (hf : zF e (e + 33) h0 h) (hP : P_E_firstForcing e h Q') (hq : ∀ r h', Q' r h' → zF e (e + 33) h0 h' → Q r h') : P_E_firstForcing e h Q := by
  unfold P_E_firstForcing at hP ⊢
  obtain ⟨n2, hP⟩ := hP
  refine ⟨n2, ?_⟩
  refine F_E_firstForcing_L2 hq (fun u1_19 h2 hP hf => ?_) _ _ _ hf hP
  obtain ⟨ob, hP⟩ := hP
  refine ⟨ob, ?_⟩
  refine F_JL_numberOfTrailingZeros hf hP (fun r3 h4 hP hf => ?_)
  exact hq _ _ hP hf
theorem F_E_step {e : Int} {h0 h : zH} {Q' Q : Int → zH → Prop} (hf : zF e (e + 33) h0 h) (hP : P_E_step e h Q') (hq : ∀ r h', Q' r h' → zF e (e + 33) h0 h' → Q r h') : P_E_step e h Q := by
  unfold P_E_step at hP ⊢
  intro h1 e_h1
  have hP := hP h1 e_h1
  have hf := zF.w hf e_h1 (by omega) (by omega)
  intro h2 e_h2
  have hP := hP h2 e_h2
  have hf := zF.w hf e_h2 (by omega) (by omega)
  exact hq _ _ hP hf
theorem F_E_isOpen {e a1 : Int} {h0 h : zH} {Q' Q : Int → zH → Prop} (hf : zF e (e + 33) h0 h) (hP : P_E_isOpen e a1 h Q') (hq : ∀ r h', Q' r h' → zF e (e + 33) h0 h' → Q r h') : P_E_isOpen e a1 h Q := by
  unfold P_E_isOpen at hP ⊢
  obtain ⟨ob, hP⟩ := hP
  refine ⟨ob, ?_⟩
  exact hq _ _ hP hf
theorem F_E_openOf_L7 {e : Int} {h0 : zH} {Q' Q : Int → zH → Prop} (hq : ∀ r h', Q' r h' → zF e (e + 33) h0 h' → Q r h') : ∀ (n7 : Nat) (y2 : Int) (h : zH), zF e (e + 33) h0 h → P_E_openOf_L7 e Q' n7 y2 h → P_E_openOf_L7 e Q n7 y2 h := by
  intro n7
  induction n7 with
  | zero => intro y2 h hf hP; exact absurd hP id
  | succ n7 ih =>
    intro y2 h hf hP
    unfold P_E_openOf_L7 at hP ⊢
    obtain ⟨ob, hP⟩ := hP
    refine ⟨ob, ?_⟩
    refine F_E_isOpen hf hP (fun r2 h3 hP hf => ?_)
    refine zif_i (fun c => ?_) (fun c => ?_)
    · have hP := zif_p hP c
      intro x2_4 e_x2_4
      have hP := hP x2_4 e_x2_4
      exact ih _ _ hf hP
    · have hP := zif_n hP c
      obtain ⟨ob, hP⟩ := hP
      refine ⟨ob, ?_⟩
      exact hq _ _ hP hf
theorem F_E_openOf {e a1 : Int} {h0 h : zH} {Q' Q : Int → zH → Prop} (hf : zF e (e + 33) h0 h) (hP : P_E_openOf e a1 h Q') (hq : ∀ r h', Q' r h' → zF e (e + 33) h0 h' → Q r h') : P_E_openOf e a1 h Q := by
  unfold P_E_openOf at hP ⊢
  obtain ⟨ob, hP⟩ := hP
  refine ⟨ob, ?_⟩
  intro x2_1 e_x2_1
  have hP := hP x2_1 e_x2_1
  obtain ⟨n7, hP⟩ := hP
  refine ⟨n7, ?_⟩
  refine F_E_openOf_L7 hq _ _ _ hf hP
theorem F_E_addSource_L37 {e y1 y2 y3 : Int} (hy : e ≤ y1 ∧ y1 < e + 33) {h0 : zH} {Q' Q : Int → zH → Prop} (hq : ∀ r h', Q' r h' → zF e (e + 33) h0 h' → Q r h') : ∀ (n37 : Nat) (y4 : Int) (h : zH), zF e (e + 33) h0 h → P_E_addSource_L37 e y1 y2 y3 Q' n37 y4 h → P_E_addSource_L37 e y1 y2 y3 Q n37 y4 h := by
  intro n37
  induction n37 with
  | zero => intro y4 h hf hP; exact absurd hP id
  | succ n37 ih =>
    intro y4 h hf hP
    unfold P_E_addSource_L37 at hP ⊢
    refine zif_i (fun c => ?_) (fun c => ?_)
    · have hP := zif_p hP c
      exact hq _ _ hP hf
    · have hP := zif_n hP c
      obtain ⟨ob, hP⟩ := hP
      refine ⟨ob, ?_⟩
      obtain ⟨ob, hP⟩ := hP
      refine ⟨ob, ?_⟩
      obtain ⟨ob, hP⟩ := hP
      refine ⟨ob, ?_⟩
      intro h1 e_h1
      have hP := hP h1 e_h1
      have hf := zF.w hf e_h1 hy.1 hy.2
      intro x4_2 e_x4_2
      have hP := hP x4_2 e_x4_2
      exact ih _ _ hf hP
theorem F_E_addSource {e a1 a2 a3 : Int} (hy : e ≤ a1 ∧ a1 < e + 33) {h0 h : zH} {Q' Q : Int → zH → Prop} (hf : zF e (e + 33) h0 h) (hP : P_E_addSource e a1 a2 a3 h Q') (hq : ∀ r h', Q' r h' → zF e (e + 33) h0 h' → Q r h') : P_E_addSource e a1 a2 a3 h Q := by
  unfold P_E_addSource at hP ⊢
  refine zif_i (fun c => ?_) (fun c => ?_)
  · have hP := zif_p hP c
    refine zif_i (fun c => ?_) (fun c => ?_)
    · have hP := zif_p hP c
      exact hq _ _ hP hf
    · have hP := zif_n hP c
      obtain ⟨n37, hP⟩ := hP
      refine ⟨n37, ?_⟩
      refine F_E_addSource_L37 hy hq _ _ _ hf hP
  · have hP := zif_n hP c
    obtain ⟨ob, hP⟩ := hP
    refine ⟨ob, ?_⟩
    obtain ⟨ob, hP⟩ := hP
    refine ⟨ob, ?_⟩
    intro h3 e_h3
    have hP := hP h3 e_h3
    have hf := zF.w hf e_h3 hy.1 hy.2
    exact hq _ _ hP hf
theorem F_E_addRoot_L3 {e y1 y2 y3 : Int} (hy : e ≤ y1 ∧ y1 < e + 33) {h0 : zH} {Q' Q : Int → zH → Prop} (hq : ∀ r h', Q' r h' → zF e (e + 33) h0 h' → Q r h') : ∀ (n3 : Nat) (y4 : Int) (h : zH), zF e (e + 33) h0 h → P_E_addRoot_L3 e y1 y2 y3 Q' n3 y4 h → P_E_addRoot_L3 e y1 y2 y3 Q n3 y4 h := by
  intro n3
  induction n3 with
  | zero => intro y4 h hf hP; exact absurd hP id
  | succ n3 ih =>
    intro y4 h hf hP
    unfold P_E_addRoot_L3 at hP ⊢
    refine zif_i (fun c => ?_) (fun c => ?_)
    · have hP := zif_p hP c
      exact hq _ _ hP hf
    · have hP := zif_n hP c
      obtain ⟨ob, hP⟩ := hP
      refine ⟨ob, ?_⟩
      obtain ⟨ob, hP⟩ := hP
      refine ⟨ob, ?_⟩
      obtain ⟨ob, hP⟩ := hP
      refine ⟨ob, ?_⟩
      intro h1 e_h1
      have hP := hP h1 e_h1
      have hf := zF.w hf e_h1 hy.1 hy.2
      intro x4_2 e_x4_2
      have hP := hP x4_2 e_x4_2
      exact ih _ _ hf hP
theorem F_E_addRoot {e a1 a2 a3 : Int} (hy : e ≤ a1 ∧ a1 < e + 33) {h0 h : zH} {Q' Q : Int → zH → Prop} (hf : zF e (e + 33) h0 h) (hP : P_E_addRoot e a1 a2 a3 h Q') (hq : ∀ r h', Q' r h' → zF e (e + 33) h0 h' → Q r h') : P_E_addRoot e a1 a2 a3 h Q := by
  unfold P_E_addRoot at hP ⊢
  obtain ⟨n3, hP⟩ := hP
  refine ⟨n3, ?_⟩
  refine F_E_addRoot_L3 hy hq _ _ _ hf hP
theorem F_E_rootSource_L2 {e y1 y2 : Int} {h0 : zH} {Q' Q : Int → zH → Prop} {k26' k26 : zH → Prop} (hq : ∀ r h', Q' r h' → zF e (e + 33) h0 h' → Q r h') (hk26 : ∀ h', k26' h' → zF e (e + 33) h0 h' → k26 h') : ∀ (n2 : Nat) (y3 : Int) (h : zH), zF e (e + 33) h0 h → P_E_rootSource_L2 e y1 y2 Q' k26' n2 y3 h → P_E_rootSource_L2 e y1 y2 Q k26 n2 y3 h := by
  intro n2
  induction n2 with
  | zero => intro y3 h hf hP; exact absurd hP id
  | succ n2 ih =>
    intro y3 h hf hP
    unfold P_E_rootSource_L2 at hP ⊢
    refine zif_i (fun c => ?_) (fun c => ?_)
    · have hP := zif_p hP c
      exact hk26 _ hP hf
    · have hP := zif_n hP c
      obtain ⟨ob, hP⟩ := hP
      refine ⟨ob, ?_⟩
      intro h1 e_h1
      have hP := hP h1 e_h1
      have hf := zF.w hf e_h1 (by omega) (by omega)
      intro x3_2 e_x3_2
      have hP := hP x3_2 e_x3_2
      exact ih _ _ hf hP
theorem F_E_rootSource_J94 {e y1 y2 y3 : Int} {h0 h : zH} {Q' Q : Int → zH → Prop} {k46' k46 : Int → zH → Prop} (hf : zF e (e + 33) h0 h) (hP : P_E_rootSource_J94 e y1 y2 y3 h Q' k46') (hq : ∀ r h', Q' r h' → zF e (e + 33) h0 h' → Q r h') (hk46 : ∀ v0 h', k46' v0 h' → zF e (e + 33) h0 h' → k46 v0 h') : P_E_rootSource_J94 e y1 y2 y3 h Q k46 := by
  unfold P_E_rootSource_J94 at hP ⊢
  intro x3_8 e_x3_8
  have hP := hP x3_8 e_x3_8
  exact hk46 _ _ hP hf
theorem F_E_rootSource_L46 {e y1 y2 : Int} {h0 : zH} {Q' Q : Int → zH → Prop} (hq : ∀ r h', Q' r h' → zF e (e + 33) h0 h' → Q r h') : ∀ (n46 : Nat) (y3 : Int) (h : zH), zF e (e + 33) h0 h → P_E_rootSource_L46 e y1 y2 Q' n46 y3 h → P_E_rootSource_L46 e y1 y2 Q n46 y3 h := by
  intro n46
  induction n46 with
  | zero => intro y3 h hf hP; exact absurd hP id
  | succ n46 ih =>
    intro y3 h hf hP
    unfold P_E_rootSource_L46 at hP ⊢
    obtain ⟨ob, hP⟩ := hP
    refine ⟨ob, ?_⟩
    obtain ⟨ob, hP⟩ := hP
    refine ⟨ob, ?_⟩
    refine zif_i (fun c => ?_) (fun c => ?_)
    · have hP := zif_p hP c
      exact hq _ _ hP hf
    · have hP := zif_n hP c
      obtain ⟨ob, hP⟩ := hP
      refine ⟨ob, ?_⟩
      intro x4_7 e_x4_7
      have hP := hP x4_7 e_x4_7
      refine zif_i (fun c => ?_) (fun c => ?_)
      · have hP := zif_p hP c
        refine F_E_rootSource_J94 hf hP hq (fun v0 h' hP hf => ih v0 h' hf hP)
      · have hP := zif_n hP c
        refine F_E_addRoot (by omega) hf hP (fun r9 h10 hP hf => ?_)
        refine F_E_rootSource_J94 hf hP hq (fun v0 h' hP hf => ih v0 h' hf hP)
theorem F_E_rootSource {e a1 a2 : Int} {h0 h : zH} {Q' Q : Int → zH → Prop} (hf : zF e (e + 33) h0 h) (hP : P_E_rootSource e a1 a2 h Q') (hq : ∀ r h', Q' r h' → zF e (e + 33) h0 h' → Q r h') : P_E_rootSource e a1 a2 h Q := by
  unfold P_E_rootSource at hP ⊢
  obtain ⟨n2, hP⟩ := hP
  refine ⟨n2, ?_⟩
  refine F_E_rootSource_L2 hq (fun h3 hP hf => ?_) _ _ _ hf hP
  refine F_E_addSource (by omega) hf hP (fun r4 h5 hP hf => ?_)
  obtain ⟨ob, hP⟩ := hP
  refine ⟨ob, ?_⟩
  intro x3_6 e_x3_6
  have hP := hP x3_6 e_x3_6
  obtain ⟨n46, hP⟩ := hP
  refine ⟨n46, ?_⟩
  refine F_E_rootSource_L46 hq _ _ _ hf hP
theorem F_E_set_L66 {e y1 y2 y3 : Int} {h0 : zH} {Q' Q : Int → zH → Prop} {k113' k113 : zH → Prop} (hq : ∀ r h', Q' r h' → zF e (e + 33) h0 h' → Q r h') (hk113 : ∀ h', k113' h' → zF e (e + 33) h0 h' → k113 h') : ∀ (n66 : Nat) (y4 : Int) (h : zH), zF e (e + 33) h0 h → P_E_set_L66 e y1 y2 y3 Q' k113' n66 y4 h → P_E_set_L66 e y1 y2 y3 Q k113 n66 y4 h := by
  intro n66
  induction n66 with
  | zero => intro y4 h hf hP; exact absurd hP id
  | succ n66 ih =>
    intro y4 h hf hP
    unfold P_E_set_L66 at hP ⊢
    refine zif_i (fun c => ?_) (fun c => ?_)
    · have hP := zif_p hP c
      exact hk113 _ hP hf
    · have hP := zif_n hP c
      obtain ⟨ob, hP⟩ := hP
      refine ⟨ob, ?_⟩
      obtain ⟨ob, hP⟩ := hP
      refine ⟨ob, ?_⟩
      obtain ⟨ob, hP⟩ := hP
      refine ⟨ob, ?_⟩
      intro h10 e_h10
      have hP := hP h10 e_h10
      have hf := zF.w hf e_h10 (by omega) (by omega)
      obtain ⟨ob, hP⟩ := hP
      refine ⟨ob, ?_⟩
      refine F_E_look hf hP (fun r11 h12 hP hf => ?_)
      obtain ⟨ob, hP⟩ := hP
      refine ⟨ob, ?_⟩
      intro x4_13 e_x4_13
      have hP := hP x4_13 e_x4_13
      exact ih _ _ hf hP
theorem F_E_set_L126 {e y2 y3 : Int} {h0 : zH} {Q' Q : Int → zH → Prop} {k173' k173 : zH → Prop} (hq : ∀ r h', Q' r h' → zF e (e + 33) h0 h' → Q r h') (hk173 : ∀ h', k173' h' → zF e (e + 33) h0 h' → k173 h') : ∀ (n126 : Nat) (y4 : Int) (h : zH), zF e (e + 33) h0 h → P_E_set_L126 e y2 y3 Q' k173' n126 y4 h → P_E_set_L126 e y2 y3 Q k173 n126 y4 h := by
  intro n126
  induction n126 with
  | zero => intro y4 h hf hP; exact absurd hP id
  | succ n126 ih =>
    intro y4 h hf hP
    unfold P_E_set_L126 at hP ⊢
    refine zif_i (fun c => ?_) (fun c => ?_)
    · have hP := zif_p hP c
      exact hk173 _ hP hf
    · have hP := zif_n hP c
      obtain ⟨ob, hP⟩ := hP
      refine ⟨ob, ?_⟩
      obtain ⟨ob, hP⟩ := hP
      refine ⟨ob, ?_⟩
      obtain ⟨ob, hP⟩ := hP
      refine ⟨ob, ?_⟩
      intro h18 e_h18
      have hP := hP h18 e_h18
      have hf := zF.w hf e_h18 (by omega) (by omega)
      obtain ⟨ob, hP⟩ := hP
      refine ⟨ob, ?_⟩
      refine F_E_look hf hP (fun r19 h20 hP hf => ?_)
      obtain ⟨ob, hP⟩ := hP
      refine ⟨ob, ?_⟩
      intro x4_21 e_x4_21
      have hP := hP x4_21 e_x4_21
      exact ih _ _ hf hP
theorem F_E_set_J19 {e y1 y2 y3 s0 s1 : Int} {h0 h : zH} {Q' Q : Int → zH → Prop} (hf : zF e (e + 33) h0 h) (hP : P_E_set_J19 e y1 y2 y3 s0 s1 h Q') (hq : ∀ r h', Q' r h' → zF e (e + 33) h0 h' → Q r h') : P_E_set_J19 e y1 y2 y3 s0 s1 h Q := by
  unfold P_E_set_J19 at hP ⊢
  obtain ⟨ob, hP⟩ := hP
  refine ⟨ob, ?_⟩
  intro h2 e_h2
  have hP := hP h2 e_h2
  have hf := zF.w hf e_h2 (by omega) (by omega)
  obtain ⟨ob, hP⟩ := hP
  refine ⟨ob, ?_⟩
  intro h3 e_h3
  have hP := hP h3 e_h3
  have hf := zF.w hf e_h3 (by omega) (by omega)
  obtain ⟨ob, hP⟩ := hP
  refine ⟨ob, ?_⟩
  intro h4 e_h4
  have hP := hP h4 e_h4
  have hf := zF.w hf e_h4 (by omega) (by omega)
  intro h5 e_h5
  have hP := hP h5 e_h5
  have hf := zF.w hf e_h5 (by omega) (by omega)
  obtain ⟨ob, hP⟩ := hP
  refine ⟨ob, ?_⟩
  intro h6 e_h6
  have hP := hP h6 e_h6
  have hf := zF.w hf e_h6 (by omega) (by omega)
  refine F_E_index hf hP (fun r7 h8 hP hf => ?_)
  obtain ⟨ob, hP⟩ := hP
  refine ⟨ob, ?_⟩
  intro x4_9 e_x4_9
  have hP := hP x4_9 e_x4_9
  obtain ⟨n66, hP⟩ := hP
  refine ⟨n66, ?_⟩
  refine F_E_set_L66 hq (fun h14 hP hf => ?_) _ _ _ hf hP
  refine F_E_index hf hP (fun r15 h16 hP hf => ?_)
  obtain ⟨ob, hP⟩ := hP
  refine ⟨ob, ?_⟩
  intro x4_17 e_x4_17
  have hP := hP x4_17 e_x4_17
  obtain ⟨n126, hP⟩ := hP
  refine ⟨n126, ?_⟩
  refine F_E_set_L126 hq (fun h22 hP hf => ?_) _ _ _ hf hP
  refine zif_i (fun c => ?_) (fun c => ?_)
  · have hP := zif_p hP c
    refine F_E_rootSource hf hP (fun r23 h24 hP hf => ?_)
    exact hq _ _ hP hf
  · have hP := zif_n hP c
    exact hq _ _ hP hf
theorem F_E_set {e a1 a2 : Int} {h0 h : zH} {Q' Q : Int → zH → Prop} (hf : zF e (e + 33) h0 h) (hP : P_E_set e a1 a2 h Q') (hq : ∀ r h', Q' r h' → zF e (e + 33) h0 h' → Q r h') : P_E_set e a1 a2 h Q := by
  unfold P_E_set at hP ⊢
  intro x3_1 e_x3_1
  have hP := hP x3_1 e_x3_1
  refine F_E_set_J19 hf hP hq
theorem F_E_force_L0 {e : Int} {h0 : zH} {Q' Q : Int → zH → Prop} (hq : ∀ r h', Q' r h' → zF e (e + 33) h0 h' → Q r h') : ∀ (n0 : Nat) (h : zH), zF e (e + 33) h0 h → P_E_force_L0 e Q' n0 h → P_E_force_L0 e Q n0 h := by
  intro n0
  induction n0 with
  | zero => intro h hf hP; exact absurd hP id
  | succ n0 ih =>
    intro h hf hP
    unfold P_E_force_L0 at hP ⊢
    refine F_E_firstQuarrel hf hP (fun r1 h2 hP hf => ?_)
    refine zif_i (fun c => ?_) (fun c => ?_)
    · have hP := zif_p hP c
      refine F_E_firstForcing hf hP (fun r3 h4 hP hf => ?_)
      refine zif_i (fun c => ?_) (fun c => ?_)
      · have hP := zif_p hP c
        exact hq _ _ hP hf
      · have hP := zif_n hP c
        refine zif_i (fun c => ?_) (fun c => ?_)
        · have hP := zif_p hP c
          exact hq _ _ hP hf
        · have hP := zif_n hP c
          refine F_E_step hf hP (fun r5 h6 hP hf => ?_)
          intro h7 e_h7
          have hP := hP h7 e_h7
          have hf := zF.w hf e_h7 (by omega) (by omega)
          refine F_E_openOf hf hP (fun r8 h9 hP hf => ?_)
          refine F_E_set hf hP (fun r10 h11 hP hf => ?_)
          exact ih _ hf hP
    · have hP := zif_n hP c
      exact hq _ _ hP hf
theorem F_E_force {e : Int} {h0 h : zH} {Q' Q : Int → zH → Prop} (hf : zF e (e + 33) h0 h) (hP : P_E_force e h Q') (hq : ∀ r h', Q' r h' → zF e (e + 33) h0 h' → Q r h') : P_E_force e h Q := by
  unfold P_E_force at hP ⊢
  obtain ⟨n0, hP⟩ := hP
  refine ⟨n0, ?_⟩
  refine F_E_force_L0 hq _ _ hf hP
theorem F_E_keepTruth_L2 {e : Int} {h0 : zH} {Q' Q : Int → zH → Prop} (hq : ∀ r h', Q' r h' → zF e (e + 33) h0 h' → Q r h') : ∀ (n2 : Nat) (y1 : Int) (h : zH), zF e (e + 33) h0 h → P_E_keepTruth_L2 e Q' n2 y1 h → P_E_keepTruth_L2 e Q n2 y1 h := by
  intro n2
  induction n2 with
  | zero => intro y1 h hf hP; exact absurd hP id
  | succ n2 ih =>
    intro y1 h hf hP
    unfold P_E_keepTruth_L2 at hP ⊢
    refine zif_i (fun c => ?_) (fun c => ?_)
    · have hP := zif_p hP c
      exact hq _ _ hP hf
    · have hP := zif_n hP c
      obtain ⟨ob, hP⟩ := hP
      refine ⟨ob, ?_⟩
      obtain ⟨ob, hP⟩ := hP
      refine ⟨ob, ?_⟩
      intro h1 e_h1
      have hP := hP h1 e_h1
      have hf := zF.w hf e_h1 (by omega) (by omega)
      intro x1_2 e_x1_2
      have hP := hP x1_2 e_x1_2
      exact ih _ _ hf hP
theorem F_E_keepTruth {e : Int} {h0 h : zH} {Q' Q : Int → zH → Prop} (hf : zF e (e + 33) h0 h) (hP : P_E_keepTruth e h Q') (hq : ∀ r h', Q' r h' → zF e (e + 33) h0 h' → Q r h') : P_E_keepTruth e h Q := by
  unfold P_E_keepTruth at hP ⊢
  obtain ⟨n2, hP⟩ := hP
  refine ⟨n2, ?_⟩
  refine F_E_keepTruth_L2 hq _ _ _ hf hP
theorem F_E_back_L94 {e y1 y2 y3 : Int} {h0 : zH} {Q' Q : Int → zH → Prop} {k141' k141 : zH → Prop} (hq : ∀ r h', Q' r h' → zF e (e + 33) h0 h' → Q r h') (hk141 : ∀ h', k141' h' → zF e (e + 33) h0 h' → k141 h') : ∀ (n94 : Nat) (y5 : Int) (h : zH), zF e (e + 33) h0 h → P_E_back_L94 e y1 y2 y3 Q' k141' n94 y5 h → P_E_back_L94 e y1 y2 y3 Q k141 n94 y5 h := by
  intro n94
  induction n94 with
  | zero => intro y5 h hf hP; exact absurd hP id
  | succ n94 ih =>
    intro y5 h hf hP
    unfold P_E_back_L94 at hP ⊢
    refine zif_i (fun c => ?_) (fun c => ?_)
    · have hP := zif_p hP c
      exact hk141 _ hP hf
    · have hP := zif_n hP c
      obtain ⟨ob, hP⟩ := hP
      refine ⟨ob, ?_⟩
      obtain ⟨ob, hP⟩ := hP
      refine ⟨ob, ?_⟩
      obtain ⟨ob, hP⟩ := hP
      refine ⟨ob, ?_⟩
      intro h10 e_h10
      have hP := hP h10 e_h10
      have hf := zF.w hf e_h10 (by omega) (by omega)
      obtain ⟨ob, hP⟩ := hP
      refine ⟨ob, ?_⟩
      refine F_E_look hf hP (fun r11 h12 hP hf => ?_)
      obtain ⟨ob, hP⟩ := hP
      refine ⟨ob, ?_⟩
      intro x5_13 e_x5_13
      have hP := hP x5_13 e_x5_13
      exact ih _ _ hf hP
theorem F_E_back_L154 {e y1 y2 : Int} {h0 : zH} {Q' Q : Int → zH → Prop} {k201' k201 : zH → Prop} (hq : ∀ r h', Q' r h' → zF e (e + 33) h0 h' → Q r h') (hk201 : ∀ h', k201' h' → zF e (e + 33) h0 h' → k201 h') : ∀ (n154 : Nat) (y5 : Int) (h : zH), zF e (e + 33) h0 h → P_E_back_L154 e y1 y2 Q' k201' n154 y5 h → P_E_back_L154 e y1 y2 Q k201 n154 y5 h := by
  intro n154
  induction n154 with
  | zero => intro y5 h hf hP; exact absurd hP id
  | succ n154 ih =>
    intro y5 h hf hP
    unfold P_E_back_L154 at hP ⊢
    refine zif_i (fun c => ?_) (fun c => ?_)
    · have hP := zif_p hP c
      exact hk201 _ hP hf
    · have hP := zif_n hP c
      obtain ⟨ob, hP⟩ := hP
      refine ⟨ob, ?_⟩
      obtain ⟨ob, hP⟩ := hP
      refine ⟨ob, ?_⟩
      obtain ⟨ob, hP⟩ := hP
      refine ⟨ob, ?_⟩
      intro h18 e_h18
      have hP := hP h18 e_h18
      have hf := zF.w hf e_h18 (by omega) (by omega)
      obtain ⟨ob, hP⟩ := hP
      refine ⟨ob, ?_⟩
      refine F_E_look hf hP (fun r19 h20 hP hf => ?_)
      obtain ⟨ob, hP⟩ := hP
      refine ⟨ob, ?_⟩
      intro x5_21 e_x5_21
      have hP := hP x5_21 e_x5_21
      exact ih _ _ hf hP
theorem F_E_back_J73 {e y1 y2 y3 y4 s0 s1 : Int} {h0 h : zH} {Q' Q : Int → zH → Prop} {k24' k24 : zH → Prop} (hf : zF e (e + 33) h0 h) (hP : P_E_back_J73 e y1 y2 y3 y4 s0 s1 h Q' k24') (hq : ∀ r h', Q' r h' → zF e (e + 33) h0 h' → Q r h') (hk24 : ∀ h', k24' h' → zF e (e + 33) h0 h' → k24 h') : P_E_back_J73 e y1 y2 y3 y4 s0 s1 h Q k24 := by
  unfold P_E_back_J73 at hP ⊢
  obtain ⟨ob, hP⟩ := hP
  refine ⟨ob, ?_⟩
  intro h5 e_h5
  have hP := hP h5 e_h5
  have hf := zF.w hf e_h5 (by omega) (by omega)
  obtain ⟨ob, hP⟩ := hP
  refine ⟨ob, ?_⟩
  intro h6 e_h6
  have hP := hP h6 e_h6
  have hf := zF.w hf e_h6 (by omega) (by omega)
  refine F_E_index hf hP (fun r7 h8 hP hf => ?_)
  obtain ⟨ob, hP⟩ := hP
  refine ⟨ob, ?_⟩
  intro x5_9 e_x5_9
  have hP := hP x5_9 e_x5_9
  obtain ⟨n94, hP⟩ := hP
  refine ⟨n94, ?_⟩
  refine F_E_back_L94 hq (fun h14 hP hf => ?_) _ _ _ hf hP
  refine F_E_index hf hP (fun r15 h16 hP hf => ?_)
  obtain ⟨ob, hP⟩ := hP
  refine ⟨ob, ?_⟩
  intro x5_17 e_x5_17
  have hP := hP x5_17 e_x5_17
  obtain ⟨n154, hP⟩ := hP
  refine ⟨n154, ?_⟩
  refine F_E_back_L154 hq (fun h22 hP hf => ?_) _ _ _ hf hP
  exact hk24 _ hP hf
theorem F_E_back_L24 {e y1 y2 : Int} {h0 : zH} {Q' Q : Int → zH → Prop} (hq : ∀ r h', Q' r h' → zF e (e + 33) h0 h' → Q r h') : ∀ (n24 : Nat) (h : zH), zF e (e + 33) h0 h → P_E_back_L24 e y1 y2 Q' n24 h → P_E_back_L24 e y1 y2 Q n24 h := by
  intro n24
  induction n24 with
  | zero => intro h hf hP; exact absurd hP id
  | succ n24 ih =>
    intro h hf hP
    unfold P_E_back_L24 at hP ⊢
    refine zif_i (fun c => ?_) (fun c => ?_)
    · have hP := zif_p hP c
      intro h1 e_h1
      have hP := hP h1 e_h1
      have hf := zF.w hf e_h1 (by omega) (by omega)
      exact hq _ _ hP hf
    · have hP := zif_n hP c
      intro h2 e_h2
      have hP := hP h2 e_h2
      have hf := zF.w hf e_h2 (by omega) (by omega)
      obtain ⟨ob, hP⟩ := hP
      refine ⟨ob, ?_⟩
      intro x3_3 e_x3_3
      have hP := hP x3_3 e_x3_3
      intro x4_4 e_x4_4
      have hP := hP x4_4 e_x4_4
      refine F_E_back_J73 hf hP hq (fun h' hP hf => ih h' hf hP)
theorem F_E_back_J23 {e y1 s0 : Int} {h0 h : zH} {Q' Q : Int → zH → Prop} (hf : zF e (e + 33) h0 h) (hP : P_E_back_J23 e y1 s0 h Q') (hq : ∀ r h', Q' r h' → zF e (e + 33) h0 h' → Q r h') : P_E_back_J23 e y1 s0 h Q := by
  unfold P_E_back_J23 at hP ⊢
  obtain ⟨n24, hP⟩ := hP
  refine ⟨n24, ?_⟩
  refine F_E_back_L24 hq _ _ hf hP
theorem F_E_back {e a1 : Int} {h0 h : zH} {Q' Q : Int → zH → Prop} (hf : zF e (e + 33) h0 h) (hP : P_E_back e a1 h Q') (hq : ∀ r h', Q' r h' → zF e (e + 33) h0 h' → Q r h') : P_E_back e a1 h Q := by
  unfold P_E_back at hP ⊢
  obtain ⟨ob, hP⟩ := hP
  refine ⟨ob, ?_⟩
  refine F_E_back_J23 hf hP hq
theorem F_E_beginSet_L2 {e : Int} {h0 : zH} {Q' Q : Int → zH → Prop} {k30' k30 : zH → Prop} (hq : ∀ r h', Q' r h' → zF e (e + 33) h0 h' → Q r h') (hk30 : ∀ h', k30' h' → zF e (e + 33) h0 h' → k30 h') : ∀ (n2 : Nat) (y1 : Int) (h : zH), zF e (e + 33) h0 h → P_E_beginSet_L2 e Q' k30' n2 y1 h → P_E_beginSet_L2 e Q k30 n2 y1 h := by
  intro n2
  induction n2 with
  | zero => intro y1 h hf hP; exact absurd hP id
  | succ n2 ih =>
    intro y1 h hf hP
    unfold P_E_beginSet_L2 at hP ⊢
    refine zif_i (fun c => ?_) (fun c => ?_)
    · have hP := zif_p hP c
      exact hk30 _ hP hf
    · have hP := zif_n hP c
      obtain ⟨ob, hP⟩ := hP
      refine ⟨ob, ?_⟩
      intro h1 e_h1
      have hP := hP h1 e_h1
      have hf := zF.w hf e_h1 (by omega) (by omega)
      obtain ⟨ob, hP⟩ := hP
      refine ⟨ob, ?_⟩
      intro h2 e_h2
      have hP := hP h2 e_h2
      have hf := zF.w hf e_h2 (by omega) (by omega)
      intro x1_3 e_x1_3
      have hP := hP x1_3 e_x1_3
      exact ih _ _ hf hP
theorem F_E_beginSet_L32 {e : Int} {h0 : zH} {Q' Q : Int → zH → Prop} {k51' k51 : zH → Prop} (hq : ∀ r h', Q' r h' → zF e (e + 33) h0 h' → Q r h') (hk51 : ∀ h', k51' h' → zF e (e + 33) h0 h' → k51 h') : ∀ (n32 : Nat) (y1 : Int) (h : zH), zF e (e + 33) h0 h → P_E_beginSet_L32 e Q' k51' n32 y1 h → P_E_beginSet_L32 e Q k51 n32 y1 h := by
  intro n32
  induction n32 with
  | zero => intro y1 h hf hP; exact absurd hP id
  | succ n32 ih =>
    intro y1 h hf hP
    unfold P_E_beginSet_L32 at hP ⊢
    refine zif_i (fun c => ?_) (fun c => ?_)
    · have hP := zif_p hP c
      exact hk51 _ hP hf
    · have hP := zif_n hP c
      obtain ⟨ob, hP⟩ := hP
      refine ⟨ob, ?_⟩
      intro h5 e_h5
      have hP := hP h5 e_h5
      have hf := zF.w hf e_h5 (by omega) (by omega)
      intro x1_6 e_x1_6
      have hP := hP x1_6 e_x1_6
      exact ih _ _ hf hP
theorem F_E_beginSet {e : Int} {h0 h : zH} {Q' Q : Int → zH → Prop} (hf : zF e (e + 33) h0 h) (hP : P_E_beginSet e h Q') (hq : ∀ r h', Q' r h' → zF e (e + 33) h0 h' → Q r h') : P_E_beginSet e h Q := by
  unfold P_E_beginSet at hP ⊢
  obtain ⟨n2, hP⟩ := hP
  refine ⟨n2, ?_⟩
  refine F_E_beginSet_L2 hq (fun h4 hP hf => ?_) _ _ _ hf hP
  obtain ⟨n32, hP⟩ := hP
  refine ⟨n32, ?_⟩
  refine F_E_beginSet_L32 hq (fun h7 hP hf => ?_) _ _ _ hf hP
  intro h8 e_h8
  have hP := hP h8 e_h8
  have hf := zF.w hf e_h8 (by omega) (by omega)
  intro h9 e_h9
  have hP := hP h9 e_h9
  have hf := zF.w hf e_h9 (by omega) (by omega)
  intro h10 e_h10
  have hP := hP h10 e_h10
  have hf := zF.w hf e_h10 (by omega) (by omega)
  exact hq _ _ hP hf
theorem F_E_gather_J183 {e y1 y2 y3 y4 y5 : Int} {h0 h : zH} {Q' Q : Int → zH → Prop} {k49' k49 : Int → Int → zH → Prop} (hf : zF e (e + 33) h0 h) (hP : P_E_gather_J183 e y1 y2 y3 y4 y5 h Q' k49') (hq : ∀ r h', Q' r h' → zF e (e + 33) h0 h' → Q r h') (hk49 : ∀ v0 v1 h', k49' v0 v1 h' → zF e (e + 33) h0 h' → k49 v0 v1 h') : P_E_gather_J183 e y1 y2 y3 y4 y5 h Q k49 := by
  unfold P_E_gather_J183 at hP ⊢
  intro x5_5 e_x5_5
  have hP := hP x5_5 e_x5_5
  exact hk49 _ _ _ hP hf
theorem F_E_gather_J180 {e y1 y2 y3 y5 s0 s1 : Int} {h0 h : zH} {Q' Q : Int → zH → Prop} {k49' k49 : Int → Int → zH → Prop} (hf : zF e (e + 33) h0 h) (hP : P_E_gather_J180 e y1 y2 y3 y5 s0 s1 h Q' k49') (hq : ∀ r h', Q' r h' → zF e (e + 33) h0 h' → Q r h') (hk49 : ∀ v0 v1 h', k49' v0 v1 h' → zF e (e + 33) h0 h' → k49 v0 v1 h') : P_E_gather_J180 e y1 y2 y3 y5 s0 s1 h Q k49 := by
  unfold P_E_gather_J180 at hP ⊢
  intro x4_9 e_x4_9
  have hP := hP x4_9 e_x4_9
  refine F_E_gather_J183 hf hP hq hk49
theorem F_E_gather_J150 {e y1 y2 y3 y4 y5 y6 s0 s1 : Int} {h0 h : zH} {Q' Q : Int → zH → Prop} {k49' k49 : Int → Int → zH → Prop} (hf : zF e (e + 33) h0 h) (hP : P_E_gather_J150 e y1 y2 y3 y4 y5 y6 s0 s1 h Q' k49') (hq : ∀ r h', Q' r h' → zF e (e + 33) h0 h' → Q r h') (hk49 : ∀ v0 v1 h', k49' v0 v1 h' → zF e (e + 33) h0 h' → k49 v0 v1 h') : P_E_gather_J150 e y1 y2 y3 y4 y5 y6 s0 s1 h Q k49 := by
  unfold P_E_gather_J150 at hP ⊢
  intro h7 e_h7
  have hP := hP h7 e_h7
  have hf := zF.w hf e_h7 (by omega) (by omega)
  obtain ⟨ob, hP⟩ := hP
  refine ⟨ob, ?_⟩
  intro h8 e_h8
  have hP := hP h8 e_h8
  have hf := zF.w hf e_h8 (by omega) (by omega)
  obtain ⟨ob, hP⟩ := hP
  refine ⟨ob, ?_⟩
  refine F_E_gather_J180 hf hP hq hk49
theorem F_E_gather_L49 {e y1 y2 y3 : Int} {h0 : zH} {Q' Q : Int → zH → Prop} (hq : ∀ r h', Q' r h' → zF e (e + 33) h0 h' → Q r h') : ∀ (n49 : Nat) (y4 y5 : Int) (h : zH), zF e (e + 33) h0 h → P_E_gather_L49 e y1 y2 y3 Q' n49 y4 y5 h → P_E_gather_L49 e y1 y2 y3 Q n49 y4 y5 h := by
  intro n49
  induction n49 with
  | zero => intro y4 y5 h hf hP; exact absurd hP id
  | succ n49 ih =>
    intro y4 y5 h hf hP
    unfold P_E_gather_L49 at hP ⊢
    obtain ⟨ob, hP⟩ := hP
    refine ⟨ob, ?_⟩
    obtain ⟨ob, hP⟩ := hP
    refine ⟨ob, ?_⟩
    refine zif_i (fun c => ?_) (fun c => ?_)
    · have hP := zif_p hP c
      exact hq _ _ hP hf
    · have hP := zif_n hP c
      obtain ⟨ob, hP⟩ := hP
      refine ⟨ob, ?_⟩
      intro x6_4 e_x6_4
      have hP := hP x6_4 e_x6_4
      refine zif_i (fun c => ?_) (fun c => ?_)
      · have hP := zif_p hP c
        refine F_E_gather_J183 hf hP hq (fun v0 v1 h' hP hf => ih v0 v1 h' hf hP)
      · have hP := zif_n hP c
        obtain ⟨ob, hP⟩ := hP
        refine ⟨ob, ?_⟩
        refine zif_i (fun c => ?_) (fun c => ?_)
        · have hP := zif_p hP c
          refine F_E_addRoot (by omega) hf hP (fun r10 h11 hP hf => ?_)
          refine F_E_gather_J183 hf hP hq (fun v0 v1 h' hP hf => ih v0 v1 h' hf hP)
        · have hP := zif_n hP c
          obtain ⟨ob, hP⟩ := hP
          refine ⟨ob, ?_⟩
          refine zif_i (fun c => ?_) (fun c => ?_)
          · have hP := zif_p hP c
            obtain ⟨ob, hP⟩ := hP
            refine ⟨ob, ?_⟩
            intro h6 e_h6
            have hP := hP h6 e_h6
            have hf := zF.w hf e_h6 (by omega) (by omega)
            obtain ⟨ob, hP⟩ := hP
            refine ⟨ob, ?_⟩
            refine F_E_gather_J150 hf hP hq (fun v0 v1 h' hP hf => ih v0 v1 h' hf hP)
          · have hP := zif_n hP c
            refine F_E_gather_J183 hf hP hq (fun v0 v1 h' hP hf => ih v0 v1 h' hf hP)
theorem F_E_gather_J41 {e y1 y2 y3 y4 : Int} {h0 h : zH} {Q' Q : Int → zH → Prop} (hf : zF e (e + 33) h0 h) (hP : P_E_gather_J41 e y1 y2 y3 y4 h Q') (hq : ∀ r h', Q' r h' → zF e (e + 33) h0 h' → Q r h') : P_E_gather_J41 e y1 y2 y3 y4 h Q := by
  unfold P_E_gather_J41 at hP ⊢
  obtain ⟨ob, hP⟩ := hP
  refine ⟨ob, ?_⟩
  intro x5_3 e_x5_3
  have hP := hP x5_3 e_x5_3
  obtain ⟨n49, hP⟩ := hP
  refine ⟨n49, ?_⟩
  refine F_E_gather_L49 hq _ _ _ _ hf hP
theorem F_E_gather {e a1 a2 a3 : Int} {h0 h : zH} {Q' Q : Int → zH → Prop} (hf : zF e (e + 33) h0 h) (hP : P_E_gather e a1 a2 a3 h Q') (hq : ∀ r h', Q' r h' → zF e (e + 33) h0 h' → Q r h') : P_E_gather e a1 a2 a3 h Q := by
  unfold P_E_gather at hP ⊢
  refine F_E_addSource (by omega) hf hP (fun r1 h2 hP hf => ?_)
  refine zif_i (fun c => ?_) (fun c => ?_)
  · have hP := zif_p hP c
    refine F_E_gather_J41 hf hP hq
  · have hP := zif_n hP c
    intro h12 e_h12
    have hP := hP h12 e_h12
    have hf := zF.w hf e_h12 (by omega) (by omega)
    obtain ⟨ob, hP⟩ := hP
    refine ⟨ob, ?_⟩
    intro h13 e_h13
    have hP := hP h13 e_h13
    have hf := zF.w hf e_h13 (by omega) (by omega)
    refine F_E_gather_J41 hf hP hq
theorem F_E_hasRoom {e a1 : Int} {h0 h : zH} {Q' Q : Int → zH → Prop} (hf : zF e (e + 33) h0 h) (hP : P_E_hasRoom e a1 h Q') (hq : ∀ r h', Q' r h' → zF e (e + 33) h0 h' → Q r h') : P_E_hasRoom e a1 h Q := by
  unfold P_E_hasRoom at hP ⊢
  exact hq _ _ hP hf
theorem F_E_keep_L11 {e y1 y2 : Int} {h0 : zH} {Q' Q : Int → zH → Prop} {k43' k43 : zH → Prop} (hq : ∀ r h', Q' r h' → zF e (e + 33) h0 h' → Q r h') (hk43 : ∀ h', k43' h' → zF e (e + 33) h0 h' → k43 h') : ∀ (n11 : Nat) (y3 : Int) (h : zH), zF e (e + 33) h0 h → P_E_keep_L11 e y1 y2 Q' k43' n11 y3 h → P_E_keep_L11 e y1 y2 Q k43 n11 y3 h := by
  intro n11
  induction n11 with
  | zero => intro y3 h hf hP; exact absurd hP id
  | succ n11 ih =>
    intro y3 h hf hP
    unfold P_E_keep_L11 at hP ⊢
    refine zif_i (fun c => ?_) (fun c => ?_)
    · have hP := zif_p hP c
      exact hk43 _ hP hf
    · have hP := zif_n hP c
      obtain ⟨ob, hP⟩ := hP
      refine ⟨ob, ?_⟩
      obtain ⟨ob, hP⟩ := hP
      refine ⟨ob, ?_⟩
      intro h2 e_h2
      have hP := hP h2 e_h2
      have hf := zF.w hf e_h2 (by omega) (by omega)
      intro x3_3 e_x3_3
      have hP := hP x3_3 e_x3_3
      exact ih _ _ hf hP
theorem F_E_keep {e a1 : Int} {h0 h : zH} {Q' Q : Int → zH → Prop} (hf : zF e (e + 33) h0 h) (hP : P_E_keep e a1 h Q') (hq : ∀ r h', Q' r h' → zF e (e + 33) h0 h' → Q r h') : P_E_keep e a1 h Q := by
  unfold P_E_keep at hP ⊢
  intro x2_1 e_x2_1
  have hP := hP x2_1 e_x2_1
  obtain ⟨n11, hP⟩ := hP
  refine ⟨n11, ?_⟩
  refine F_E_keep_L11 hq (fun h4 hP hf => ?_) _ _ _ hf hP
  obtain ⟨ob, hP⟩ := hP
  refine ⟨ob, ?_⟩
  intro h5 e_h5
  have hP := hP h5 e_h5
  have hf := zF.w hf e_h5 (by omega) (by omega)
  intro h6 e_h6
  have hP := hP h6 e_h6
  have hf := zF.w hf e_h6 (by omega) (by omega)
  intro h7 e_h7
  have hP := hP h7 e_h7
  have hf := zF.w hf e_h7 (by omega) (by omega)
  refine F_E_lay hf hP (fun r8 h9 hP hf => ?_)
  refine zif_i (fun c => ?_) (fun c => ?_)
  · have hP := zif_p hP c
    obtain ⟨ob, hP⟩ := hP
    refine ⟨ob, ?_⟩
    intro h10 e_h10
    have hP := hP h10 e_h10
    have hf := zF.w hf e_h10 (by omega) (by omega)
    refine F_E_look hf hP (fun r11 h12 hP hf => ?_)
    exact hq _ _ hP hf
  · have hP := zif_n hP c
    intro h13 e_h13
    have hP := hP h13 e_h13
    have hf := zF.w hf e_h13 (by omega) (by omega)
    exact hq _ _ hP hf
theorem F_E_no_L22 {e : Int} {h0 : zH} {Q' Q : Int → zH → Prop} (hq : ∀ r h', Q' r h' → zF e (e + 33) h0 h' → Q r h') : ∀ (n22 : Nat) (y1 : Int) (h : zH), zF e (e + 33) h0 h → P_E_no_L22 e Q' n22 y1 h → P_E_no_L22 e Q n22 y1 h := by
  intro n22
  induction n22 with
  | zero => intro y1 h hf hP; exact absurd hP id
  | succ n22 ih =>
    intro y1 h hf hP
    unfold P_E_no_L22 at hP ⊢
    refine zif_i (fun c => ?_) (fun c => ?_)
    · have hP := zif_p hP c
      exact hq _ _ hP hf
    · have hP := zif_n hP c
      obtain ⟨ob, hP⟩ := hP
      refine ⟨ob, ?_⟩
      obtain ⟨ob, hP⟩ := hP
      refine ⟨ob, ?_⟩
      intro h5 e_h5
      have hP := hP h5 e_h5
      have hf := zF.w hf e_h5 (by omega) (by omega)
      intro x1_6 e_x1_6
      have hP := hP x1_6 e_x1_6
      exact ih _ _ hf hP
theorem F_E_no {e : Int} {h0 h : zH} {Q' Q : Int → zH → Prop} (hf : zF e (e + 33) h0 h) (hP : P_E_no e h Q') (hq : ∀ r h', Q' r h' → zF e (e + 33) h0 h' → Q r h') : P_E_no e h Q := by
  unfold P_E_no at hP ⊢
  refine F_E_hasRoom hf hP (fun r1 h2 hP hf => ?_)
  refine zif_i (fun c => ?_) (fun c => ?_)
  · have hP := zif_p hP c
    exact hq _ _ hP hf
  · have hP := zif_n hP c
    refine F_E_keep hf hP (fun r3 h4 hP hf => ?_)
    obtain ⟨n22, hP⟩ := hP
    refine ⟨n22, ?_⟩
    refine F_E_no_L22 hq _ _ _ hf hP
theorem F_E_numberOf {e a1 : Int} {h0 h : zH} {Q' Q : Int → zH → Prop} (hf : zF e (e + 33) h0 h) (hP : P_E_numberOf e a1 h Q') (hq : ∀ r h', Q' r h' → zF e (e + 33) h0 h' → Q r h') : P_E_numberOf e a1 h Q := by
  unfold P_E_numberOf at hP ⊢
  exact hq _ _ hP hf
theorem F_E_tell {e a1 a2 a3 : Int} {h0 h : zH} {Q' Q : Int → zH → Prop} (hf : zF e (e + 33) h0 h) (hP : P_E_tell e a1 a2 a3 h Q') (hq : ∀ r h', Q' r h' → zF e (e + 33) h0 h' → Q r h') : P_E_tell e a1 a2 a3 h Q := by
  unfold P_E_tell at hP ⊢
  intro h1 e_h1
  have hP := hP h1 e_h1
  have hf := zF.w hf e_h1 (by omega) (by omega)
  refine F_E_numberOf hf hP (fun r2 h3 hP hf => ?_)
  intro h4 e_h4
  have hP := hP h4 e_h4
  have hf := zF.w hf e_h4 (by omega) (by omega)
  intro h5 e_h5
  have hP := hP h5 e_h5
  have hf := zF.w hf e_h5 (by omega) (by omega)
  intro h6 e_h6
  have hP := hP h6 e_h6
  have hf := zF.w hf e_h6 (by omega) (by omega)
  intro h7 e_h7
  have hP := hP h7 e_h7
  have hf := zF.w hf e_h7 (by omega) (by omega)
  intro h8 e_h8
  have hP := hP h8 e_h8
  have hf := zF.w hf e_h8 (by omega) (by omega)
  exact hq _ _ hP hf
theorem F_E_noAtAll {e a1 : Int} {h0 h : zH} {Q' Q : Int → zH → Prop} (hf : zF e (e + 33) h0 h) (hP : P_E_noAtAll e a1 h Q') (hq : ∀ r h', Q' r h' → zF e (e + 33) h0 h' → Q r h') : P_E_noAtAll e a1 h Q := by
  unfold P_E_noAtAll at hP ⊢
  refine F_E_beginSet hf hP (fun r1 h2 hP hf => ?_)
  refine F_E_gather hf hP (fun r3 h4 hP hf => ?_)
  intro h5 e_h5
  have hP := hP h5 e_h5
  have hf := zF.w hf e_h5 (by omega) (by omega)
  refine F_E_no hf hP (fun r6 h7 hP hf => ?_)
  refine zif_i (fun c => ?_) (fun c => ?_)
  · have hP := zif_p hP c
    refine F_E_tell hf hP (fun r8 h9 hP hf => ?_)
    exact hq _ _ hP hf
  · have hP := zif_n hP c
    exact hq _ _ hP hf
theorem F_E_learn_J111 {e y2 y3 y4 : Int} {h0 h : zH} {Q' Q : Int → zH → Prop} {k27' k27 : Int → Int → Int → zH → Prop} (hf : zF e (e + 33) h0 h) (hP : P_E_learn_J111 e y2 y3 y4 h Q' k27') (hq : ∀ r h', Q' r h' → zF e (e + 33) h0 h' → Q r h') (hk27 : ∀ v0 v1 v2 h', k27' v0 v1 v2 h' → zF e (e + 33) h0 h' → k27 v0 v1 v2 h') : P_E_learn_J111 e y2 y3 y4 h Q k27 := by
  unfold P_E_learn_J111 at hP ⊢
  intro x3_7 e_x3_7
  have hP := hP x3_7 e_x3_7
  exact hk27 _ _ _ _ hP hf
theorem F_E_learn_L27 {e : Int} {h0 : zH} {Q' Q : Int → zH → Prop} {k117' k117 : Int → zH → Prop} (hq : ∀ r h', Q' r h' → zF e (e + 33) h0 h' → Q r h') (hk117 : ∀ v0 h', k117' v0 h' → zF e (e + 33) h0 h' → k117 v0 h') : ∀ (n27 : Nat) (y2 y3 y4 : Int) (h : zH), zF e (e + 33) h0 h → P_E_learn_L27 e Q' k117' n27 y2 y3 y4 h → P_E_learn_L27 e Q k117 n27 y2 y3 y4 h := by
  intro n27
  induction n27 with
  | zero => intro y2 y3 y4 h hf hP; exact absurd hP id
  | succ n27 ih =>
    intro y2 y3 y4 h hf hP
    unfold P_E_learn_L27 at hP ⊢
    refine zif_i (fun c => ?_) (fun c => ?_)
    · have hP := zif_p hP c
      obtain ⟨ob, hP⟩ := hP
      refine ⟨ob, ?_⟩
      intro x5_6 e_x5_6
      have hP := hP x5_6 e_x5_6
      obtain ⟨ob, hP⟩ := hP
      refine ⟨ob, ?_⟩
      refine zif_i (fun c => ?_) (fun c => ?_)
      · have hP := zif_p hP c
        refine F_E_learn_J111 hf hP hq (fun v0 v1 v2 h' hP hf => ih v0 v1 v2 h' hf hP)
      · have hP := zif_n hP c
        obtain ⟨ob, hP⟩ := hP
        refine ⟨ob, ?_⟩
        refine zif_i (fun c => ?_) (fun c => ?_)
        · have hP := zif_p hP c
          refine zif_i (fun c => ?_) (fun c => ?_)
          · have hP := zif_p hP c
            refine F_E_learn_J111 hf hP hq (fun v0 v1 v2 h' hP hf => ih v0 v1 v2 h' hf hP)
          · have hP := zif_n hP c
            obtain ⟨ob, hP⟩ := hP
            refine ⟨ob, ?_⟩
            intro h8 e_h8
            have hP := hP h8 e_h8
            have hf := zF.w hf e_h8 (by omega) (by omega)
            obtain ⟨ob, hP⟩ := hP
            refine ⟨ob, ?_⟩
            refine F_E_gather hf hP (fun r9 h10 hP hf => ?_)
            intro x2_11 e_x2_11
            have hP := hP x2_11 e_x2_11
            refine F_E_learn_J111 hf hP hq (fun v0 v1 v2 h' hP hf => ih v0 v1 v2 h' hf hP)
        · have hP := zif_n hP c
          refine F_E_learn_J111 hf hP hq (fun v0 v1 v2 h' hP hf => ih v0 v1 v2 h' hf hP)
    · have hP := zif_n hP c
      exact hk117 _ _ hP hf
theorem F_E_learn_J168 {e y5 : Int} {h0 h : zH} {Q' Q : Int → zH → Prop} {k121' k121 : Int → zH → Prop} (hf : zF e (e + 33) h0 h) (hP : P_E_learn_J168 e y5 h Q' k121') (hq : ∀ r h', Q' r h' → zF e (e + 33) h0 h' → Q r h') (hk121 : ∀ v0 h', k121' v0 h' → zF e (e + 33) h0 h' → k121 v0 h') : P_E_learn_J168 e y5 h Q k121 := by
  unfold P_E_learn_J168 at hP ⊢
  intro x5_13 e_x5_13
  have hP := hP x5_13 e_x5_13
  exact hk121 _ _ hP hf
theorem F_E_learn_L121 {e : Int} {h0 : zH} {Q' Q : Int → zH → Prop} (hq : ∀ r h', Q' r h' → zF e (e + 33) h0 h' → Q r h') : ∀ (n121 : Nat) (y5 : Int) (h : zH), zF e (e + 33) h0 h → P_E_learn_L121 e Q' n121 y5 h → P_E_learn_L121 e Q n121 y5 h := by
  intro n121
  induction n121 with
  | zero => intro y5 h hf hP; exact absurd hP id
  | succ n121 ih =>
    intro y5 h hf hP
    unfold P_E_learn_L121 at hP ⊢
    refine zif_i (fun c => ?_) (fun c => ?_)
    · have hP := zif_p hP c
      exact hq _ _ hP hf
    · have hP := zif_n hP c
      obtain ⟨ob, hP⟩ := hP
      refine ⟨ob, ?_⟩
      obtain ⟨ob, hP⟩ := hP
      refine ⟨ob, ?_⟩
      refine zif_i (fun c => ?_) (fun c => ?_)
      · have hP := zif_p hP c
        refine F_E_learn_J168 hf hP hq (fun v0 h' hP hf => ih v0 h' hf hP)
      · have hP := zif_n hP c
        intro h14 e_h14
        have hP := hP h14 e_h14
        have hf := zF.w hf e_h14 (by omega) (by omega)
        obtain ⟨ob, hP⟩ := hP
        refine ⟨ob, ?_⟩
        obtain ⟨ob, hP⟩ := hP
        refine ⟨ob, ?_⟩
        intro h15 e_h15
        have hP := hP h15 e_h15
        have hf := zF.w hf e_h15 (by omega) (by omega)
        refine F_E_learn_J168 hf hP hq (fun v0 h' hP hf => ih v0 h' hf hP)
theorem F_E_learn {e a1 : Int} {h0 h : zH} {Q' Q : Int → zH → Prop} (hf : zF e (e + 33) h0 h) (hP : P_E_learn e a1 h Q') (hq : ∀ r h', Q' r h' → zF e (e + 33) h0 h' → Q r h') : P_E_learn e a1 h Q := by
  unfold P_E_learn at hP ⊢
  refine F_E_beginSet hf hP (fun r1 h2 hP hf => ?_)
  refine F_E_gather hf hP (fun r3 h4 hP hf => ?_)
  intro x3_5 e_x3_5
  have hP := hP x3_5 e_x3_5
  obtain ⟨n27, hP⟩ := hP
  refine ⟨n27, ?_⟩
  refine F_E_learn_L27 hq (fun u4_117 h12 hP hf => ?_) _ _ _ _ _ hf hP
  obtain ⟨n121, hP⟩ := hP
  refine ⟨n121, ?_⟩
  refine F_E_learn_L121 hq _ _ _ hf hP
theorem F_E_heavier_J57 {e y2 s0 s1 : Int} {h0 h : zH} {Q' Q : Int → zH → Prop} {k4' k4 : Int → Int → zH → Prop} (hf : zF e (e + 33) h0 h) (hP : P_E_heavier_J57 e y2 s0 s1 h Q' k4') (hq : ∀ r h', Q' r h' → zF e (e + 33) h0 h' → Q r h') (hk4 : ∀ v0 v1 h', k4' v0 v1 h' → zF e (e + 33) h0 h' → k4 v0 v1 h') : P_E_heavier_J57 e y2 s0 s1 h Q k4 := by
  unfold P_E_heavier_J57 at hP ⊢
  intro x1_2 e_x1_2
  have hP := hP x1_2 e_x1_2
  intro x2_3 e_x2_3
  have hP := hP x2_3 e_x2_3
  exact hk4 _ _ _ hP hf
theorem F_E_heavier_J36 {e y1 y2 s0 s1 s2 : Int} {h0 h : zH} {Q' Q : Int → zH → Prop} {k4' k4 : Int → Int → zH → Prop} (hf : zF e (e + 33) h0 h) (hP : P_E_heavier_J36 e y1 y2 s0 s1 s2 h Q' k4') (hq : ∀ r h', Q' r h' → zF e (e + 33) h0 h' → Q r h') (hk4 : ∀ v0 v1 h', k4' v0 v1 h' → zF e (e + 33) h0 h' → k4 v0 v1 h') : P_E_heavier_J36 e y1 y2 s0 s1 s2 h Q k4 := by
  unfold P_E_heavier_J36 at hP ⊢
  obtain ⟨ob, hP⟩ := hP
  refine ⟨ob, ?_⟩
  intro h1 e_h1
  have hP := hP h1 e_h1
  have hf := zF.w hf e_h1 (by omega) (by omega)
  obtain ⟨ob, hP⟩ := hP
  refine ⟨ob, ?_⟩
  refine F_E_heavier_J57 hf hP hq hk4
theorem F_E_heavier_L4 {e : Int} {h0 : zH} {Q' Q : Int → zH → Prop} {k65' k65 : Int → zH → Prop} (hq : ∀ r h', Q' r h' → zF e (e + 33) h0 h' → Q r h') (hk65 : ∀ v0 h', k65' v0 h' → zF e (e + 33) h0 h' → k65 v0 h') : ∀ (n4 : Nat) (y1 y2 : Int) (h : zH), zF e (e + 33) h0 h → P_E_heavier_L4 e Q' k65' n4 y1 y2 h → P_E_heavier_L4 e Q k65 n4 y1 y2 h := by
  intro n4
  induction n4 with
  | zero => intro y1 y2 h hf hP; exact absurd hP id
  | succ n4 ih =>
    intro y1 y2 h hf hP
    unfold P_E_heavier_L4 at hP ⊢
    refine zif_i (fun c => ?_) (fun c => ?_)
    · have hP := zif_p hP c
      exact hk65 _ _ hP hf
    · have hP := zif_n hP c
      obtain ⟨ob, hP⟩ := hP
      refine ⟨ob, ?_⟩
      obtain ⟨ob, hP⟩ := hP
      refine ⟨ob, ?_⟩
      refine F_E_heavier_J36 hf hP hq (fun v0 v1 h' hP hf => ih v0 v1 h' hf hP)
theorem F_E_heavier_L88 {e : Int} {h0 : zH} {Q' Q : Int → zH → Prop} (hq : ∀ r h', Q' r h' → zF e (e + 33) h0 h' → Q r h') : ∀ (n88 : Nat) (y2 : Int) (h : zH), zF e (e + 33) h0 h → P_E_heavier_L88 e Q' n88 y2 h → P_E_heavier_L88 e Q n88 y2 h := by
  intro n88
  induction n88 with
  | zero => intro y2 h hf hP; exact absurd hP id
  | succ n88 ih =>
    intro y2 h hf hP
    unfold P_E_heavier_L88 at hP ⊢
    refine zif_i (fun c => ?_) (fun c => ?_)
    · have hP := zif_p hP c
      intro h6 e_h6
      have hP := hP h6 e_h6
      have hf := zF.w hf e_h6 (by omega) (by omega)
      exact hq _ _ hP hf
    · have hP := zif_n hP c
      obtain ⟨ob, hP⟩ := hP
      refine ⟨ob, ?_⟩
      obtain ⟨ob, hP⟩ := hP
      refine ⟨ob, ?_⟩
      intro h7 e_h7
      have hP := hP h7 e_h7
      have hf := zF.w hf e_h7 (by omega) (by omega)
      intro x2_8 e_x2_8
      have hP := hP x2_8 e_x2_8
      exact ih _ _ hf hP
theorem F_E_heavier {e : Int} {h0 h : zH} {Q' Q : Int → zH → Prop} (hf : zF e (e + 33) h0 h) (hP : P_E_heavier e h Q') (hq : ∀ r h', Q' r h' → zF e (e + 33) h0 h' → Q r h') : P_E_heavier e h Q := by
  unfold P_E_heavier at hP ⊢
  obtain ⟨n4, hP⟩ := hP
  refine ⟨n4, ?_⟩
  refine F_E_heavier_L4 hq (fun u1_65 h4 hP hf => ?_) _ _ _ _ hf hP
  intro h5 e_h5
  have hP := hP h5 e_h5
  have hf := zF.w hf e_h5 (by omega) (by omega)
  refine zif_i (fun c => ?_) (fun c => ?_)
  · have hP := zif_p hP c
    exact hq _ _ hP hf
  · have hP := zif_n hP c
    obtain ⟨n88, hP⟩ := hP
    refine ⟨n88, ?_⟩
    refine F_E_heavier_L88 hq _ _ _ hf hP
theorem F_E_turnNumber_L7 {e y1 : Int} {h0 : zH} {Q' Q : Int → zH → Prop} {k23' k23 : Int → zH → Prop} (hq : ∀ r h', Q' r h' → zF e (e + 33) h0 h' → Q r h') (hk23 : ∀ v0 h', k23' v0 h' → zF e (e + 33) h0 h' → k23 v0 h') : ∀ (n7 : Nat) (y2 : Int) (h : zH), zF e (e + 33) h0 h → P_E_turnNumber_L7 e y1 Q' k23' n7 y2 h → P_E_turnNumber_L7 e y1 Q k23 n7 y2 h := by
  intro n7
  induction n7 with
  | zero => intro y2 h hf hP; exact absurd hP id
  | succ n7 ih =>
    intro y2 h hf hP
    unfold P_E_turnNumber_L7 at hP ⊢
    refine zif_i (fun c => ?_) (fun c => ?_)
    · have hP := zif_p hP c
      exact hk23 _ _ hP hf
    · have hP := zif_n hP c
      intro x2_2 e_x2_2
      have hP := hP x2_2 e_x2_2
      exact ih _ _ hf hP
theorem F_E_turnNumber_L40 {e y1 : Int} {h0 : zH} {Q' Q : Int → zH → Prop} {k23' k23 : Int → zH → Prop} (hq : ∀ r h', Q' r h' → zF e (e + 33) h0 h' → Q r h') (hk23 : ∀ v0 h', k23' v0 h' → zF e (e + 33) h0 h' → k23 v0 h') : ∀ (n40 : Nat) (y2 : Int) (h : zH), zF e (e + 33) h0 h → P_E_turnNumber_L40 e y1 Q' k23' n40 y2 h → P_E_turnNumber_L40 e y1 Q k23 n40 y2 h := by
  intro n40
  induction n40 with
  | zero => intro y2 h hf hP; exact absurd hP id
  | succ n40 ih =>
    intro y2 h hf hP
    unfold P_E_turnNumber_L40 at hP ⊢
    refine zif_i (fun c => ?_) (fun c => ?_)
    · have hP := zif_p hP c
      exact hk23 _ _ hP hf
    · have hP := zif_n hP c
      intro x2_5 e_x2_5
      have hP := hP x2_5 e_x2_5
      exact ih _ _ hf hP
theorem F_E_turnNumber_L23 {e : Int} {h0 : zH} {Q' Q : Int → zH → Prop} (hq : ∀ r h', Q' r h' → zF e (e + 33) h0 h' → Q r h') : ∀ (n23 : Nat) (y1 y2 : Int) (h : zH), zF e (e + 33) h0 h → P_E_turnNumber_L23 e Q' n23 y1 y2 h → P_E_turnNumber_L23 e Q n23 y1 y2 h := by
  intro n23
  induction n23 with
  | zero => intro y1 y2 h hf hP; exact absurd hP id
  | succ n23 ih =>
    intro y1 y2 h hf hP
    unfold P_E_turnNumber_L23 at hP ⊢
    refine zif_i (fun c => ?_) (fun c => ?_)
    · have hP := zif_p hP c
      exact hq _ _ hP hf
    · have hP := zif_n hP c
      intro x1_4 e_x1_4
      have hP := hP x1_4 e_x1_4
      obtain ⟨n40, hP⟩ := hP
      refine ⟨n40, ?_⟩
      refine F_E_turnNumber_L40 hq (fun u2_23 h6 hP hf => ?_) _ _ _ hf hP
      exact ih _ _ _ hf hP
theorem F_E_turnNumber {e : Int} {h0 h : zH} {Q' Q : Int → zH → Prop} (hf : zF e (e + 33) h0 h) (hP : P_E_turnNumber e h Q') (hq : ∀ r h', Q' r h' → zF e (e + 33) h0 h' → Q r h') : P_E_turnNumber e h Q := by
  unfold P_E_turnNumber at hP ⊢
  intro x1_1 e_x1_1
  have hP := hP x1_1 e_x1_1
  obtain ⟨n7, hP⟩ := hP
  refine ⟨n7, ?_⟩
  refine F_E_turnNumber_L7 hq (fun u2_23 h3 hP hf => ?_) _ _ _ hf hP
  obtain ⟨n23, hP⟩ := hP
  refine ⟨n23, ?_⟩
  refine F_E_turnNumber_L23 hq _ _ _ _ hf hP
theorem F_E_isReason_J67 {e y1 y2 s0 : Int} {h0 h : zH} {Q' Q : Int → zH → Prop} {k9' k9 : Int → Int → zH → Prop} (hf : zF e (e + 33) h0 h) (hP : P_E_isReason_J67 e y1 y2 s0 h Q' k9') (hq : ∀ r h', Q' r h' → zF e (e + 33) h0 h' → Q r h') (hk9 : ∀ v0 v1 h', k9' v0 v1 h' → zF e (e + 33) h0 h' → k9 v0 v1 h') : P_E_isReason_J67 e y1 y2 s0 h Q k9 := by
  unfold P_E_isReason_J67 at hP ⊢
  intro x2_3 e_x2_3
  have hP := hP x2_3 e_x2_3
  exact hk9 _ _ _ hP hf
theorem F_E_isReason_L9 {e y1 : Int} {h0 : zH} {Q' Q : Int → zH → Prop} (hq : ∀ r h', Q' r h' → zF e (e + 33) h0 h' → Q r h') : ∀ (n9 : Nat) (y2 y3 : Int) (h : zH), zF e (e + 33) h0 h → P_E_isReason_L9 e y1 Q' n9 y2 y3 h → P_E_isReason_L9 e y1 Q n9 y2 y3 h := by
  intro n9
  induction n9 with
  | zero => intro y2 y3 h hf hP; exact absurd hP id
  | succ n9 ih =>
    intro y2 y3 h hf hP
    unfold P_E_isReason_L9 at hP ⊢
    obtain ⟨ob, hP⟩ := hP
    refine ⟨ob, ?_⟩
    obtain ⟨ob, hP⟩ := hP
    refine ⟨ob, ?_⟩
    refine zif_i (fun c => ?_) (fun c => ?_)
    · have hP := zif_p hP c
      obtain ⟨ob, hP⟩ := hP
      refine ⟨ob, ?_⟩
      exact hq _ _ hP hf
    · have hP := zif_n hP c
      refine zif_i (fun c => ?_) (fun c => ?_)
      · have hP := zif_p hP c
        obtain ⟨ob, hP⟩ := hP
        refine ⟨ob, ?_⟩
        intro x4_2 e_x4_2
        have hP := hP x4_2 e_x4_2
        obtain ⟨ob, hP⟩ := hP
        refine ⟨ob, ?_⟩
        obtain ⟨ob, hP⟩ := hP
        refine ⟨ob, ?_⟩
        refine F_E_isReason_J67 hf hP hq (fun v0 v1 h' hP hf => ih v0 v1 h' hf hP)
      · have hP := zif_n hP c
        obtain ⟨ob, hP⟩ := hP
        refine ⟨ob, ?_⟩
        exact hq _ _ hP hf
theorem F_E_isReason {e a1 : Int} {h0 h : zH} {Q' Q : Int → zH → Prop} (hf : zF e (e + 33) h0 h) (hP : P_E_isReason e a1 h Q') (hq : ∀ r h', Q' r h' → zF e (e + 33) h0 h' → Q r h') : P_E_isReason e a1 h Q := by
  unfold P_E_isReason at hP ⊢
  obtain ⟨ob, hP⟩ := hP
  refine ⟨ob, ?_⟩
  intro x2_1 e_x2_1
  have hP := hP x2_1 e_x2_1
  obtain ⟨n9, hP⟩ := hP
  refine ⟨n9, ?_⟩
  refine F_E_isReason_L9 hq _ _ _ _ hf hP
theorem F_E_forgets_J134 {e y1 y2 : Int} {h0 h : zH} {Q' Q : Int → zH → Prop} {k29' k29 : Int → Int → zH → Prop} (hf : zF e (e + 33) h0 h) (hP : P_E_forgets_J134 e y1 y2 h Q' k29') (hq : ∀ r h', Q' r h' → zF e (e + 33) h0 h' → Q r h') (hk29 : ∀ v0 v1 h', k29' v0 v1 h' → zF e (e + 33) h0 h' → k29 v0 v1 h') : P_E_forgets_J134 e y1 y2 h Q k29 := by
  unfold P_E_forgets_J134 at hP ⊢
  intro x2_2 e_x2_2
  have hP := hP x2_2 e_x2_2
  exact hk29 _ _ _ hP hf
theorem F_E_forgets_L76 {e y1 y2 : Int} {h0 : zH} {Q' Q : Int → zH → Prop} {k126' k126 : Int → zH → Prop} (hq : ∀ r h', Q' r h' → zF e (e + 33) h0 h' → Q r h') (hk126 : ∀ v0 h', k126' v0 h' → zF e (e + 33) h0 h' → k126 v0 h') : ∀ (n76 : Nat) (y4 : Int) (h : zH), zF e (e + 33) h0 h → P_E_forgets_L76 e y1 y2 Q' k126' n76 y4 h → P_E_forgets_L76 e y1 y2 Q k126 n76 y4 h := by
  intro n76
  induction n76 with
  | zero => intro y4 h hf hP; exact absurd hP id
  | succ n76 ih =>
    intro y4 h hf hP
    unfold P_E_forgets_L76 at hP ⊢
    refine zif_i (fun c => ?_) (fun c => ?_)
    · have hP := zif_p hP c
      exact hk126 _ _ hP hf
    · have hP := zif_n hP c
      obtain ⟨ob, hP⟩ := hP
      refine ⟨ob, ?_⟩
      obtain ⟨ob, hP⟩ := hP
      refine ⟨ob, ?_⟩
      obtain ⟨ob, hP⟩ := hP
      refine ⟨ob, ?_⟩
      refine zif_i (fun c => ?_) (fun c => ?_)
      · have hP := zif_p hP c
        exact hk126 _ _ hP hf
      · have hP := zif_n hP c
        obtain ⟨ob, hP⟩ := hP
        refine ⟨ob, ?_⟩
        obtain ⟨ob, hP⟩ := hP
        refine ⟨ob, ?_⟩
        intro h6 e_h6
        have hP := hP h6 e_h6
        have hf := zF.w hf e_h6 (by omega) (by omega)
        intro x4_7 e_x4_7
        have hP := hP x4_7 e_x4_7
        exact ih _ _ hf hP
theorem F_E_forgets_J126 {e y1 y2 y4 : Int} {h0 h : zH} {Q' Q : Int → zH → Prop} {k29' k29 : Int → Int → zH → Prop} (hf : zF e (e + 33) h0 h) (hP : P_E_forgets_J126 e y1 y2 y4 h Q' k29') (hq : ∀ r h', Q' r h' → zF e (e + 33) h0 h' → Q r h') (hk29 : ∀ v0 v1 h', k29' v0 v1 h' → zF e (e + 33) h0 h' → k29 v0 v1 h') : P_E_forgets_J126 e y1 y2 y4 h Q k29 := by
  unfold P_E_forgets_J126 at hP ⊢
  obtain ⟨ob, hP⟩ := hP
  refine ⟨ob, ?_⟩
  intro h9 e_h9
  have hP := hP h9 e_h9
  have hf := zF.w hf e_h9 (by omega) (by omega)
  refine F_E_forgets_J134 hf hP hq hk29
theorem F_E_forgets_L29 {e : Int} {h0 : zH} {Q' Q : Int → zH → Prop} {k140' k140 : Int → zH → Prop} (hq : ∀ r h', Q' r h' → zF e (e + 33) h0 h' → Q r h') (hk140 : ∀ v0 h', k140' v0 h' → zF e (e + 33) h0 h' → k140 v0 h') : ∀ (n29 : Nat) (y1 y2 : Int) (h : zH), zF e (e + 33) h0 h → P_E_forgets_L29 e Q' k140' n29 y1 y2 h → P_E_forgets_L29 e Q k140 n29 y1 y2 h := by
  intro n29
  induction n29 with
  | zero => intro y1 y2 h hf hP; exact absurd hP id
  | succ n29 ih =>
    intro y1 y2 h hf hP
    unfold P_E_forgets_L29 at hP ⊢
    refine zif_i (fun c => ?_) (fun c => ?_)
    · have hP := zif_p hP c
      exact hk140 _ _ hP hf
    · have hP := zif_n hP c
      intro x3_1 e_x3_1
      have hP := hP x3_1 e_x3_1
      obtain ⟨ob, hP⟩ := hP
      refine ⟨ob, ?_⟩
      refine zif_i (fun c => ?_) (fun c => ?_)
      · have hP := zif_p hP c
        refine F_E_forgets_J134 hf hP hq (fun v0 v1 h' hP hf => ih v0 v1 h' hf hP)
      · have hP := zif_n hP c
        obtain ⟨ob, hP⟩ := hP
        refine ⟨ob, ?_⟩
        refine zif_i (fun c => ?_) (fun c => ?_)
        · have hP := zif_p hP c
          refine F_E_forgets_J134 hf hP hq (fun v0 v1 h' hP hf => ih v0 v1 h' hf hP)
        · have hP := zif_n hP c
          refine F_E_isReason hf hP (fun r3 h4 hP hf => ?_)
          refine zif_i (fun c => ?_) (fun c => ?_)
          · have hP := zif_p hP c
            intro x1_5 e_x1_5
            have hP := hP x1_5 e_x1_5
            obtain ⟨n76, hP⟩ := hP
            refine ⟨n76, ?_⟩
            refine F_E_forgets_L76 hq (fun u4_126 h8 hP hf => ?_) _ _ _ hf hP
            refine F_E_forgets_J126 hf hP hq (fun v0 v1 h' hP hf => ih v0 v1 h' hf hP)
          · have hP := zif_n hP c
            refine F_E_forgets_J134 hf hP hq (fun v0 v1 h' hP hf => ih v0 v1 h' hf hP)
theorem F_E_forgets_L142 {e y1 : Int} {h0 : zH} {Q' Q : Int → zH → Prop} {k205' k205 : zH → Prop} (hq : ∀ r h', Q' r h' → zF e (e + 33) h0 h' → Q r h') (hk205 : ∀ h', k205' h' → zF e (e + 33) h0 h' → k205 h') : ∀ (n142 : Nat) (y2 : Int) (h : zH), zF e (e + 33) h0 h → P_E_forgets_L142 e y1 Q' k205' n142 y2 h → P_E_forgets_L142 e y1 Q k205 n142 y2 h := by
  intro n142
  induction n142 with
  | zero => intro y2 h hf hP; exact absurd hP id
  | succ n142 ih =>
    intro y2 h hf hP
    unfold P_E_forgets_L142 at hP ⊢
    refine zif_i (fun c => ?_) (fun c => ?_)
    · have hP := zif_p hP c
      exact hk205 _ hP hf
    · have hP := zif_n hP c
      obtain ⟨ob, hP⟩ := hP
      refine ⟨ob, ?_⟩
      obtain ⟨ob, hP⟩ := hP
      refine ⟨ob, ?_⟩
      intro h11 e_h11
      have hP := hP h11 e_h11
      have hf := zF.w hf e_h11 (by omega) (by omega)
      obtain ⟨ob, hP⟩ := hP
      refine ⟨ob, ?_⟩
      refine F_E_look hf hP (fun r12 h13 hP hf => ?_)
      intro h14 e_h14
      have hP := hP h14 e_h14
      have hf := zF.w hf e_h14 (by omega) (by omega)
      intro h15 e_h15
      have hP := hP h15 e_h15
      have hf := zF.w hf e_h15 (by omega) (by omega)
      intro x2_16 e_x2_16
      have hP := hP x2_16 e_x2_16
      exact ih _ _ hf hP
theorem F_E_forgets_L207 {e : Int} {h0 : zH} {Q' Q : Int → zH → Prop} (hq : ∀ r h', Q' r h' → zF e (e + 33) h0 h' → Q r h') : ∀ (n207 : Nat) (y2 : Int) (h : zH), zF e (e + 33) h0 h → P_E_forgets_L207 e Q' n207 y2 h → P_E_forgets_L207 e Q n207 y2 h := by
  intro n207
  induction n207 with
  | zero => intro y2 h hf hP; exact absurd hP id
  | succ n207 ih =>
    intro y2 h hf hP
    unfold P_E_forgets_L207 at hP ⊢
    refine zif_i (fun c => ?_) (fun c => ?_)
    · have hP := zif_p hP c
      exact hq _ _ hP hf
    · have hP := zif_n hP c
      obtain ⟨ob, hP⟩ := hP
      refine ⟨ob, ?_⟩
      obtain ⟨ob, hP⟩ := hP
      refine ⟨ob, ?_⟩
      intro h18 e_h18
      have hP := hP h18 e_h18
      have hf := zF.w hf e_h18 (by omega) (by omega)
      intro x2_19 e_x2_19
      have hP := hP x2_19 e_x2_19
      exact ih _ _ hf hP
theorem F_E_forgets {e : Int} {h0 h : zH} {Q' Q : Int → zH → Prop} (hf : zF e (e + 33) h0 h) (hP : P_E_forgets e h Q') (hq : ∀ r h', Q' r h' → zF e (e + 33) h0 h' → Q r h') : P_E_forgets e h Q := by
  unfold P_E_forgets at hP ⊢
  refine zif_i (fun c => ?_) (fun c => ?_)
  · have hP := zif_p hP c
    exact hq _ _ hP hf
  · have hP := zif_n hP c
    refine zif_i (fun c => ?_) (fun c => ?_)
    · have hP := zif_p hP c
      obtain ⟨n29, hP⟩ := hP
      refine ⟨n29, ?_⟩
      refine F_E_forgets_L29 hq (fun u1_140 h10 hP hf => ?_) _ _ _ _ hf hP
      obtain ⟨n142, hP⟩ := hP
      refine ⟨n142, ?_⟩
      refine F_E_forgets_L142 hq (fun h17 hP hf => ?_) _ _ _ hf hP
      obtain ⟨n207, hP⟩ := hP
      refine ⟨n207, ?_⟩
      refine F_E_forgets_L207 hq _ _ _ hf hP
    · have hP := zif_n hP c
      exact hq _ _ hP hf
theorem F_E_learns_L38 {e y1 : Int} {h0 : zH} {Q' Q : Int → zH → Prop} {k67' k67 : zH → Prop} (hq : ∀ r h', Q' r h' → zF e (e + 33) h0 h' → Q r h') (hk67 : ∀ h', k67' h' → zF e (e + 33) h0 h' → k67 h') : ∀ (n38 : Nat) (y2 : Int) (h : zH), zF e (e + 33) h0 h → P_E_learns_L38 e y1 Q' k67' n38 y2 h → P_E_learns_L38 e y1 Q k67 n38 y2 h := by
  intro n38
  induction n38 with
  | zero => intro y2 h hf hP; exact absurd hP id
  | succ n38 ih =>
    intro y2 h hf hP
    unfold P_E_learns_L38 at hP ⊢
    refine zif_i (fun c => ?_) (fun c => ?_)
    · have hP := zif_p hP c
      exact hk67 _ hP hf
    · have hP := zif_n hP c
      obtain ⟨ob, hP⟩ := hP
      refine ⟨ob, ?_⟩
      obtain ⟨ob, hP⟩ := hP
      refine ⟨ob, ?_⟩
      obtain ⟨ob, hP⟩ := hP
      refine ⟨ob, ?_⟩
      intro h10 e_h10
      have hP := hP h10 e_h10
      have hf := zF.w hf e_h10 (by omega) (by omega)
      intro x2_11 e_x2_11
      have hP := hP x2_11 e_x2_11
      exact ih _ _ hf hP
theorem F_E_learns_L77 {e y1 y2 : Int} {h0 : zH} {Q' Q : Int → zH → Prop} {k112' k112 : Int → zH → Prop} (hq : ∀ r h', Q' r h' → zF e (e + 33) h0 h' → Q r h') (hk112 : ∀ v0 h', k112' v0 h' → zF e (e + 33) h0 h' → k112 v0 h') : ∀ (n77 : Nat) (y3 y4 : Int) (h : zH), zF e (e + 33) h0 h → P_E_learns_L77 e y1 y2 Q' k112' n77 y3 y4 h → P_E_learns_L77 e y1 y2 Q k112 n77 y3 y4 h := by
  intro n77
  induction n77 with
  | zero => intro y3 y4 h hf hP; exact absurd hP id
  | succ n77 ih =>
    intro y3 y4 h hf hP
    unfold P_E_learns_L77 at hP ⊢
    refine zif_i (fun c => ?_) (fun c => ?_)
    · have hP := zif_p hP c
      exact hk112 _ _ hP hf
    · have hP := zif_n hP c
      obtain ⟨ob, hP⟩ := hP
      refine ⟨ob, ?_⟩
      obtain ⟨ob, hP⟩ := hP
      refine ⟨ob, ?_⟩
      intro x3_14 e_x3_14
      have hP := hP x3_14 e_x3_14
      intro x4_15 e_x4_15
      have hP := hP x4_15 e_x4_15
      exact ih _ _ _ hf hP
theorem F_E_learns_J186 {e y1 y2 : Int} {h0 h : zH} {Q' Q : Int → zH → Prop} (hf : zF e (e + 33) h0 h) (hP : P_E_learns_J186 e y1 y2 h Q') (hq : ∀ r h', Q' r h' → zF e (e + 33) h0 h' → Q r h') : P_E_learns_J186 e y1 y2 h Q := by
  unfold P_E_learns_J186 at hP ⊢
  refine F_E_forgets hf hP (fun r20 h21 hP hf => ?_)
  refine F_E_keep hf hP (fun r22 h23 hP hf => ?_)
  refine F_E_tell hf hP (fun r24 h25 hP hf => ?_)
  exact hq _ _ hP hf
theorem F_E_learns {e a1 : Int} {h0 h : zH} {Q' Q : Int → zH → Prop} (hf : zF e (e + 33) h0 h) (hP : P_E_learns e a1 h Q') (hq : ∀ r h', Q' r h' → zF e (e + 33) h0 h' → Q r h') : P_E_learns e a1 h Q := by
  unfold P_E_learns at hP ⊢
  refine F_E_learn hf hP (fun r1 h2 hP hf => ?_)
  refine F_E_hasRoom hf hP (fun r3 h4 hP hf => ?_)
  refine zif_i (fun c => ?_) (fun c => ?_)
  · have hP := zif_p hP c
    exact hq _ _ hP hf
  · have hP := zif_n hP c
    refine F_E_step hf hP (fun r5 h6 hP hf => ?_)
    intro h7 e_h7
    have hP := hP h7 e_h7
    have hf := zF.w hf e_h7 (by omega) (by omega)
    refine F_E_heavier hf hP (fun r8 h9 hP hf => ?_)
    obtain ⟨n38, hP⟩ := hP
    refine ⟨n38, ?_⟩
    refine F_E_learns_L38 hq (fun h12 hP hf => ?_) _ _ _ hf hP
    intro x2_13 e_x2_13
    have hP := hP x2_13 e_x2_13
    obtain ⟨n77, hP⟩ := hP
    refine ⟨n77, ?_⟩
    refine F_E_learns_L77 hq (fun u3_112 h16 hP hf => ?_) _ _ _ _ hf hP
    refine F_E_back hf hP (fun r17 h18 hP hf => ?_)
    intro h19 e_h19
    have hP := hP h19 e_h19
    have hf := zF.w hf e_h19 (by omega) (by omega)
    refine zif_i (fun c => ?_) (fun c => ?_)
    · have hP := zif_p hP c
      refine F_E_learns_J186 hf hP hq
    · have hP := zif_n hP c
      refine F_E_turnNumber hf hP (fun r26 h27 hP hf => ?_)
      refine zif_i (fun c => ?_) (fun c => ?_)
      · have hP := zif_p hP c
        refine F_E_learns_J186 hf hP hq
      · have hP := zif_n hP c
        refine F_E_back hf hP (fun r28 h29 hP hf => ?_)
        intro h30 e_h30
        have hP := hP h30 e_h30
        have hf := zF.w hf e_h30 (by omega) (by omega)
        intro h31 e_h31
        have hP := hP h31 e_h31
        have hf := zF.w hf e_h31 (by omega) (by omega)
        intro h32 e_h32
        have hP := hP h32 e_h32
        have hf := zF.w hf e_h32 (by omega) (by omega)
        refine F_E_learns_J186 hf hP hq
theorem F_E_firstAssumed_L2 {e : Int} {h0 : zH} {Q' Q : Int → zH → Prop} (hq : ∀ r h', Q' r h' → zF e (e + 33) h0 h' → Q r h') : ∀ (n2 : Nat) (y1 : Int) (h : zH), zF e (e + 33) h0 h → P_E_firstAssumed_L2 e Q' n2 y1 h → P_E_firstAssumed_L2 e Q n2 y1 h := by
  intro n2
  induction n2 with
  | zero => intro y1 h hf hP; exact absurd hP id
  | succ n2 ih =>
    intro y1 h hf hP
    unfold P_E_firstAssumed_L2 at hP ⊢
    refine zif_i (fun c => ?_) (fun c => ?_)
    · have hP := zif_p hP c
      exact hq _ _ hP hf
    · have hP := zif_n hP c
      obtain ⟨ob, hP⟩ := hP
      refine ⟨ob, ?_⟩
      refine F_E_isTrue hf hP (fun r1 h2 hP hf => ?_)
      refine zif_i (fun c => ?_) (fun c => ?_)
      · have hP := zif_p hP c
        obtain ⟨ob, hP⟩ := hP
        refine ⟨ob, ?_⟩
        exact hq _ _ hP hf
      · have hP := zif_n hP c
        intro x1_3 e_x1_3
        have hP := hP x1_3 e_x1_3
        exact ih _ _ hf hP
theorem F_E_firstAssumed {e : Int} {h0 h : zH} {Q' Q : Int → zH → Prop} (hf : zF e (e + 33) h0 h) (hP : P_E_firstAssumed e h Q') (hq : ∀ r h', Q' r h' → zF e (e + 33) h0 h' → Q r h') : P_E_firstAssumed e h Q := by
  unfold P_E_firstAssumed at hP ⊢
  obtain ⟨n2, hP⟩ := hP
  refine ⟨n2, ?_⟩
  refine F_E_firstAssumed_L2 hq _ _ _ hf hP
theorem F_E_marks_J67 {e y1 y2 y3 s0 s1 s2 : Int} {h0 h : zH} {Q' Q : Int → zH → Prop} {k17' k17 : Int → zH → Prop} (hf : zF e (e + 33) h0 h) (hP : P_E_marks_J67 e y1 y2 y3 s0 s1 s2 h Q' k17') (hq : ∀ r h', Q' r h' → zF e (e + 33) h0 h' → Q r h') (hk17 : ∀ v0 h', k17' v0 h' → zF e (e + 33) h0 h' → k17 v0 h') : P_E_marks_J67 e y1 y2 y3 s0 s1 s2 h Q k17 := by
  unfold P_E_marks_J67 at hP ⊢
  obtain ⟨ob, hP⟩ := hP
  refine ⟨ob, ?_⟩
  intro h4 e_h4
  have hP := hP h4 e_h4
  have hf := zF.w hf e_h4 (by omega) (by omega)
  intro x3_5 e_x3_5
  have hP := hP x3_5 e_x3_5
  exact hk17 _ _ hP hf
theorem F_E_marks_L17 {e y1 y2 : Int} {h0 : zH} {Q' Q : Int → zH → Prop} (hq : ∀ r h', Q' r h' → zF e (e + 33) h0 h' → Q r h') : ∀ (n17 : Nat) (y3 : Int) (h : zH), zF e (e + 33) h0 h → P_E_marks_L17 e y1 y2 Q' n17 y3 h → P_E_marks_L17 e y1 y2 Q n17 y3 h := by
  intro n17
  induction n17 with
  | zero => intro y3 h hf hP; exact absurd hP id
  | succ n17 ih =>
    intro y3 h hf hP
    unfold P_E_marks_L17 at hP ⊢
    obtain ⟨ob, hP⟩ := hP
    refine ⟨ob, ?_⟩
    obtain ⟨ob, hP⟩ := hP
    refine ⟨ob, ?_⟩
    refine zif_i (fun c => ?_) (fun c => ?_)
    · have hP := zif_p hP c
      exact hq _ _ hP hf
    · have hP := zif_n hP c
      obtain ⟨ob, hP⟩ := hP
      refine ⟨ob, ?_⟩
      obtain ⟨ob, hP⟩ := hP
      refine ⟨ob, ?_⟩
      obtain ⟨ob, hP⟩ := hP
      refine ⟨ob, ?_⟩
      refine F_E_marks_J67 hf hP hq (fun v0 h' hP hf => ih v0 h' hf hP)
theorem F_E_marks {e a1 a2 : Int} {h0 h : zH} {Q' Q : Int → zH → Prop} (hf : zF e (e + 33) h0 h) (hP : P_E_marks e a1 a2 h Q') (hq : ∀ r h', Q' r h' → zF e (e + 33) h0 h' → Q r h') : P_E_marks e a1 a2 h Q := by
  unfold P_E_marks at hP ⊢
  refine F_E_addSource (by omega) hf hP (fun r1 h2 hP hf => ?_)
  obtain ⟨ob, hP⟩ := hP
  refine ⟨ob, ?_⟩
  intro x3_3 e_x3_3
  have hP := hP x3_3 e_x3_3
  obtain ⟨n17, hP⟩ := hP
  refine ⟨n17, ?_⟩
  refine F_E_marks_L17 hq _ _ _ hf hP
theorem F_E_noBy_L6 {e y1 : Int} {h0 : zH} {Q' Q : Int → zH → Prop} {k27' k27 : zH → Prop} (hq : ∀ r h', Q' r h' → zF e (e + 33) h0 h' → Q r h') (hk27 : ∀ h', k27' h' → zF e (e + 33) h0 h' → k27 h') : ∀ (n6 : Nat) (y2 : Int) (h : zH), zF e (e + 33) h0 h → P_E_noBy_L6 e y1 Q' k27' n6 y2 h → P_E_noBy_L6 e y1 Q k27 n6 y2 h := by
  intro n6
  induction n6 with
  | zero => intro y2 h hf hP; exact absurd hP id
  | succ n6 ih =>
    intro y2 h hf hP
    unfold P_E_noBy_L6 at hP ⊢
    refine zif_i (fun c => ?_) (fun c => ?_)
    · have hP := zif_p hP c
      exact hk27 _ hP hf
    · have hP := zif_n hP c
      obtain ⟨ob, hP⟩ := hP
      refine ⟨ob, ?_⟩
      intro h3 e_h3
      have hP := hP h3 e_h3
      have hf := zF.w hf e_h3 (by omega) (by omega)
      intro x2_4 e_x2_4
      have hP := hP x2_4 e_x2_4
      exact ih _ _ hf hP
theorem F_E_noBy_J135 {e y1 y3 : Int} {h0 h : zH} {Q' Q : Int → zH → Prop} {k46' k46 : Int → zH → Prop} (hf : zF e (e + 33) h0 h) (hP : P_E_noBy_J135 e y1 y3 h Q' k46') (hq : ∀ r h', Q' r h' → zF e (e + 33) h0 h' → Q r h') (hk46 : ∀ v0 h', k46' v0 h' → zF e (e + 33) h0 h' → k46 v0 h') : P_E_noBy_J135 e y1 y3 h Q k46 := by
  unfold P_E_noBy_J135 at hP ⊢
  intro x3_12 e_x3_12
  have hP := hP x3_12 e_x3_12
  exact hk46 _ _ hP hf
theorem F_E_noBy_L46 {e y1 : Int} {h0 : zH} {Q' Q : Int → zH → Prop} {k141' k141 : zH → Prop} (hq : ∀ r h', Q' r h' → zF e (e + 33) h0 h' → Q r h') (hk141 : ∀ h', k141' h' → zF e (e + 33) h0 h' → k141 h') : ∀ (n46 : Nat) (y3 : Int) (h : zH), zF e (e + 33) h0 h → P_E_noBy_L46 e y1 Q' k141' n46 y3 h → P_E_noBy_L46 e y1 Q k141 n46 y3 h := by
  intro n46
  induction n46 with
  | zero => intro y3 h hf hP; exact absurd hP id
  | succ n46 ih =>
    intro y3 h hf hP
    unfold P_E_noBy_L46 at hP ⊢
    refine zif_i (fun c => ?_) (fun c => ?_)
    · have hP := zif_p hP c
      exact hk141 _ hP hf
    · have hP := zif_n hP c
      obtain ⟨ob, hP⟩ := hP
      refine ⟨ob, ?_⟩
      intro x4_9 e_x4_9
      have hP := hP x4_9 e_x4_9
      obtain ⟨ob, hP⟩ := hP
      refine ⟨ob, ?_⟩
      refine zif_i (fun c => ?_) (fun c => ?_)
      · have hP := zif_p hP c
        refine F_E_noBy_J135 hf hP hq (fun v0 h' hP hf => ih v0 h' hf hP)
      · have hP := zif_n hP c
        obtain ⟨ob, hP⟩ := hP
        refine ⟨ob, ?_⟩
        refine zif_i (fun c => ?_) (fun c => ?_)
        · have hP := zif_p hP c
          refine F_E_addRoot (by omega) hf hP (fun r14 h15 hP hf => ?_)
          refine F_E_noBy_J135 hf hP hq (fun v0 h' hP hf => ih v0 h' hf hP)
        · have hP := zif_n hP c
          obtain ⟨ob, hP⟩ := hP
          refine ⟨ob, ?_⟩
          refine zif_i (fun c => ?_) (fun c => ?_)
          · have hP := zif_p hP c
            obtain ⟨ob, hP⟩ := hP
            refine ⟨ob, ?_⟩
            intro h13 e_h13
            have hP := hP h13 e_h13
            have hf := zF.w hf e_h13 (by omega) (by omega)
            refine F_E_noBy_J135 hf hP hq (fun v0 h' hP hf => ih v0 h' hf hP)
          · have hP := zif_n hP c
            obtain ⟨ob, hP⟩ := hP
            refine ⟨ob, ?_⟩
            refine F_E_marks hf hP (fun r10 h11 hP hf => ?_)
            refine F_E_noBy_J135 hf hP hq (fun v0 h' hP hf => ih v0 h' hf hP)
theorem F_E_noBy_J229 {e y1 y3 : Int} {h0 h : zH} {Q' Q : Int → zH → Prop} {k148' k148 : Int → zH → Prop} (hf : zF e (e + 33) h0 h) (hP : P_E_noBy_J229 e y1 y3 h Q' k148') (hq : ∀ r h', Q' r h' → zF e (e + 33) h0 h' → Q r h') (hk148 : ∀ v0 h', k148' v0 h' → zF e (e + 33) h0 h' → k148 v0 h') : P_E_noBy_J229 e y1 y3 h Q k148 := by
  unfold P_E_noBy_J229 at hP ⊢
  intro x3_25 e_x3_25
  have hP := hP x3_25 e_x3_25
  exact hk148 _ _ hP hf
theorem F_E_noBy_J192 {e y1 y3 y4 : Int} {h0 h : zH} {Q' Q : Int → zH → Prop} {k148' k148 : Int → zH → Prop} (hf : zF e (e + 33) h0 h) (hP : P_E_noBy_J192 e y1 y3 y4 h Q' k148') (hq : ∀ r h', Q' r h' → zF e (e + 33) h0 h' → Q r h') (hk148 : ∀ v0 h', k148' v0 h' → zF e (e + 33) h0 h' → k148 v0 h') : P_E_noBy_J192 e y1 y3 y4 h Q k148 := by
  unfold P_E_noBy_J192 at hP ⊢
  intro h21 e_h21
  have hP := hP h21 e_h21
  have hf := zF.w hf e_h21 (by omega) (by omega)
  obtain ⟨ob, hP⟩ := hP
  refine ⟨ob, ?_⟩
  intro h22 e_h22
  have hP := hP h22 e_h22
  have hf := zF.w hf e_h22 (by omega) (by omega)
  intro h23 e_h23
  have hP := hP h23 e_h23
  have hf := zF.w hf e_h23 (by omega) (by omega)
  obtain ⟨ob, hP⟩ := hP
  refine ⟨ob, ?_⟩
  intro h24 e_h24
  have hP := hP h24 e_h24
  have hf := zF.w hf e_h24 (by omega) (by omega)
  refine F_E_noBy_J229 hf hP hq hk148
theorem F_E_noBy_L148 {e y1 : Int} {h0 : zH} {Q' Q : Int → zH → Prop} (hq : ∀ r h', Q' r h' → zF e (e + 33) h0 h' → Q r h') : ∀ (n148 : Nat) (y3 : Int) (h : zH), zF e (e + 33) h0 h → P_E_noBy_L148 e y1 Q' n148 y3 h → P_E_noBy_L148 e y1 Q n148 y3 h := by
  intro n148
  induction n148 with
  | zero => intro y3 h hf hP; exact absurd hP id
  | succ n148 ih =>
    intro y3 h hf hP
    unfold P_E_noBy_L148 at hP ⊢
    refine zif_i (fun c => ?_) (fun c => ?_)
    · have hP := zif_p hP c
      refine F_E_no hf hP (fun r18 h19 hP hf => ?_)
      exact hq _ _ hP hf
    · have hP := zif_n hP c
      obtain ⟨ob, hP⟩ := hP
      refine ⟨ob, ?_⟩
      intro x4_20 e_x4_20
      have hP := hP x4_20 e_x4_20
      refine zif_i (fun c => ?_) (fun c => ?_)
      · have hP := zif_p hP c
        refine F_E_noBy_J192 hf hP hq (fun v0 h' hP hf => ih v0 h' hf hP)
      · have hP := zif_n hP c
        obtain ⟨ob, hP⟩ := hP
        refine ⟨ob, ?_⟩
        refine zif_i (fun c => ?_) (fun c => ?_)
        · have hP := zif_p hP c
          refine F_E_noBy_J229 hf hP hq (fun v0 h' hP hf => ih v0 h' hf hP)
        · have hP := zif_n hP c
          refine F_E_isTrue hf hP (fun r26 h27 hP hf => ?_)
          refine zif_i (fun c => ?_) (fun c => ?_)
          · have hP := zif_p hP c
            refine F_E_noBy_J229 hf hP hq (fun v0 h' hP hf => ih v0 h' hf hP)
          · have hP := zif_n hP c
            refine F_E_noBy_J192 hf hP hq (fun v0 h' hP hf => ih v0 h' hf hP)
theorem F_E_noBy {e a1 : Int} {h0 h : zH} {Q' Q : Int → zH → Prop} (hf : zF e (e + 33) h0 h) (hP : P_E_noBy e a1 h Q') (hq : ∀ r h', Q' r h' → zF e (e + 33) h0 h' → Q r h') : P_E_noBy e a1 h Q := by
  unfold P_E_noBy at hP ⊢
  refine F_E_beginSet hf hP (fun r1 h2 hP hf => ?_)
  obtain ⟨n6, hP⟩ := hP
  refine ⟨n6, ?_⟩
  refine F_E_noBy_L6 hq (fun h5 hP hf => ?_) _ _ _ hf hP
  intro x2_6 e_x2_6
  have hP := hP x2_6 e_x2_6
  obtain ⟨ob, hP⟩ := hP
  refine ⟨ob, ?_⟩
  intro h7 e_h7
  have hP := hP h7 e_h7
  have hf := zF.w hf e_h7 (by omega) (by omega)
  intro x3_8 e_x3_8
  have hP := hP x3_8 e_x3_8
  obtain ⟨n46, hP⟩ := hP
  refine ⟨n46, ?_⟩
  refine F_E_noBy_L46 hq (fun h16 hP hf => ?_) _ _ _ hf hP
  intro h17 e_h17
  have hP := hP h17 e_h17
  have hf := zF.w hf e_h17 (by omega) (by omega)
  obtain ⟨n148, hP⟩ := hP
  refine ⟨n148, ?_⟩
  refine F_E_noBy_L148 hq _ _ _ hf hP
theorem F_E_heaviest_J43 {e y1 y2 : Int} {h0 h : zH} {Q' Q : Int → zH → Prop} {k4' k4 : Int → Int → zH → Prop} (hf : zF e (e + 33) h0 h) (hP : P_E_heaviest_J43 e y1 y2 h Q' k4') (hq : ∀ r h', Q' r h' → zF e (e + 33) h0 h' → Q r h') (hk4 : ∀ v0 v1 h', k4' v0 v1 h' → zF e (e + 33) h0 h' → k4 v0 v1 h') : P_E_heaviest_J43 e y1 y2 h Q k4 := by
  unfold P_E_heaviest_J43 at hP ⊢
  intro x2_1 e_x2_1
  have hP := hP x2_1 e_x2_1
  exact hk4 _ _ _ hP hf
theorem F_E_heaviest_J41 {e y2 : Int} {h0 h : zH} {Q' Q : Int → zH → Prop} {k4' k4 : Int → Int → zH → Prop} (hf : zF e (e + 33) h0 h) (hP : P_E_heaviest_J41 e y2 h Q' k4') (hq : ∀ r h', Q' r h' → zF e (e + 33) h0 h' → Q r h') (hk4 : ∀ v0 v1 h', k4' v0 v1 h' → zF e (e + 33) h0 h' → k4 v0 v1 h') : P_E_heaviest_J41 e y2 h Q k4 := by
  unfold P_E_heaviest_J41 at hP ⊢
  refine F_E_heaviest_J43 hf hP hq hk4
theorem F_E_heaviest_L4 {e : Int} {h0 : zH} {Q' Q : Int → zH → Prop} {k49' k49 : Int → zH → Prop} (hq : ∀ r h', Q' r h' → zF e (e + 33) h0 h' → Q r h') (hk49 : ∀ v0 h', k49' v0 h' → zF e (e + 33) h0 h' → k49 v0 h') : ∀ (n4 : Nat) (y1 y2 : Int) (h : zH), zF e (e + 33) h0 h → P_E_heaviest_L4 e Q' k49' n4 y1 y2 h → P_E_heaviest_L4 e Q k49 n4 y1 y2 h := by
  intro n4
  induction n4 with
  | zero => intro y1 y2 h hf hP; exact absurd hP id
  | succ n4 ih =>
    intro y1 y2 h hf hP
    unfold P_E_heaviest_L4 at hP ⊢
    refine zif_i (fun c => ?_) (fun c => ?_)
    · have hP := zif_p hP c
      exact hk49 _ _ hP hf
    · have hP := zif_n hP c
      obtain ⟨ob, hP⟩ := hP
      refine ⟨ob, ?_⟩
      refine zif_i (fun c => ?_) (fun c => ?_)
      · have hP := zif_p hP c
        refine zif_i (fun c => ?_) (fun c => ?_)
        · have hP := zif_p hP c
          refine F_E_heaviest_J41 hf hP hq (fun v0 v1 h' hP hf => ih v0 v1 h' hf hP)
        · have hP := zif_n hP c
          obtain ⟨ob, hP⟩ := hP
          refine ⟨ob, ?_⟩
          obtain ⟨ob, hP⟩ := hP
          refine ⟨ob, ?_⟩
          refine zif_i (fun c => ?_) (fun c => ?_)
          · have hP := zif_p hP c
            refine F_E_heaviest_J43 hf hP hq (fun v0 v1 h' hP hf => ih v0 v1 h' hf hP)
          · have hP := zif_n hP c
            refine F_E_heaviest_J41 hf hP hq (fun v0 v1 h' hP hf => ih v0 v1 h' hf hP)
      · have hP := zif_n hP c
        refine F_E_heaviest_J43 hf hP hq (fun v0 v1 h' hP hf => ih v0 v1 h' hf hP)
theorem F_E_heaviest {e : Int} {h0 h : zH} {Q' Q : Int → zH → Prop} (hf : zF e (e + 33) h0 h) (hP : P_E_heaviest e h Q') (hq : ∀ r h', Q' r h' → zF e (e + 33) h0 h' → Q r h') : P_E_heaviest e h Q := by
  unfold P_E_heaviest at hP ⊢
  obtain ⟨n4, hP⟩ := hP
  refine ⟨n4, ?_⟩
  refine F_E_heaviest_L4 hq (fun u1_49 h2 hP hf => ?_) _ _ _ _ hf hP
  obtain ⟨ob, hP⟩ := hP
  refine ⟨ob, ?_⟩
  exact hq _ _ hP hf
theorem F_E_up {e : Int} {h0 h : zH} {Q' Q : Int → zH → Prop} (hf : zF e (e + 33) h0 h) (hP : P_E_up e h Q') (hq : ∀ r h', Q' r h' → zF e (e + 33) h0 h' → Q r h') : P_E_up e h Q := by
  unfold P_E_up at hP ⊢
  intro h1 e_h1
  have hP := hP h1 e_h1
  have hf := zF.w hf e_h1 (by omega) (by omega)
  obtain ⟨ob, hP⟩ := hP
  refine ⟨ob, ?_⟩
  intro h2 e_h2
  have hP := hP h2 e_h2
  have hf := zF.w hf e_h2 (by omega) (by omega)
  intro h3 e_h3
  have hP := hP h3 e_h3
  have hf := zF.w hf e_h3 (by omega) (by omega)
  exact hq _ _ hP hf
theorem F_E_search_J270 {e y2 s0 : Int} {h0 h : zH} {Q' Q : Int → zH → Prop} {k277' k277 : zH → Prop} {k323' k323 : zH → Prop} {k9' k9 : zH → Prop} (hf : zF e (e + 33) h0 h) (hP : P_E_search_J270 e y2 s0 h Q' k277' k323' k9') (hq : ∀ r h', Q' r h' → zF e (e + 33) h0 h' → Q r h') (hk277 : ∀ h', k277' h' → zF e (e + 33) h0 h' → k277 h') (hk323 : ∀ h', k323' h' → zF e (e + 33) h0 h' → k323 h') (hk9 : ∀ h', k9' h' → zF e (e + 33) h0 h' → k9 h') : P_E_search_J270 e y2 s0 h Q k277 k323 k9 := by
  unfold P_E_search_J270 at hP ⊢
  refine zif_i (fun c => ?_) (fun c => ?_)
  · have hP := zif_p hP c
    exact hk277 _ hP hf
  · have hP := zif_n hP c
    refine zif_i (fun c => ?_) (fun c => ?_)
    · have hP := zif_p hP c
      exact hk323 _ hP hf
    · have hP := zif_n hP c
      refine F_E_step hf hP (fun r8 h9 hP hf => ?_)
      intro h10 e_h10
      have hP := hP h10 e_h10
      have hf := zF.w hf e_h10 (by omega) (by omega)
      refine F_E_up hf hP (fun r11 h12 hP hf => ?_)
      refine F_E_set hf hP (fun r13 h14 hP hf => ?_)
      exact hk9 _ hP hf
theorem F_E_search_J256 {e y2 y4 : Int} {h0 h : zH} {Q' Q : Int → zH → Prop} {k277' k277 : zH → Prop} {k323' k323 : zH → Prop} {k9' k9 : zH → Prop} (hf : zF e (e + 33) h0 h) (hP : P_E_search_J256 e y2 y4 h Q' k277' k323' k9') (hq : ∀ r h', Q' r h' → zF e (e + 33) h0 h' → Q r h') (hk277 : ∀ h', k277' h' → zF e (e + 33) h0 h' → k277 h') (hk323 : ∀ h', k323' h' → zF e (e + 33) h0 h' → k323 h') (hk9 : ∀ h', k9' h' → zF e (e + 33) h0 h' → k9 h') : P_E_search_J256 e y2 y4 h Q k277 k323 k9 := by
  unfold P_E_search_J256 at hP ⊢
  refine zif_i (fun c => ?_) (fun c => ?_)
  · have hP := zif_p hP c
    refine F_E_heaviest hf hP (fun r6 h7 hP hf => ?_)
    refine F_E_search_J270 hf hP hq hk277 hk323 hk9
  · have hP := zif_n hP c
    refine F_E_search_J270 hf hP hq hk277 hk323 hk9
theorem F_E_search_J136 {e y2 y3 : Int} {h0 h : zH} {Q' Q : Int → zH → Prop} {k151' k151 : zH → Prop} {k212' k212 : Int → zH → Prop} {k277' k277 : zH → Prop} {k323' k323 : zH → Prop} {k9' k9 : zH → Prop} (hf : zF e (e + 33) h0 h) (hP : P_E_search_J136 e y2 y3 h Q' k151' k212' k277' k323' k9') (hq : ∀ r h', Q' r h' → zF e (e + 33) h0 h' → Q r h') (hk151 : ∀ h', k151' h' → zF e (e + 33) h0 h' → k151 h') (hk212 : ∀ v0 h', k212' v0 h' → zF e (e + 33) h0 h' → k212 v0 h') (hk277 : ∀ h', k277' h' → zF e (e + 33) h0 h' → k277 h') (hk323 : ∀ h', k323' h' → zF e (e + 33) h0 h' → k323 h') (hk9 : ∀ h', k9' h' → zF e (e + 33) h0 h' → k9 h') : P_E_search_J136 e y2 y3 h Q k151 k212 k277 k323 k9 := by
  unfold P_E_search_J136 at hP ⊢
  refine zif_i (fun c => ?_) (fun c => ?_)
  · have hP := zif_p hP c
    refine F_E_firstAssumed hf hP (fun r4 h5 hP hf => ?_)
    refine zif_i (fun c => ?_) (fun c => ?_)
    · have hP := zif_p hP c
      refine F_E_search_J256 hf hP hq hk277 hk323 hk9
    · have hP := zif_n hP c
      refine F_E_isOpen hf hP (fun r15 h16 hP hf => ?_)
      refine zif_i (fun c => ?_) (fun c => ?_)
      · have hP := zif_p hP c
        exact hk212 _ _ hP hf
      · have hP := zif_n hP c
        refine F_E_search_J256 hf hP hq hk277 hk323 hk9
  · have hP := zif_n hP c
    refine F_E_learns hf hP (fun r17 h18 hP hf => ?_)
    refine zif_i (fun c => ?_) (fun c => ?_)
    · have hP := zif_p hP c
      exact hk151 _ hP hf
    · have hP := zif_n hP c
      exact hk9 _ hP hf
theorem F_E_search_J79 {e y2 y3 : Int} {h0 h : zH} {Q' Q : Int → zH → Prop} {k93' k93 : Int → zH → Prop} {k151' k151 : zH → Prop} {k212' k212 : Int → zH → Prop} {k277' k277 : zH → Prop} {k323' k323 : zH → Prop} {k9' k9 : zH → Prop} (hf : zF e (e + 33) h0 h) (hP : P_E_search_J79 e y2 y3 h Q' k93' k151' k212' k277' k323' k9') (hq : ∀ r h', Q' r h' → zF e (e + 33) h0 h' → Q r h') (hk93 : ∀ v0 h', k93' v0 h' → zF e (e + 33) h0 h' → k93 v0 h') (hk151 : ∀ h', k151' h' → zF e (e + 33) h0 h' → k151 h') (hk212 : ∀ v0 h', k212' v0 h' → zF e (e + 33) h0 h' → k212 v0 h') (hk277 : ∀ h', k277' h' → zF e (e + 33) h0 h' → k277 h') (hk323 : ∀ h', k323' h' → zF e (e + 33) h0 h' → k323 h') (hk9 : ∀ h', k9' h' → zF e (e + 33) h0 h' → k9 h') : P_E_search_J79 e y2 y3 h Q k93 k151 k212 k277 k323 k9 := by
  unfold P_E_search_J79 at hP ⊢
  refine zif_i (fun c => ?_) (fun c => ?_)
  · have hP := zif_p hP c
    refine F_E_search_J136 hf hP hq hk151 hk212 hk277 hk323 hk9
  · have hP := zif_n hP c
    refine zif_i (fun c => ?_) (fun c => ?_)
    · have hP := zif_p hP c
      exact hk93 _ _ hP hf
    · have hP := zif_n hP c
      refine F_E_search_J136 hf hP hq hk151 hk212 hk277 hk323 hk9
theorem F_E_search_L9 {e y2 : Int} {h0 : zH} {Q' Q : Int → zH → Prop} {k42' k42 : zH → Prop} {k93' k93 : Int → zH → Prop} {k151' k151 : zH → Prop} {k212' k212 : Int → zH → Prop} {k277' k277 : zH → Prop} {k323' k323 : zH → Prop} (hq : ∀ r h', Q' r h' → zF e (e + 33) h0 h' → Q r h') (hk42 : ∀ h', k42' h' → zF e (e + 33) h0 h' → k42 h') (hk93 : ∀ v0 h', k93' v0 h' → zF e (e + 33) h0 h' → k93 v0 h') (hk151 : ∀ h', k151' h' → zF e (e + 33) h0 h' → k151 h') (hk212 : ∀ v0 h', k212' v0 h' → zF e (e + 33) h0 h' → k212 v0 h') (hk277 : ∀ h', k277' h' → zF e (e + 33) h0 h' → k277 h') (hk323 : ∀ h', k323' h' → zF e (e + 33) h0 h' → k323 h') : ∀ (n9 : Nat) (h : zH), zF e (e + 33) h0 h → P_E_search_L9 e y2 Q' k42' k93' k151' k212' k277' k323' n9 h → P_E_search_L9 e y2 Q k42 k93 k151 k212 k277 k323 n9 h := by
  intro n9
  induction n9 with
  | zero => intro h hf hP; exact absurd hP id
  | succ n9 ih =>
    intro h hf hP
    unfold P_E_search_L9 at hP ⊢
    refine F_E_force hf hP (fun r2 h3 hP hf => ?_)
    refine zif_i (fun c => ?_) (fun c => ?_)
    · have hP := zif_p hP c
      exact hk42 _ hP hf
    · have hP := zif_n hP c
      refine zif_i (fun c => ?_) (fun c => ?_)
      · have hP := zif_p hP c
        refine F_E_search_J79 hf hP hq hk93 hk151 hk212 hk277 hk323 (fun h' hP hf => ih h' hf hP)
      · have hP := zif_n hP c
        refine zif_i (fun c => ?_) (fun c => ?_)
        · have hP := zif_p hP c
          refine F_E_search_J79 hf hP hq hk93 hk151 hk212 hk277 hk323 (fun h' hP hf => ih h' hf hP)
        · have hP := zif_n hP c
          refine zif_i (fun c => ?_) (fun c => ?_)
          · have hP := zif_p hP c
            exact hk42 _ hP hf
          · have hP := zif_n hP c
            refine F_E_search_J79 hf hP hq hk93 hk151 hk212 hk277 hk323 (fun h' hP hf => ih h' hf hP)
theorem F_E_search_J59 {e y2 y4 : Int} {h0 h : zH} {Q' Q : Int → zH → Prop} (hf : zF e (e + 33) h0 h) (hP : P_E_search_J59 e y2 y4 h Q') (hq : ∀ r h', Q' r h' → zF e (e + 33) h0 h' → Q r h') : P_E_search_J59 e y2 y4 h Q := by
  unfold P_E_search_J59 at hP ⊢
  refine zif_i (fun c => ?_) (fun c => ?_)
  · have hP := zif_p hP c
    exact hq _ _ hP hf
  · have hP := zif_n hP c
    refine F_E_back hf hP (fun r21 h22 hP hf => ?_)
    intro h23 e_h23
    have hP := hP h23 e_h23
    have hf := zF.w hf e_h23 (by omega) (by omega)
    exact hq _ _ hP hf
theorem F_E_search_J42 {e y2 : Int} {h0 h : zH} {Q' Q : Int → zH → Prop} (hf : zF e (e + 33) h0 h) (hP : P_E_search_J42 e y2 h Q') (hq : ∀ r h', Q' r h' → zF e (e + 33) h0 h' → Q r h') : P_E_search_J42 e y2 h Q := by
  unfold P_E_search_J42 at hP ⊢
  intro h20 e_h20
  have hP := hP h20 e_h20
  have hf := zF.w hf e_h20 (by omega) (by omega)
  refine zif_i (fun c => ?_) (fun c => ?_)
  · have hP := zif_p hP c
    refine F_E_keepTruth hf hP (fun r24 h25 hP hf => ?_)
    refine F_E_search_J59 hf hP hq
  · have hP := zif_n hP c
    refine F_E_search_J59 hf hP hq
theorem F_E_search_J116 {e y2 y4 : Int} {h0 h : zH} {Q' Q : Int → zH → Prop} (hf : zF e (e + 33) h0 h) (hP : P_E_search_J116 e y2 y4 h Q') (hq : ∀ r h', Q' r h' → zF e (e + 33) h0 h' → Q r h') : P_E_search_J116 e y2 y4 h Q := by
  unfold P_E_search_J116 at hP ⊢
  refine zif_i (fun c => ?_) (fun c => ?_)
  · have hP := zif_p hP c
    exact hq _ _ hP hf
  · have hP := zif_n hP c
    refine F_E_back hf hP (fun r30 h31 hP hf => ?_)
    intro h32 e_h32
    have hP := hP h32 e_h32
    have hf := zF.w hf e_h32 (by omega) (by omega)
    exact hq _ _ hP hf
theorem F_E_search_J172 {e y2 y4 : Int} {h0 h : zH} {Q' Q : Int → zH → Prop} (hf : zF e (e + 33) h0 h) (hP : P_E_search_J172 e y2 y4 h Q') (hq : ∀ r h', Q' r h' → zF e (e + 33) h0 h' → Q r h') : P_E_search_J172 e y2 y4 h Q := by
  unfold P_E_search_J172 at hP ⊢
  refine zif_i (fun c => ?_) (fun c => ?_)
  · have hP := zif_p hP c
    exact hq _ _ hP hf
  · have hP := zif_n hP c
    refine F_E_back hf hP (fun r37 h38 hP hf => ?_)
    intro h39 e_h39
    have hP := hP h39 e_h39
    have hf := zF.w hf e_h39 (by omega) (by omega)
    exact hq _ _ hP hf
theorem F_E_search_J236 {e y2 y5 : Int} {h0 h : zH} {Q' Q : Int → zH → Prop} (hf : zF e (e + 33) h0 h) (hP : P_E_search_J236 e y2 y5 h Q') (hq : ∀ r h', Q' r h' → zF e (e + 33) h0 h' → Q r h') : P_E_search_J236 e y2 y5 h Q := by
  unfold P_E_search_J236 at hP ⊢
  refine zif_i (fun c => ?_) (fun c => ?_)
  · have hP := zif_p hP c
    exact hq _ _ hP hf
  · have hP := zif_n hP c
    refine F_E_back hf hP (fun r46 h47 hP hf => ?_)
    intro h48 e_h48
    have hP := hP h48 e_h48
    have hf := zF.w hf e_h48 (by omega) (by omega)
    exact hq _ _ hP hf
theorem F_E_search_J296 {e y2 y6 : Int} {h0 h : zH} {Q' Q : Int → zH → Prop} (hf : zF e (e + 33) h0 h) (hP : P_E_search_J296 e y2 y6 h Q') (hq : ∀ r h', Q' r h' → zF e (e + 33) h0 h' → Q r h') : P_E_search_J296 e y2 y6 h Q := by
  unfold P_E_search_J296 at hP ⊢
  refine zif_i (fun c => ?_) (fun c => ?_)
  · have hP := zif_p hP c
    exact hq _ _ hP hf
  · have hP := zif_n hP c
    refine F_E_back hf hP (fun r53 h54 hP hf => ?_)
    intro h55 e_h55
    have hP := hP h55 e_h55
    have hf := zF.w hf e_h55 (by omega) (by omega)
    exact hq _ _ hP hf
theorem F_E_search_J340 {e y2 y6 : Int} {h0 h : zH} {Q' Q : Int → zH → Prop} (hf : zF e (e + 33) h0 h) (hP : P_E_search_J340 e y2 y6 h Q') (hq : ∀ r h', Q' r h' → zF e (e + 33) h0 h' → Q r h') : P_E_search_J340 e y2 y6 h Q := by
  unfold P_E_search_J340 at hP ⊢
  refine zif_i (fun c => ?_) (fun c => ?_)
  · have hP := zif_p hP c
    exact hq _ _ hP hf
  · have hP := zif_n hP c
    refine F_E_back hf hP (fun r60 h61 hP hf => ?_)
    intro h62 e_h62
    have hP := hP h62 e_h62
    have hf := zF.w hf e_h62 (by omega) (by omega)
    exact hq _ _ hP hf
theorem F_E_search {e a1 : Int} {h0 h : zH} {Q' Q : Int → zH → Prop} (hf : zF e (e + 33) h0 h) (hP : P_E_search e a1 h Q') (hq : ∀ r h', Q' r h' → zF e (e + 33) h0 h' → Q r h') : P_E_search e a1 h Q := by
  unfold P_E_search at hP ⊢
  intro h1 e_h1
  have hP := hP h1 e_h1
  have hf := zF.w hf e_h1 (by omega) (by omega)
  obtain ⟨n9, hP⟩ := hP
  refine ⟨n9, ?_⟩
  refine F_E_search_L9 hq (fun h19 hP hf => ?_) (fun u3_93 h26 hP hf => ?_) (fun h35 hP hf => ?_) (fun u4_212 h42 hP hf => ?_) (fun h51 hP hf => ?_) (fun h58 hP hf => ?_) _ _ hf hP
  · refine F_E_search_J42 hf hP hq
  · refine F_E_noAtAll hf hP (fun r27 h28 hP hf => ?_)
    intro h29 e_h29
    have hP := hP h29 e_h29
    have hf := zF.w hf e_h29 (by omega) (by omega)
    refine zif_i (fun c => ?_) (fun c => ?_)
    · have hP := zif_p hP c
      refine F_E_keepTruth hf hP (fun r33 h34 hP hf => ?_)
      refine F_E_search_J116 hf hP hq
    · have hP := zif_n hP c
      refine F_E_search_J116 hf hP hq
  · intro h36 e_h36
    have hP := hP h36 e_h36
    have hf := zF.w hf e_h36 (by omega) (by omega)
    refine zif_i (fun c => ?_) (fun c => ?_)
    · have hP := zif_p hP c
      refine F_E_keepTruth hf hP (fun r40 h41 hP hf => ?_)
      refine F_E_search_J172 hf hP hq
    · have hP := zif_n hP c
      refine F_E_search_J172 hf hP hq
  · refine F_E_noBy hf hP (fun r43 h44 hP hf => ?_)
    intro h45 e_h45
    have hP := hP h45 e_h45
    have hf := zF.w hf e_h45 (by omega) (by omega)
    refine zif_i (fun c => ?_) (fun c => ?_)
    · have hP := zif_p hP c
      refine F_E_keepTruth hf hP (fun r49 h50 hP hf => ?_)
      refine F_E_search_J236 hf hP hq
    · have hP := zif_n hP c
      refine F_E_search_J236 hf hP hq
  · intro h52 e_h52
    have hP := hP h52 e_h52
    have hf := zF.w hf e_h52 (by omega) (by omega)
    refine zif_i (fun c => ?_) (fun c => ?_)
    · have hP := zif_p hP c
      refine F_E_keepTruth hf hP (fun r56 h57 hP hf => ?_)
      refine F_E_search_J296 hf hP hq
    · have hP := zif_n hP c
      refine F_E_search_J296 hf hP hq
  · intro h59 e_h59
    have hP := hP h59 e_h59
    have hf := zF.w hf e_h59 (by omega) (by omega)
    refine zif_i (fun c => ?_) (fun c => ?_)
    · have hP := zif_p hP c
      refine F_E_keepTruth hf hP (fun r63 h64 hP hf => ?_)
      refine F_E_search_J340 hf hP hq
    · have hP := zif_n hP c
      refine F_E_search_J340 hf hP hq
