/-! printed by gen.py: what the methods of ClauseCourt$Name, ClauseCourt$Truth, ClauseCourt$Rule, ClauseCourt$Clause, ClauseCourt$AtMost, ClauseCourt$Group, ClauseCourt$Parity, ClauseCourt$Told, ClauseCourt do, and that the machine does it -/
set_option maxRecDepth 100000
abbrev zy_X4_init : zM := (yX4_init, cX4_init, 2, none)
theorem mc_X4_init : zMC zy_X4_init 1 := ⟨by decide +kernel, rfl, rfl, ⟨q588, q161, zcw_in (by decide +kernel) q589⟩, ⟨by decide +kernel, by decide +kernel, by decide +kernel⟩, Nat.le_of_ble_eq_true rfl⟩
theorem fl_X4_7_4 : zFL RX4 7 4 0 := ⟨RX4, TX4, 3, "ClauseCourt$Name", rfl, by decide, Or.inl q591, Or.inl rfl, in_X4⟩
abbrev zy_X2_isTrue : zM := (yX2_isTrue, cX2_isTrue, 2, some .boolean)
theorem mi_X2_isTrue : zMI zy_X2_isTrue 2 1 := ⟨⟨RX2, TX2, 4, rfl, rfl, q1214, q1215, q159, zcw_in (by decide +kernel) q1216⟩, ⟨by decide +kernel, by decide +kernel, by decide +kernel⟩, Nat.le_of_ble_eq_true rfl, by decide⟩
theorem fl_X2_9_2 : zFL RX2 9 2 0 := ⟨RX2, TX2, 4, "ClauseCourt$Truth", rfl, by decide, Or.inl q422, Or.inl rfl, in_X2⟩
theorem fm_91_0 : ((91, ((0 : Nat) : Int), 92) : Int × Int × Int) ∈ zFin := by decide +kernel
theorem sa_91 : zSA 91 2 0 := by unfold zSA; decide +kernel
theorem sa_92 : zSA 92 51 301 := by unfold zSA; decide +kernel
abbrev zy_X5_init : zM := (yX5_init, cX5_init, 4, none)
theorem fl_X5_3_5 : zFL RX5 3 5 4 := ⟨RX6, TX6, 6, "ClauseCourt$Rule", rfl, by decide, Or.inl q833, Or.inl rfl, in_X6⟩
theorem fl_X5_3_6 : zFL RX5 3 6 4 := ⟨RX7, TX7, 8, "ClauseCourt$Rule", rfl, by decide, Or.inl q833, Or.inl rfl, in_X7⟩
theorem fl_X5_3_7 : zFL RX5 3 7 4 := ⟨RX8, TX8, 9, "ClauseCourt$Rule", rfl, by decide, Or.inl q833, Or.inl rfl, in_X8⟩
theorem fl_X5_3_8 : zFL RX5 3 8 4 := ⟨RX9, TX9, 7, "ClauseCourt$Rule", rfl, by decide, Or.inl q833, Or.inl rfl, in_X9⟩
theorem fl_X5_3_12 : zFL RX5 3 12 4 := ⟨RX13, TX13, 9, "ClauseCourt$Rule", rfl, by decide, Or.inl q833, Or.inl rfl, in_X13⟩
theorem fl_X5_15_5 : zFL RX5 15 5 0 := ⟨RX6, TX6, 6, "ClauseCourt$Rule", rfl, by decide, Or.inl q818, Or.inl rfl, in_X6⟩
theorem fl_X5_15_6 : zFL RX5 15 6 0 := ⟨RX7, TX7, 8, "ClauseCourt$Rule", rfl, by decide, Or.inl q818, Or.inl rfl, in_X7⟩
theorem fl_X5_15_7 : zFL RX5 15 7 0 := ⟨RX8, TX8, 9, "ClauseCourt$Rule", rfl, by decide, Or.inl q818, Or.inl rfl, in_X8⟩
theorem fl_X5_15_8 : zFL RX5 15 8 0 := ⟨RX9, TX9, 7, "ClauseCourt$Rule", rfl, by decide, Or.inl q818, Or.inl rfl, in_X9⟩
theorem fl_X5_15_12 : zFL RX5 15 12 0 := ⟨RX13, TX13, 9, "ClauseCourt$Rule", rfl, by decide, Or.inl q818, Or.inl rfl, in_X13⟩
theorem fl_X5_19_5 : zFL RX5 19 5 1 := ⟨RX6, TX6, 6, "ClauseCourt$Rule", rfl, by decide, Or.inl q820, Or.inl rfl, in_X6⟩
theorem fl_X5_19_6 : zFL RX5 19 6 1 := ⟨RX7, TX7, 8, "ClauseCourt$Rule", rfl, by decide, Or.inl q820, Or.inl rfl, in_X7⟩
theorem fl_X5_19_7 : zFL RX5 19 7 1 := ⟨RX8, TX8, 9, "ClauseCourt$Rule", rfl, by decide, Or.inl q820, Or.inl rfl, in_X8⟩
theorem fl_X5_19_8 : zFL RX5 19 8 1 := ⟨RX9, TX9, 7, "ClauseCourt$Rule", rfl, by decide, Or.inl q820, Or.inl rfl, in_X9⟩
theorem fl_X5_19_12 : zFL RX5 19 12 1 := ⟨RX13, TX13, 9, "ClauseCourt$Rule", rfl, by decide, Or.inl q820, Or.inl rfl, in_X13⟩
abbrev zy_X5_trues : zM := (yX5_trues, cX5_trues, 7, some .int)
theorem gm_X5_19 : ∀ t ∈ [5, 6, 7, 8, 12], t < 50 ∧ zFL RX5 19 t 1 ∧ zk t 1 = zk 5 1 := by
  intro t ht
  simp only [List.mem_cons, List.not_mem_nil, or_false] at ht
  rcases ht with rfl | rfl | rfl | rfl | rfl
  · exact ⟨by decide, fl_X5_19_5, rfl⟩
  · exact ⟨by decide, fl_X5_19_6, rfl⟩
  · exact ⟨by decide, fl_X5_19_7, rfl⟩
  · exact ⟨by decide, fl_X5_19_8, rfl⟩
  · exact ⟨by decide, fl_X5_19_12, rfl⟩
theorem ml_X5_30 : zML RX5 30 zy_X2_isTrue := Or.inl q1213
abbrev zy_X0_body : zM := (yX0_body, cX0_body, 2, none)
theorem mi_X0_body : zMI zy_X0_body 0 1 := ⟨⟨RX0, TX0, 42, rfl, rfl, q1204, qs28, q157, zcw_in (by decide +kernel) q1205⟩, ⟨by decide +kernel, by decide +kernel, by decide +kernel⟩, Nat.le_of_ble_eq_true rfl, by decide⟩
theorem fl_X0_25_0 : zFL RX0 25 0 7 := ⟨RX0, TX0, 42, "ClauseCourt", rfl, by decide, Or.inl q445, Or.inl rfl, in_X0⟩
theorem fm_14_7 : ((14, ((7 : Nat) : Int), 18) : Int × Int × Int) ∈ zFin := by decide +kernel
theorem fl_X0_155_0 : zFL RX0 155 0 8 := ⟨RX0, TX0, 42, "ClauseCourt", rfl, by decide, Or.inl q446, Or.inl rfl, in_X0⟩
theorem sa_18 : zSA 18 50 100 := by unfold zSA; decide +kernel
abbrev zy_X5_least : zM := (yX5_least, cX5_least, 1, some .int)
theorem gm_X5_3 : ∀ t ∈ [5, 6, 7, 8, 12], t < 50 ∧ zFL RX5 3 t 4 ∧ zk t 4 = zk 5 4 := by
  intro t ht
  simp only [List.mem_cons, List.not_mem_nil, or_false] at ht
  rcases ht with rfl | rfl | rfl | rfl | rfl
  · exact ⟨by decide, fl_X5_3_5, rfl⟩
  · exact ⟨by decide, fl_X5_3_6, rfl⟩
  · exact ⟨by decide, fl_X5_3_7, rfl⟩
  · exact ⟨by decide, fl_X5_3_8, rfl⟩
  · exact ⟨by decide, fl_X5_3_12, rfl⟩
theorem ml_X5_23 : zML RX5 23 zy_X0_body := Or.inr ⟨by decide +kernel, "ClauseCourt", q1272⟩
abbrev zy_X5_most : zM := (yX5_most, cX5_most, 1, some .int)
abbrev zy_X5_laid : zM := (yX5_laid, cX5_laid, 1, some .int)
theorem fl_X5_27_5 : zFL RX5 27 5 3 := ⟨RX6, TX6, 6, "ClauseCourt$Rule", rfl, by decide, Or.inl q831, Or.inl rfl, in_X6⟩
theorem fl_X5_27_6 : zFL RX5 27 6 3 := ⟨RX7, TX7, 8, "ClauseCourt$Rule", rfl, by decide, Or.inl q831, Or.inl rfl, in_X7⟩
theorem fl_X5_27_7 : zFL RX5 27 7 3 := ⟨RX8, TX8, 9, "ClauseCourt$Rule", rfl, by decide, Or.inl q831, Or.inl rfl, in_X8⟩
theorem fl_X5_27_8 : zFL RX5 27 8 3 := ⟨RX9, TX9, 7, "ClauseCourt$Rule", rfl, by decide, Or.inl q831, Or.inl rfl, in_X9⟩
theorem fl_X5_27_12 : zFL RX5 27 12 3 := ⟨RX13, TX13, 9, "ClauseCourt$Rule", rfl, by decide, Or.inl q831, Or.inl rfl, in_X13⟩
theorem gm_X5_27 : ∀ t ∈ [5, 6, 7, 8, 12], t < 50 ∧ zFL RX5 27 t 3 ∧ zk t 3 = zk 5 3 := by
  intro t ht
  simp only [List.mem_cons, List.not_mem_nil, or_false] at ht
  rcases ht with rfl | rfl | rfl | rfl | rfl
  · exact ⟨by decide, fl_X5_27_5, rfl⟩
  · exact ⟨by decide, fl_X5_27_6, rfl⟩
  · exact ⟨by decide, fl_X5_27_7, rfl⟩
  · exact ⟨by decide, fl_X5_27_8, rfl⟩
  · exact ⟨by decide, fl_X5_27_12, rfl⟩
abbrev zy_X0_say_2 : zM := (yX0_say_2, cX0_say_2, 2, none)
theorem mi_X0_say_2 : zMI zy_X0_say_2 0 1 := ⟨⟨RX0, TX0, 42, rfl, rfl, q1366, qs31, q157, zcw_in (by decide +kernel) q1367⟩, ⟨by decide +kernel, by decide +kernel, by decide +kernel⟩, Nat.le_of_ble_eq_true rfl, by decide⟩
theorem fl_X0_28_0 : zFL RX0 28 0 9 := ⟨RX0, TX0, 42, "ClauseCourt", rfl, by decide, Or.inl q447, Or.inl rfl, in_X0⟩
theorem fm_14_9 : ((14, ((9 : Nat) : Int), 19) : Int × Int × Int) ∈ zFin := by decide +kernel
theorem fl_X0_162_0 : zFL RX0 162 0 10 := ⟨RX0, TX0, 42, "ClauseCourt", rfl, by decide, Or.inl q448, Or.inl rfl, in_X0⟩
theorem sa_19 : zSA 19 51 14000 := by unfold zSA; decide +kernel
abbrev zy_X0_sayNumber : zM := (yX0_sayNumber, cX0_sayNumber, 3, none)
theorem mi_X0_sayNumber : zMI zy_X0_sayNumber 0 1 := ⟨⟨RX0, TX0, 42, rfl, rfl, q1370, qs32, q157, zcw_in (by decide +kernel) q1371⟩, ⟨by decide +kernel, by decide +kernel, by decide +kernel⟩, Nat.le_of_ble_eq_true rfl, by decide⟩
theorem ml_X0_175 : zML RX0 175 zy_X0_say_2 := Or.inl q1364
abbrev zy_X5_sayList : zM := (yX5_sayList, cX5_sayList, 2, none)
abbrev zy_X5_court : zM := (yX5_court, cX5_court, 1, some (.object "ClauseCourt"))
abbrev zy_X5_size : zM := (yX5_size, cX5_size, 1, some .int)
abbrev zy_X5_at : zM := (yX5_at, cX5_at, 2, some .int)
abbrev zy_X6_init : zM := (yX6_init, cX6_init, 4, none)
theorem fl_X6_3_5 : zFL RX6 3 5 5 := ⟨RX6, TX6, 6, "ClauseCourt$Clause", rfl, by decide, Or.inl q817, Or.inl rfl, in_X6⟩
theorem fl_X6_3_6 : zFL RX6 3 6 5 := ⟨RX7, TX7, 8, "ClauseCourt$Clause", rfl, by decide, Or.inl q817, Or.inl rfl, in_X7⟩
theorem fl_X6_3_7 : zFL RX6 3 7 5 := ⟨RX8, TX8, 9, "ClauseCourt$Clause", rfl, by decide, Or.inl q817, Or.inl rfl, in_X8⟩
theorem fl_X6_3_12 : zFL RX6 3 12 5 := ⟨RX13, TX13, 9, "ClauseCourt$Clause", rfl, by decide, Or.inl q817, Or.inl rfl, in_X13⟩
theorem mc_X5_init : zMC zy_X5_init 3 := ⟨by decide +kernel, rfl, rfl, ⟨q814, q172, zcw_in (by decide +kernel) q815⟩, ⟨by decide +kernel, by decide +kernel, by decide +kernel⟩, Nat.le_of_ble_eq_true rfl⟩
theorem ml_X6_9 : zML RX6 9 zy_X5_init := Or.inl q813
abbrev zy_X0_also : zM := (yX0_also, cX0_also, 4, none)
theorem mi_X0_also : zMI zy_X0_also 0 1 := ⟨⟨RX0, TX0, 42, rfl, rfl, q941, qs12, q157, zcw_in (by decide +kernel) q942⟩, ⟨by decide +kernel, by decide +kernel, by decide +kernel⟩, Nat.le_of_ble_eq_true rfl, by decide⟩
theorem fl_X0_178_0 : zFL RX0 178 0 13 := ⟨RX0, TX0, 42, "ClauseCourt", rfl, by decide, Or.inl q451, Or.inl rfl, in_X0⟩
theorem fl_X0_34_0 : zFL RX0 34 0 12 := ⟨RX0, TX0, 42, "ClauseCourt", rfl, by decide, Or.inl q450, Or.inl rfl, in_X0⟩
theorem fm_14_12 : ((14, ((12 : Nat) : Int), 21) : Int × Int × Int) ∈ zFin := by decide +kernel
theorem sa_21 : zSA 21 50 700 := by unfold zSA; decide +kernel
theorem fl_X0_181_0 : zFL RX0 181 0 14 := ⟨RX0, TX0, 42, "ClauseCourt", rfl, by decide, Or.inl q452, Or.inl rfl, in_X0⟩
theorem fl_X0_31_0 : zFL RX0 31 0 11 := ⟨RX0, TX0, 42, "ClauseCourt", rfl, by decide, Or.inl q449, Or.inl rfl, in_X0⟩
theorem fm_14_11 : ((14, ((11 : Nat) : Int), 20) : Int × Int × Int) ∈ zFin := by decide +kernel
theorem sa_20 : zSA 20 50 6000 := by unfold zSA; decide +kernel
abbrev zy_X0_endRow : zM := (yX0_endRow, cX0_endRow, 1, none)
theorem mi_X0_endRow : zMI zy_X0_endRow 0 0 := ⟨⟨RX0, TX0, 42, rfl, rfl, q949, qs14, q157, zcw_in (by decide +kernel) q950⟩, ⟨by decide +kernel, by decide +kernel, by decide +kernel⟩, Nat.le_of_ble_eq_true rfl, by decide⟩
abbrev zy_X6_lay : zM := (yX6_lay, cX6_lay, 5, none)
theorem fl_X6_37_5 : zFL RX6 37 5 1 := ⟨RX6, TX6, 6, "ClauseCourt$Clause", rfl, by decide, Or.inl q821, Or.inr q822, in_X6⟩
theorem fl_X6_37_6 : zFL RX6 37 6 1 := ⟨RX7, TX7, 8, "ClauseCourt$Clause", rfl, by decide, Or.inl q821, Or.inr q822, in_X7⟩
theorem fl_X6_37_7 : zFL RX6 37 7 1 := ⟨RX8, TX8, 9, "ClauseCourt$Clause", rfl, by decide, Or.inl q821, Or.inr q822, in_X8⟩
theorem fl_X6_37_12 : zFL RX6 37 12 1 := ⟨RX13, TX13, 9, "ClauseCourt$Clause", rfl, by decide, Or.inl q821, Or.inr q822, in_X13⟩
theorem gm_X6_37 : ∀ t ∈ [5, 6, 7, 12], t < 50 ∧ zFL RX6 37 t 1 ∧ zk t 1 = zk 5 1 := by
  intro t ht
  simp only [List.mem_cons, List.not_mem_nil, or_false] at ht
  rcases ht with rfl | rfl | rfl | rfl
  · exact ⟨by decide, fl_X6_37_5, rfl⟩
  · exact ⟨by decide, fl_X6_37_6, rfl⟩
  · exact ⟨by decide, fl_X6_37_7, rfl⟩
  · exact ⟨by decide, fl_X6_37_12, rfl⟩
theorem gm_X6_3 : ∀ t ∈ [5, 6, 7, 12], t < 50 ∧ zFL RX6 3 t 5 ∧ zk t 5 = zk 5 5 := by
  intro t ht
  simp only [List.mem_cons, List.not_mem_nil, or_false] at ht
  rcases ht with rfl | rfl | rfl | rfl
  · exact ⟨by decide, fl_X6_3_5, rfl⟩
  · exact ⟨by decide, fl_X6_3_6, rfl⟩
  · exact ⟨by decide, fl_X6_3_7, rfl⟩
  · exact ⟨by decide, fl_X6_3_12, rfl⟩
theorem ml_X6_44 : zML RX6 44 zy_X0_endRow := Or.inr ⟨by decide +kernel, "ClauseCourt", q961⟩
theorem ml_X6_41 : zML RX6 41 zy_X0_also := Or.inr ⟨by decide +kernel, "ClauseCourt", q960⟩
abbrev zy_X6_holds : zM := (yX6_holds, cX6_holds, 2, some .boolean)
theorem ml_X6_15 : zML RX6 15 zy_X0_body := Or.inr ⟨by decide +kernel, "ClauseCourt", q1221⟩
theorem ul_X6_19_5 : zUL RX6 19 ⟨"ClauseCourt$Clause", "trues", "(LClauseCourt$Truth;)I"⟩ "ClauseCourt$Rule" 5 zy_X5_trues 1 := ⟨RX6, TX6, 6, rfl, by decide, by decide +kernel, Nat.le_of_ble_eq_true rfl, q1222, q1223, q1225, q1211, q172, zcw_in (by decide +kernel) q1212, Or.inl q1208, ⟨by decide +kernel, by decide +kernel, by decide +kernel⟩⟩
theorem ul_X6_19_6 : zUL RX6 19 ⟨"ClauseCourt$Clause", "trues", "(LClauseCourt$Truth;)I"⟩ "ClauseCourt$Rule" 6 zy_X5_trues 1 := ⟨RX7, TX7, 8, rfl, by decide, by decide +kernel, Nat.le_of_ble_eq_true rfl, q1222, q1223, q1224, q1211, q172, zcw_in (by decide +kernel) q1212, Or.inl q1208, ⟨by decide +kernel, by decide +kernel, by decide +kernel⟩⟩
theorem ul_X6_19_7 : zUL RX6 19 ⟨"ClauseCourt$Clause", "trues", "(LClauseCourt$Truth;)I"⟩ "ClauseCourt$Rule" 7 zy_X5_trues 1 := ⟨RX8, TX8, 9, rfl, by decide, by decide +kernel, Nat.le_of_ble_eq_true rfl, q1222, q1223, q1226, q1211, q172, zcw_in (by decide +kernel) q1212, Or.inl q1208, ⟨by decide +kernel, by decide +kernel, by decide +kernel⟩⟩
theorem ul_X6_19_12 : zUL RX6 19 ⟨"ClauseCourt$Clause", "trues", "(LClauseCourt$Truth;)I"⟩ "ClauseCourt$Rule" 12 zy_X5_trues 1 := ⟨RX13, TX13, 9, rfl, by decide, by decide +kernel, Nat.le_of_ble_eq_true rfl, q1222, q1223, q1227, q1211, q172, zcw_in (by decide +kernel) q1212, Or.inl q1208, ⟨by decide +kernel, by decide +kernel, by decide +kernel⟩⟩
abbrev zy_X6_least : zM := (yX6_least, cX6_least, 1, some .int)
theorem su_X6_23 : zSU RX6 23 "ClauseCourt$Rule" zy_X5_least 0 := ⟨by decide +kernel, Nat.le_of_ble_eq_true rfl, q1261, q1254, q846, Or.inl rfl, q1253, q172, zcw_in (by decide +kernel) q1271, ⟨by decide +kernel, by decide +kernel⟩⟩
abbrev zy_X0_say : zM := (yX0_say, cX0_say, 3, none)
theorem mi_X0_say : zMI zy_X0_say 0 1 := ⟨⟨RX0, TX0, 42, rfl, rfl, q1314, qs30, q157, zcw_in (by decide +kernel) q1315⟩, ⟨by decide +kernel, by decide +kernel, by decide +kernel⟩, Nat.le_of_ble_eq_true rfl, by decide⟩
abbrev zy_X6_print : zM := (yX6_print, cX6_print, 1, none)
abbrev zy_X7_init : zM := (yX7_init, cX7_init, 5, none)
theorem fl_X7_3_6 : zFL RX7 3 6 7 := ⟨RX7, TX7, 8, "ClauseCourt$AtMost", rfl, by decide, Or.inl q856, Or.inl rfl, in_X7⟩
theorem fl_X7_3_7 : zFL RX7 3 7 7 := ⟨RX8, TX8, 9, "ClauseCourt$AtMost", rfl, by decide, Or.inl q856, Or.inl rfl, in_X8⟩
theorem mc_X6_init : zMC zy_X6_init 3 := ⟨by decide +kernel, rfl, rfl, ⟨q811, q173, zcw_in (by decide +kernel) q812⟩, ⟨by decide +kernel, by decide +kernel, by decide +kernel⟩, Nat.le_of_ble_eq_true rfl⟩
theorem ml_X7_9 : zML RX7 9 zy_X6_init := Or.inl q852
theorem fl_X7_15_6 : zFL RX7 15 6 6 := ⟨RX7, TX7, 8, "ClauseCourt$AtMost", rfl, by decide, Or.inl q853, Or.inl rfl, in_X7⟩
theorem fl_X7_15_7 : zFL RX7 15 7 6 := ⟨RX8, TX8, 9, "ClauseCourt$AtMost", rfl, by decide, Or.inl q853, Or.inl rfl, in_X8⟩
abbrev zy_X0_newName : zM := (yX0_newName, cX0_newName, 1, some .int)
theorem mi_X0_newName : zMI zy_X0_newName 0 0 := ⟨⟨RX0, TX0, 42, rfl, rfl, q933, qs10, q157, zcw_in (by decide +kernel) q934⟩, ⟨by decide +kernel, by decide +kernel, by decide +kernel⟩, Nat.le_of_ble_eq_true rfl, by decide⟩
theorem fl_X0_184_0 : zFL RX0 184 0 15 := ⟨RX0, TX0, 42, "ClauseCourt", rfl, by decide, Or.inl q453, Or.inl rfl, in_X0⟩
abbrev zy_X0_plan_2 : zM := (yX0_plan_2, cX0_plan_2, 2, none)
theorem mi_X0_plan_2 : zMI zy_X0_plan_2 0 1 := ⟨⟨RX0, TX0, 42, rfl, rfl, q945, qs13, q157, zcw_in (by decide +kernel) q946⟩, ⟨by decide +kernel, by decide +kernel, by decide +kernel⟩, Nat.le_of_ble_eq_true rfl, by decide⟩
theorem ml_X0_187 : zML RX0 187 zy_X0_also := Or.inl q939
theorem ml_X0_190 : zML RX0 190 zy_X0_endRow := Or.inl q947
abbrev zy_X0_plan : zM := (yX0_plan, cX0_plan, 3, none)
theorem mi_X0_plan : zMI zy_X0_plan 0 2 := ⟨⟨RX0, TX0, 42, rfl, rfl, q937, qs11, q157, zcw_in (by decide +kernel) q938⟩, ⟨by decide +kernel, by decide +kernel, by decide +kernel⟩, Nat.le_of_ble_eq_true rfl, by decide⟩
theorem ml_X0_193 : zML RX0 193 zy_X0_plan_2 := Or.inl q943
abbrev zy_X0_plan_3 : zM := (yX0_plan_3, cX0_plan_3, 4, none)
theorem mi_X0_plan_3 : zMI zy_X0_plan_3 0 3 := ⟨⟨RX0, TX0, 42, rfl, rfl, q953, qs15, q157, zcw_in (by decide +kernel) q954⟩, ⟨by decide +kernel, by decide +kernel, by decide +kernel⟩, Nat.le_of_ble_eq_true rfl, by decide⟩
theorem ml_X0_196 : zML RX0 196 zy_X0_plan := Or.inl q955
abbrev zy_X7_counter : zM := (yX7_counter, cX7_counter, 5, some .int)
theorem gm_X7_3 : ∀ t ∈ [6, 7], t < 50 ∧ zFL RX7 3 t 7 ∧ zk t 7 = zk 6 7 := by
  intro t ht
  simp only [List.mem_cons, List.not_mem_nil, or_false] at ht
  rcases ht with rfl | rfl
  · exact ⟨by decide, fl_X7_3_6, rfl⟩
  · exact ⟨by decide, fl_X7_3_7, rfl⟩
theorem ml_X7_61 : zML RX7 61 zy_X0_newName := Or.inr ⟨by decide +kernel, "ClauseCourt", q931⟩
theorem ml_X7_64 : zML RX7 64 zy_X0_plan := Or.inr ⟨by decide +kernel, "ClauseCourt", q935⟩
theorem ml_X7_68 : zML RX7 68 zy_X0_plan_3 := Or.inr ⟨by decide +kernel, "ClauseCourt", q951⟩
abbrev zy_X7_counters : zM := (yX7_counters, cX7_counters, 6, some (.array .int))
theorem gm_X7_15 : ∀ t ∈ [6, 7], t < 50 ∧ zFL RX7 15 t 6 ∧ zk t 6 = zk 6 6 := by
  intro t ht
  simp only [List.mem_cons, List.not_mem_nil, or_false] at ht
  rcases ht with rfl | rfl
  · exact ⟨by decide, fl_X7_15_6, rfl⟩
  · exact ⟨by decide, fl_X7_15_7, rfl⟩
theorem fl_X7_53_6 : zFL RX7 53 6 1 := ⟨RX7, TX7, 8, "ClauseCourt$AtMost", rfl, by decide, Or.inl q827, Or.inr q828, in_X7⟩
theorem fl_X7_53_7 : zFL RX7 53 7 1 := ⟨RX8, TX8, 9, "ClauseCourt$AtMost", rfl, by decide, Or.inl q827, Or.inr q828, in_X8⟩
theorem gm_X7_53 : ∀ t ∈ [6, 7], t < 50 ∧ zFL RX7 53 t 1 ∧ zk t 1 = zk 6 1 := by
  intro t ht
  simp only [List.mem_cons, List.not_mem_nil, or_false] at ht
  rcases ht with rfl | rfl
  · exact ⟨by decide, fl_X7_53_6, rfl⟩
  · exact ⟨by decide, fl_X7_53_7, rfl⟩
theorem ul_X7_57_6 : zUL RX7 57 ⟨"ClauseCourt$AtMost", "counter", "(III)I"⟩ "ClauseCourt$AtMost" 6 zy_X7_counter 3 := ⟨RX7, TX7, 8, rfl, by decide, by decide +kernel, Nat.le_of_ble_eq_true rfl, q927, q2781, qs9, q929, q174, zcw_in (by decide +kernel) q930, Or.inr ⟨q929, _, _, _, q930⟩, ⟨by decide +kernel, by decide +kernel, by decide +kernel⟩⟩
theorem ul_X7_57_7 : zUL RX7 57 ⟨"ClauseCourt$AtMost", "counter", "(III)I"⟩ "ClauseCourt$AtMost" 7 zy_X7_counter 3 := ⟨RX8, TX8, 9, rfl, by decide, by decide +kernel, Nat.le_of_ble_eq_true rfl, q927, q2781, qsx0, q929, q174, zcw_in (by decide +kernel) q930, Or.inr ⟨q929, _, _, _, q930⟩, ⟨by decide +kernel, by decide +kernel, by decide +kernel⟩⟩
abbrev zy_X7_layMost : zM := (yX7_layMost, cX7_layMost, 2, some (.array .int))
theorem ml_X7_75 : zML RX7 75 zy_X0_plan_2 := Or.inr ⟨by decide +kernel, "ClauseCourt", q956⟩
theorem ul_X7_71_6 : zUL RX7 71 ⟨"ClauseCourt$AtMost", "counters", "()[I"⟩ "ClauseCourt$AtMost" 6 zy_X7_counters 0 := ⟨RX7, TX7, 8, rfl, by decide, by decide +kernel, Nat.le_of_ble_eq_true rfl, q920, q923, q922, q921, q174, zcw_in (by decide +kernel) q925, Or.inr ⟨q921, _, _, _, q925⟩, ⟨by decide +kernel, by decide +kernel, by decide +kernel⟩⟩
theorem ul_X7_71_7 : zUL RX7 71 ⟨"ClauseCourt$AtMost", "counters", "()[I"⟩ "ClauseCourt$AtMost" 7 zy_X7_counters 0 := ⟨RX8, TX8, 9, rfl, by decide, by decide +kernel, Nat.le_of_ble_eq_true rfl, q920, q923, q924, q921, q174, zcw_in (by decide +kernel) q925, Or.inr ⟨q921, _, _, _, q925⟩, ⟨by decide +kernel, by decide +kernel, by decide +kernel⟩⟩
abbrev zy_X7_lay : zM := (yX7_lay, cX7_lay, 1, none)
theorem ul_X7_77_6 : zUL RX7 77 ⟨"ClauseCourt$AtMost", "layMost", "()[I"⟩ "ClauseCourt$AtMost" 6 zy_X7_layMost 0 := ⟨RX7, TX7, 8, rfl, by decide, by decide +kernel, Nat.le_of_ble_eq_true rfl, q914, q917, q916, q915, q174, zcw_in (by decide +kernel) q919, Or.inl q967, ⟨by decide +kernel, by decide +kernel, by decide +kernel⟩⟩
theorem ul_X7_77_7 : zUL RX7 77 ⟨"ClauseCourt$AtMost", "layMost", "()[I"⟩ "ClauseCourt$AtMost" 7 zy_X7_layMost 0 := ⟨RX8, TX8, 9, rfl, by decide, by decide +kernel, Nat.le_of_ble_eq_true rfl, q914, q917, q918, q915, q174, zcw_in (by decide +kernel) q919, Or.inl q967, ⟨by decide +kernel, by decide +kernel, by decide +kernel⟩⟩
abbrev zy_X7_holds : zM := (yX7_holds, cX7_holds, 2, some .boolean)
theorem ml_X7_19 : zML RX7 19 zy_X0_body := Or.inr ⟨by decide +kernel, "ClauseCourt", q1202⟩
theorem ul_X7_23_6 : zUL RX7 23 ⟨"ClauseCourt$AtMost", "trues", "(LClauseCourt$Truth;)I"⟩ "ClauseCourt$Rule" 6 zy_X5_trues 1 := ⟨RX7, TX7, 8, rfl, by decide, by decide +kernel, Nat.le_of_ble_eq_true rfl, q1206, q1207, q1209, q1211, q172, zcw_in (by decide +kernel) q1212, Or.inl q1208, ⟨by decide +kernel, by decide +kernel, by decide +kernel⟩⟩
theorem ul_X7_23_7 : zUL RX7 23 ⟨"ClauseCourt$AtMost", "trues", "(LClauseCourt$Truth;)I"⟩ "ClauseCourt$Rule" 7 zy_X5_trues 1 := ⟨RX8, TX8, 9, rfl, by decide, by decide +kernel, Nat.le_of_ble_eq_true rfl, q1206, q1207, q1210, q1211, q172, zcw_in (by decide +kernel) q1212, Or.inl q1208, ⟨by decide +kernel, by decide +kernel, by decide +kernel⟩⟩
abbrev zy_X7_least : zM := (yX7_least, cX7_least, 1, some .int)
theorem su_X7_27 : zSU RX7 27 "ClauseCourt$Clause" zy_X6_least 0 := ⟨by decide +kernel, Nat.le_of_ble_eq_true rfl, q1258, q2783, q867, Or.inl rfl, q1259, q173, zcw_in (by decide +kernel) q1260, ⟨by decide +kernel, by decide +kernel⟩⟩
abbrev zy_X7_most : zM := (yX7_most, cX7_most, 1, some .int)
theorem su_X7_31 : zSU RX7 31 "ClauseCourt$Clause" zy_X5_most 0 := ⟨by decide +kernel, Nat.le_of_ble_eq_true rfl, q1279, q1280, q867, Or.inr q846, q1274, q172, zcw_in (by decide +kernel) q1291, ⟨by decide +kernel, by decide +kernel⟩⟩
abbrev zy_X7_print : zM := (yX7_print, cX7_print, 1, none)
abbrev zy_X8_init : zM := (yX8_init, cX8_init, 4, none)
theorem fl_X8_3_7 : zFL RX8 3 7 8 := ⟨RX8, TX8, 9, "ClauseCourt$Group", rfl, by decide, Or.inl q874, Or.inl rfl, in_X8⟩
theorem mc_X7_init : zMC zy_X7_init 4 := ⟨by decide +kernel, rfl, rfl, ⟨q850, q174, zcw_in (by decide +kernel) q851⟩, ⟨by decide +kernel, by decide +kernel, by decide +kernel⟩, Nat.le_of_ble_eq_true rfl⟩
theorem ml_X8_9 : zML RX8 9 zy_X7_init := Or.inl q873
abbrev zy_X8_lay : zM := (yX8_lay, cX8_lay, 2, none)
theorem fl_X8_27_7 : zFL RX8 27 7 6 := ⟨RX8, TX8, 9, "ClauseCourt$Group", rfl, by decide, Or.inl q854, Or.inr q855, in_X8⟩
theorem fl_X8_45_7 : zFL RX8 45 7 1 := ⟨RX8, TX8, 9, "ClauseCourt$Group", rfl, by decide, Or.inl q823, Or.inr q824, in_X8⟩
theorem ml_X8_52 : zML RX8 52 zy_X0_plan_2 := Or.inr ⟨by decide +kernel, "ClauseCourt", q970⟩
theorem ml_X8_49 : zML RX8 49 zy_X0_endRow := Or.inr ⟨by decide +kernel, "ClauseCourt", q969⟩
theorem ul_X8_41_7 : zUL RX8 41 ⟨"ClauseCourt$Group", "layMost", "()[I"⟩ "ClauseCourt$AtMost" 7 zy_X7_layMost 0 := ⟨RX8, TX8, 9, rfl, by decide, by decide +kernel, Nat.le_of_ble_eq_true rfl, q965, q966, q968, q915, q174, zcw_in (by decide +kernel) q919, Or.inl q967, ⟨by decide +kernel, by decide +kernel, by decide +kernel⟩⟩
abbrev zy_X8_holds : zM := (yX8_holds, cX8_holds, 2, some .boolean)
theorem ml_X8_15 : zML RX8 15 zy_X0_body := Or.inr ⟨by decide +kernel, "ClauseCourt", q1231⟩
theorem su_X8_19 : zSU RX8 19 "ClauseCourt$AtMost" zy_X7_holds 1 := ⟨by decide +kernel, Nat.le_of_ble_eq_true rfl, q1232, q2782, q885, Or.inl rfl, q1200, q174, zcw_in (by decide +kernel) q1201, ⟨by decide +kernel, by decide +kernel⟩⟩
theorem ul_X8_23_7 : zUL RX8 23 ⟨"ClauseCourt$Group", "trues", "(LClauseCourt$Truth;)I"⟩ "ClauseCourt$Rule" 7 zy_X5_trues 1 := ⟨RX8, TX8, 9, rfl, by decide, by decide +kernel, Nat.le_of_ble_eq_true rfl, q1233, q1234, q1235, q1211, q172, zcw_in (by decide +kernel) q1212, Or.inl q1208, ⟨by decide +kernel, by decide +kernel, by decide +kernel⟩⟩
abbrev zy_X8_least : zM := (yX8_least, cX8_least, 1, some .int)
abbrev zy_X8_print : zM := (yX8_print, cX8_print, 1, none)
abbrev zy_X9_init : zM := (yX9_init, cX9_init, 4, none)
theorem fl_X9_3_8 : zFL RX9 3 8 6 := ⟨RX9, TX9, 7, "ClauseCourt$Parity", rfl, by decide, Or.inl q893, Or.inl rfl, in_X9⟩
theorem ml_X9_9 : zML RX9 9 zy_X5_init := Or.inl q891
theorem fl_X9_15_8 : zFL RX9 15 8 5 := ⟨RX9, TX9, 7, "ClauseCourt$Parity", rfl, by decide, Or.inl q892, Or.inl rfl, in_X9⟩
abbrev zy_X9_lay : zM := (yX9_lay, cX9_lay, 5, none)
theorem fl_X9_45_8 : zFL RX9 45 8 1 := ⟨RX9, TX9, 7, "ClauseCourt$Parity", rfl, by decide, Or.inl q825, Or.inr q826, in_X9⟩
theorem ml_X9_52 : zML RX9 52 zy_X0_newName := Or.inr ⟨by decide +kernel, "ClauseCourt", q975⟩
theorem ml_X9_55 : zML RX9 55 zy_X0_plan_3 := Or.inr ⟨by decide +kernel, "ClauseCourt", q976⟩
theorem ml_X9_59 : zML RX9 59 zy_X0_plan_2 := Or.inr ⟨by decide +kernel, "ClauseCourt", q977⟩
theorem ml_X9_49 : zML RX9 49 zy_X0_endRow := Or.inr ⟨by decide +kernel, "ClauseCourt", q974⟩
abbrev zy_X9_holds : zM := (yX9_holds, cX9_holds, 2, some .boolean)
theorem ml_X9_19 : zML RX9 19 zy_X0_body := Or.inr ⟨by decide +kernel, "ClauseCourt", q1239⟩
theorem ul_X9_23_8 : zUL RX9 23 ⟨"ClauseCourt$Parity", "trues", "(LClauseCourt$Truth;)I"⟩ "ClauseCourt$Rule" 8 zy_X5_trues 1 := ⟨RX9, TX9, 7, rfl, by decide, by decide +kernel, Nat.le_of_ble_eq_true rfl, q1240, q1241, q1242, q1211, q172, zcw_in (by decide +kernel) q1212, Or.inl q1208, ⟨by decide +kernel, by decide +kernel, by decide +kernel⟩⟩
abbrev zy_X9_least : zM := (yX9_least, cX9_least, 1, some .int)
theorem su_X9_27 : zSU RX9 27 "ClauseCourt$Rule" zy_X5_least 0 := ⟨by decide +kernel, Nat.le_of_ble_eq_true rfl, q1269, q1254, q903, Or.inl rfl, q1253, q172, zcw_in (by decide +kernel) q1271, ⟨by decide +kernel, by decide +kernel⟩⟩
abbrev zy_X9_most : zM := (yX9_most, cX9_most, 2, some .int)
theorem su_X9_31 : zSU RX9 31 "ClauseCourt$Rule" zy_X5_most 0 := ⟨by decide +kernel, Nat.le_of_ble_eq_true rfl, q1287, q1275, q903, Or.inl rfl, q1274, q172, zcw_in (by decide +kernel) q1291, ⟨by decide +kernel, by decide +kernel⟩⟩
abbrev zy_X9_print : zM := (yX9_print, cX9_print, 1, none)
abbrev zy_X13_all : zM := (yX13_all, cX13_all, 8, none)
theorem fl_X13_3_12 : zFL RX13 3 12 8 := ⟨RX13, TX13, 9, "ClauseCourt$Told", rfl, by decide, Or.inl q1139, Or.inl rfl, in_X13⟩
theorem ml_X13_72 : zML RX13 72 zy_X0_plan := Or.inr ⟨by decide +kernel, "ClauseCourt", q991⟩
theorem ml_X13_82 : zML RX13 82 zy_X0_also := Or.inr ⟨by decide +kernel, "ClauseCourt", q992⟩
theorem ml_X13_85 : zML RX13 85 zy_X0_endRow := Or.inr ⟨by decide +kernel, "ClauseCourt", q993⟩
abbrev zy_X13_row : zM := (yX13_row, cX13_row, 7, none)
abbrev zy_X13_some : zM := (yX13_some, cX13_some, 7, none)
theorem mi_X13_row : zMI zy_X13_row 12 2 := ⟨⟨RX13, TX13, 9, rfl, rfl, q1000, qs19, q180, zcw_in (by decide +kernel) q1001⟩, ⟨by decide +kernel, by decide +kernel, by decide +kernel⟩, Nat.le_of_ble_eq_true rfl, by decide⟩
theorem ml_X13_89 : zML RX13 89 zy_X13_row := Or.inl q998
abbrev zy_X13_justOne : zM := (yX13_justOne, cX13_justOne, 5, none)
theorem ml_X13_76 : zML RX13 76 zy_X0_plan_3 := Or.inr ⟨by decide +kernel, "ClauseCourt", q1002⟩
abbrev zy_X13_layPart : zM := (yX13_layPart, cX13_layPart, 4, some .int)
theorem fl_X13_37_10 : zFL RX13 37 10 0 := ⟨RX11, TX11, 4, "ClauseCourt$Part", rfl, by decide, Or.inr ⟨"ClauseCourt", q1074⟩, Or.inl rfl, in_X11⟩
theorem fl_X13_23_10 : zFL RX13 23 10 2 := ⟨RX11, TX11, 4, "ClauseCourt$Part", rfl, by decide, Or.inr ⟨"ClauseCourt", q1077⟩, Or.inl rfl, in_X11⟩
theorem fl_X13_29_10 : zFL RX13 29 10 3 := ⟨RX11, TX11, 4, "ClauseCourt$Part", rfl, by decide, Or.inr ⟨"ClauseCourt", q1080⟩, Or.inl rfl, in_X11⟩
abbrev zy_X13_lay : zM := (yX13_lay, cX13_lay, 1, none)
theorem fl_X13_19_12 : zFL RX13 19 12 7 := ⟨RX13, TX13, 9, "ClauseCourt$Told", rfl, by decide, Or.inl q1138, Or.inl rfl, in_X13⟩
abbrev zy_X13_init : zM := (yX13_init, cX13_init, 5, none)
theorem ml_X13_9 : zML RX13 9 zy_X6_init := Or.inl q1136
theorem fl_X13_15_12 : zFL RX13 15 12 6 := ⟨RX13, TX13, 9, "ClauseCourt$Told", rfl, by decide, Or.inl q1137, Or.inl rfl, in_X13⟩
abbrev zy_X13_isSo : zM := (yX13_isSo, cX13_isSo, 5, some .boolean)
abbrev zy_X13_holds : zM := (yX13_holds, cX13_holds, 2, some .boolean)
theorem ml_X13_49 : zML RX13 49 zy_X0_body := Or.inr ⟨by decide +kernel, "ClauseCourt", q1246⟩
abbrev zy_X13_most : zM := (yX13_most, cX13_most, 1, some .int)
abbrev zy_X13_print : zM := (yX13_print, cX13_print, 5, none)
theorem ml_X13_53 : zML RX13 53 zy_X0_say_2 := Or.inr ⟨by decide +kernel, "ClauseCourt", q1479⟩
abbrev zy_X0_isIn : zM := (yX0_isIn, cX0_isIn, 6, some .boolean)
theorem mi_X0_isIn : zMS zy_X0_isIn 3 := ⟨by decide +kernel, ⟨q576, q157, zcw_in (by decide +kernel) q577⟩, ⟨by decide +kernel, by decide +kernel, by decide +kernel⟩, Nat.le_of_ble_eq_true rfl⟩
abbrev zy_X0_refused : zM := (yX0_refused, cX0_refused, 2, some .int)
theorem mi_X0_refused : zMI zy_X0_refused 0 1 := ⟨⟨RX0, TX0, 42, rfl, rfl, q580, qs0, q157, zcw_in (by decide +kernel) q581⟩, ⟨by decide +kernel, by decide +kernel, by decide +kernel⟩, Nat.le_of_ble_eq_true rfl, by decide⟩
theorem fl_X0_97_0 : zFL RX0 97 0 0 := ⟨RX0, TX0, 42, "ClauseCourt", rfl, by decide, Or.inl q436, Or.inl rfl, in_X0⟩
abbrev zy_X0_moreNames : zM := (yX0_moreNames, cX0_moreNames, 3, none)
theorem mi_X0_moreNames : zMI zy_X0_moreNames 0 1 := ⟨⟨RX0, TX0, 42, rfl, rfl, q584, qs1, q157, zcw_in (by decide +kernel) q585⟩, ⟨by decide +kernel, by decide +kernel, by decide +kernel⟩, Nat.le_of_ble_eq_true rfl, by decide⟩
theorem fl_X0_106_0 : zFL RX0 106 0 3 := ⟨RX0, TX0, 42, "ClauseCourt", rfl, by decide, Or.inl q441, Or.inl rfl, in_X0⟩
theorem fl_X0_11_0 : zFL RX0 11 0 1 := ⟨RX0, TX0, 42, "ClauseCourt", rfl, by decide, Or.inl q437, Or.inl rfl, in_X0⟩
theorem fl_X0_100_0 : zFL RX0 100 0 2 := ⟨RX0, TX0, 42, "ClauseCourt", rfl, by decide, Or.inl q440, Or.inl rfl, in_X0⟩
theorem ml_X0_103 : zML RX0 103 zy_X4_init := Or.inl q587
theorem nw_X0_9 : zNW RX0 9 4 := ⟨RX4, TX4, 3, rfl, q195, q586, q161⟩
abbrev zy_X0_names : zM := (yX0_names, cX0_names, 2, some .int)
theorem mi_X0_names : zMI zy_X0_names 0 1 := ⟨⟨RX0, TX0, 42, rfl, rfl, q571, q572, q157, zcw_in (by decide +kernel) q573⟩, ⟨by decide +kernel, by decide +kernel, by decide +kernel⟩, Nat.le_of_ble_eq_true rfl, by decide⟩
theorem ml_X0_109 : zML RX0 109 zy_X0_isIn := Or.inl q575
theorem ml_X0_127 : zML RX0 127 zy_X0_moreNames := Or.inl q582
theorem ml_X0_124 : zML RX0 124 zy_X0_refused := Or.inl q578
abbrev zy_X0_isPaper : zM := (yX0_isPaper, cX0_isPaper, 1, some .boolean)
theorem mi_X0_isPaper : zMS zy_X0_isPaper 1 := ⟨by decide +kernel, ⟨q693, q157, zcw_in (by decide +kernel) q694⟩, ⟨by decide +kernel, by decide +kernel, by decide +kernel⟩, Nat.le_of_ble_eq_true rfl⟩
abbrev zy_X0_row : zM := (yX0_row, cX0_row, 4, some .int)
theorem mi_X0_row : zMI zy_X0_row 0 2 := ⟨⟨RX0, TX0, 42, rfl, rfl, q604, q605, q157, zcw_inW (hh := [(21, 31, 32, 136)]) (by decide +kernel) (by decide) q606⟩, ⟨by decide +kernel, by decide +kernel, by decide +kernel⟩, Nat.le_of_ble_eq_true rfl, by decide⟩
theorem ml_X0_132 : zML RX0 132 zy_X0_isPaper := Or.inl q692
theorem fl_X0_17_0 : zFL RX0 17 0 4 := ⟨RX0, TX0, 42, "ClauseCourt", rfl, by decide, Or.inl q442, Or.inl rfl, in_X0⟩
theorem fm_14_4 : ((14, ((4 : Nat) : Int), 16) : Int × Int × Int) ∈ zFin := by decide +kernel
theorem sa_16 : zSA 16 61 40 := by unfold zSA; decide +kernel
abbrev zy_X0_drop : zM := (yX0_drop, cX0_drop, 2, some .int)
theorem mi_X0_drop : zMI zy_X0_drop 0 1 := ⟨⟨RX0, TX0, 42, rfl, rfl, q697, q698, q157, zcw_in (by decide +kernel) q699⟩, ⟨by decide +kernel, by decide +kernel, by decide +kernel⟩, Nat.le_of_ble_eq_true rfl, by decide⟩
abbrev zy_X0_put : zM := (yX0_put, cX0_put, 5, some .int)
theorem mi_X0_put : zMI zy_X0_put 0 3 := ⟨⟨RX0, TX0, 42, rfl, rfl, q701, q702, q157, zcw_inW (hh := [(15, 25, 26, 138), (15, 25, 36, 140)]) (by decide +kernel) (by decide) q703⟩, ⟨by decide +kernel, by decide +kernel, by decide +kernel⟩, Nat.le_of_ble_eq_true rfl, by decide⟩
abbrev zy_X0_get : zM := (yX0_get, cX0_get, 4, some .long)
theorem mi_X0_get : zMI zy_X0_get 0 2 := ⟨⟨RX0, TX0, 42, rfl, rfl, q749, q750, q157, zcw_inW (hh := [(20, 45, 46, 138), (20, 45, 60, 140)]) (by decide +kernel) (by decide) q751⟩, ⟨by decide +kernel, by decide +kernel, by decide +kernel⟩, Nat.le_of_ble_eq_true rfl, by decide⟩
abbrev zy_X0_copy : zM := (yX0_copy, cX0_copy, 7, some .int)
theorem mi_X0_copy : zMI zy_X0_copy 0 5 := ⟨⟨RX0, TX0, 42, rfl, rfl, q754, q755, q157, zcw_inW (hh := [(22, 44, 45, 138), (22, 44, 55, 140)]) (by decide +kernel) (by decide) q756⟩, ⟨by decide +kernel, by decide +kernel, by decide +kernel⟩, Nat.le_of_ble_eq_true rfl, by decide⟩
abbrev zy_X0_cut : zM := (yX0_cut, cX0_cut, 4, some .int)
theorem mi_X0_cut : zMI zy_X0_cut 0 2 := ⟨⟨RX0, TX0, 42, rfl, rfl, q761, q762, q157, zcw_inW (hh := [(21, 46, 47, 136), (21, 46, 56, 138), (21, 46, 65, 140)]) (by decide +kernel) (by decide) q763⟩, ⟨by decide +kernel, by decide +kernel, by decide +kernel⟩, Nat.le_of_ble_eq_true rfl, by decide⟩
abbrev zy_X0_feed : zM := (yX0_feed, cX0_feed, 5, some .int)
theorem mi_X0_feed : zMI zy_X0_feed 0 2 := ⟨⟨RX0, TX0, 42, rfl, rfl, q765, q766, q157, zcw_in (by decide +kernel) q767⟩, ⟨by decide +kernel, by decide +kernel, by decide +kernel⟩, Nat.le_of_ble_eq_true rfl, by decide⟩
theorem fl_X0_152_0 : zFL RX0 152 0 6 := ⟨RX0, TX0, 42, "ClauseCourt", rfl, by decide, Or.inl q444, Or.inl rfl, in_X0⟩
theorem fl_X0_21_0 : zFL RX0 21 0 5 := ⟨RX0, TX0, 42, "ClauseCourt", rfl, by decide, Or.inl q443, Or.inl rfl, in_X0⟩
theorem fm_14_5 : ((14, ((5 : Nat) : Int), 17) : Int × Int × Int) ∈ zFin := by decide +kernel
theorem sa_17 : zSA 17 51 60 := by unfold zSA; decide +kernel
abbrev zy_X0_wipe : zM := (yX0_wipe, cX0_wipe, 2, some .int)
theorem mi_X0_wipe : zMI zy_X0_wipe 0 0 := ⟨⟨RX0, TX0, 42, rfl, rfl, q770, q771, q157, zcw_in (by decide +kernel) q772⟩, ⟨by decide +kernel, by decide +kernel, by decide +kernel⟩, Nat.le_of_ble_eq_true rfl, by decide⟩
abbrev zy_X0_trace : zM := (yX0_trace, cX0_trace, 2, some .int)
theorem mi_X0_trace : zMI zy_X0_trace 0 1 := ⟨⟨RX0, TX0, 42, rfl, rfl, q774, q775, q157, zcw_in (by decide +kernel) q776⟩, ⟨by decide +kernel, by decide +kernel, by decide +kernel⟩, Nat.le_of_ble_eq_true rfl, by decide⟩
abbrev zy_X0_out : zM := (yX0_out, cX0_out, 2, some .int)
theorem mi_X0_out : zMI zy_X0_out 0 1 := ⟨⟨RX0, TX0, 42, rfl, rfl, q781, q782, q157, zcw_in (by decide +kernel) q783⟩, ⟨by decide +kernel, by decide +kernel, by decide +kernel⟩, Nat.le_of_ble_eq_true rfl, by decide⟩
abbrev zy_X0_itemOf : zM := (yX0_itemOf, cX0_itemOf, 3, some .int)
theorem mi_X0_itemOf : zMI zy_X0_itemOf 0 1 := ⟨⟨RX0, TX0, 42, rfl, rfl, q803, qs7, q157, zcw_in (by decide +kernel) q804⟩, ⟨by decide +kernel, by decide +kernel, by decide +kernel⟩, Nat.le_of_ble_eq_true rfl, by decide⟩
theorem fl_X0_119_4 : zFL RX0 119 4 0 := ⟨RX4, TX4, 3, "ClauseCourt$Name", rfl, by decide, Or.inr ⟨"ClauseCourt", q592⟩, Or.inl rfl, in_X4⟩
abbrev zy_X0_itemsOf : zM := (yX0_itemsOf, cX0_itemsOf, 5, some (.array .int))
theorem mi_X0_itemsOf : zMI zy_X0_itemsOf 0 1 := ⟨⟨RX0, TX0, 42, rfl, rfl, q799, qs6, q157, zcw_in (by decide +kernel) q800⟩, ⟨by decide +kernel, by decide +kernel, by decide +kernel⟩, Nat.le_of_ble_eq_true rfl, by decide⟩
theorem ml_X0_211 : zML RX0 211 zy_X0_itemOf := Or.inl q801
abbrev zy_X0_made : zM := (yX0_made, cX0_made, 6, some (.object "ClauseCourt$Rule"))
theorem mi_X0_made : zMI zy_X0_made 0 4 := ⟨⟨RX0, TX0, 42, rfl, rfl, q795, qs5, q157, zcw_in (by decide +kernel) q796⟩, ⟨by decide +kernel, by decide +kernel, by decide +kernel⟩, Nat.le_of_ble_eq_true rfl, by decide⟩
theorem ml_X0_214 : zML RX0 214 zy_X0_itemsOf := Or.inl q797
theorem ml_X0_220 : zML RX0 220 zy_X6_init := Or.inl q810
theorem nw_X0_218 : zNW RX0 218 5 := ⟨RX6, TX6, 6, rfl, q808, q809, q173⟩
theorem ml_X0_225 : zML RX0 225 zy_X7_init := Or.inl q849
theorem nw_X0_223 : zNW RX0 223 6 := ⟨RX7, TX7, 8, rfl, q847, q848, q174⟩
theorem mc_X8_init : zMC zy_X8_init 3 := ⟨by decide +kernel, rfl, rfl, ⟨q871, q175, zcw_in (by decide +kernel) q872⟩, ⟨by decide +kernel, by decide +kernel, by decide +kernel⟩, Nat.le_of_ble_eq_true rfl⟩
theorem ml_X0_230 : zML RX0 230 zy_X8_init := Or.inl q870
theorem nw_X0_228 : zNW RX0 228 7 := ⟨RX8, TX8, 9, rfl, q868, q869, q175⟩
theorem mc_X9_init : zMC zy_X9_init 3 := ⟨by decide +kernel, rfl, rfl, ⟨q889, q176, zcw_in (by decide +kernel) q890⟩, ⟨by decide +kernel, by decide +kernel, by decide +kernel⟩, Nat.le_of_ble_eq_true rfl⟩
theorem ml_X0_235 : zML RX0 235 zy_X9_init := Or.inl q888
theorem nw_X0_233 : zNW RX0 233 8 := ⟨RX9, TX9, 7, rfl, q886, q887, q176⟩
abbrev zy_X0_beginPlan : zM := (yX0_beginPlan, cX0_beginPlan, 1, none)
theorem mi_X0_beginPlan : zMI zy_X0_beginPlan 0 0 := ⟨⟨RX0, TX0, 42, rfl, rfl, q906, qs8, q157, zcw_in (by decide +kernel) q907⟩, ⟨by decide +kernel, by decide +kernel, by decide +kernel⟩, Nat.le_of_ble_eq_true rfl, by decide⟩
abbrev zy_X0_laid : zM := (yX0_laid, cX0_laid, 4, some .int)
theorem mi_X0_laid : zMI zy_X0_laid 0 1 := ⟨⟨RX0, TX0, 42, rfl, rfl, q1010, qs21, q157, zcw_in (by decide +kernel) q1011⟩, ⟨by decide +kernel, by decide +kernel, by decide +kernel⟩, Nat.le_of_ble_eq_true rfl, by decide⟩
theorem fl_X0_199_0 : zFL RX0 199 0 20 := ⟨RX0, TX0, 42, "ClauseCourt", rfl, by decide, Or.inl q461, Or.inl rfl, in_X0⟩
theorem fl_X0_202_0 : zFL RX0 202 0 18 := ⟨RX0, TX0, 42, "ClauseCourt", rfl, by decide, Or.inl q459, Or.inl rfl, in_X0⟩
theorem fl_X0_40_0 : zFL RX0 40 0 17 := ⟨RX0, TX0, 42, "ClauseCourt", rfl, by decide, Or.inl q456, Or.inl rfl, in_X0⟩
theorem fl_X0_205_5 : zFL RX0 205 5 2 := ⟨RX6, TX6, 6, "ClauseCourt$Rule", rfl, by decide, Or.inl q830, Or.inl rfl, in_X6⟩
theorem fl_X0_205_6 : zFL RX0 205 6 2 := ⟨RX7, TX7, 8, "ClauseCourt$Rule", rfl, by decide, Or.inl q830, Or.inl rfl, in_X7⟩
theorem fl_X0_205_7 : zFL RX0 205 7 2 := ⟨RX8, TX8, 9, "ClauseCourt$Rule", rfl, by decide, Or.inl q830, Or.inl rfl, in_X8⟩
theorem fl_X0_205_8 : zFL RX0 205 8 2 := ⟨RX9, TX9, 7, "ClauseCourt$Rule", rfl, by decide, Or.inl q830, Or.inl rfl, in_X9⟩
theorem fl_X0_205_12 : zFL RX0 205 12 2 := ⟨RX13, TX13, 9, "ClauseCourt$Rule", rfl, by decide, Or.inl q830, Or.inl rfl, in_X13⟩
theorem fl_X0_208_5 : zFL RX0 208 5 3 := ⟨RX6, TX6, 6, "ClauseCourt$Rule", rfl, by decide, Or.inl q832, Or.inl rfl, in_X6⟩
theorem fl_X0_208_6 : zFL RX0 208 6 3 := ⟨RX7, TX7, 8, "ClauseCourt$Rule", rfl, by decide, Or.inl q832, Or.inl rfl, in_X7⟩
theorem fl_X0_208_7 : zFL RX0 208 7 3 := ⟨RX8, TX8, 9, "ClauseCourt$Rule", rfl, by decide, Or.inl q832, Or.inl rfl, in_X8⟩
theorem fl_X0_208_8 : zFL RX0 208 8 3 := ⟨RX9, TX9, 7, "ClauseCourt$Rule", rfl, by decide, Or.inl q832, Or.inl rfl, in_X9⟩
theorem fl_X0_208_12 : zFL RX0 208 12 3 := ⟨RX13, TX13, 9, "ClauseCourt$Rule", rfl, by decide, Or.inl q832, Or.inl rfl, in_X13⟩
theorem fl_X0_37_0 : zFL RX0 37 0 16 := ⟨RX0, TX0, 42, "ClauseCourt", rfl, by decide, Or.inl q454, Or.inl rfl, in_X0⟩
theorem sa_22 : zSA 22 50 2500 := by unfold zSA; decide +kernel
theorem fl_X0_45_0 : zFL RX0 45 0 19 := ⟨RX0, TX0, 42, "ClauseCourt", rfl, by decide, Or.inl q460, Or.inl rfl, in_X0⟩
theorem fm_14_19 : ((14, ((19 : Nat) : Int), 24) : Int × Int × Int) ∈ zFin := by decide +kernel
theorem sa_24 : zSA 24 62 60 := by unfold zSA; decide +kernel
abbrev zy_X0_come : zM := (yX0_come, cX0_come, 6, some .int)
theorem mi_X0_come : zMI zy_X0_come 0 4 := ⟨⟨RX0, TX0, 42, rfl, rfl, q790, qs4, q157, zcw_inW (hh := [(27, 53, 54, 138), (27, 53, 64, 140)]) (by decide +kernel) (by decide) q791⟩, ⟨by decide +kernel, by decide +kernel, by decide +kernel⟩, Nat.le_of_ble_eq_true rfl, by decide⟩
theorem ml_X0_240 : zML RX0 240 zy_X0_made := Or.inl q793
theorem ml_X0_244 : zML RX0 244 zy_X0_beginPlan := Or.inl q904
abbrev zy_X0_clause : zM := (yX0_clause, cX0_clause, 2, some .int)
theorem mi_X0_clause : zMI zy_X0_clause 0 1 := ⟨⟨RX0, TX0, 42, rfl, rfl, q785, q786, q157, zcw_in (by decide +kernel) q787⟩, ⟨by decide +kernel, by decide +kernel, by decide +kernel⟩, Nat.le_of_ble_eq_true rfl, by decide⟩
abbrev zy_X0_atMost : zM := (yX0_atMost, cX0_atMost, 3, some .int)
theorem mi_X0_atMost : zMI zy_X0_atMost 0 2 := ⟨⟨RX0, TX0, 42, rfl, rfl, q1013, q1014, q157, zcw_in (by decide +kernel) q1015⟩, ⟨by decide +kernel, by decide +kernel, by decide +kernel⟩, Nat.le_of_ble_eq_true rfl, by decide⟩
abbrev zy_X0_group : zM := (yX0_group, cX0_group, 3, some .int)
theorem mi_X0_group : zMI zy_X0_group 0 2 := ⟨⟨RX0, TX0, 42, rfl, rfl, q1017, q1018, q157, zcw_in (by decide +kernel) q1019⟩, ⟨by decide +kernel, by decide +kernel, by decide +kernel⟩, Nat.le_of_ble_eq_true rfl, by decide⟩
abbrev zy_X0_parity : zM := (yX0_parity, cX0_parity, 3, some .int)
theorem mi_X0_parity : zMI zy_X0_parity 0 2 := ⟨⟨RX0, TX0, 42, rfl, rfl, q1021, q1022, q157, zcw_in (by decide +kernel) q1023⟩, ⟨by decide +kernel, by decide +kernel, by decide +kernel⟩, Nat.le_of_ble_eq_true rfl, by decide⟩
abbrev zy_X10_init : zM := (yX10_init, cX10_init, 2, none)
theorem mc_X10_init : zMC zy_X10_init 1 := ⟨by decide +kernel, rfl, rfl, ⟨q1032, q177, zcw_in (by decide +kernel) q1033⟩, ⟨by decide +kernel, by decide +kernel, by decide +kernel⟩, Nat.le_of_ble_eq_true rfl⟩
theorem fl_X10_9_9 : zFL RX10 9 9 4 := ⟨RX10, TX10, 5, "ClauseCourt$Reader", rfl, by decide, Or.inl q1040, Or.inl rfl, in_X10⟩
theorem fl_X10_15_9 : zFL RX10 15 9 0 := ⟨RX10, TX10, 5, "ClauseCourt$Reader", rfl, by decide, Or.inl q1035, Or.inl rfl, in_X10⟩
abbrev zy_X10_here : zM := (yX10_here, cX10_here, 1, some .int)
theorem mi_X10_here : zMI zy_X10_here 9 0 := ⟨⟨RX10, TX10, 5, rfl, rfl, q1063, qs22, q177, zcw_in (by decide +kernel) q1064⟩, ⟨by decide +kernel, by decide +kernel, by decide +kernel⟩, Nat.le_of_ble_eq_true rfl, by decide⟩
theorem fl_X10_19_9 : zFL RX10 19 9 1 := ⟨RX10, TX10, 5, "ClauseCourt$Reader", rfl, by decide, Or.inl q1036, Or.inl rfl, in_X10⟩
abbrev zy_X11_init : zM := (yX11_init, cX11_init, 3, none)
theorem mc_X11_init : zMC zy_X11_init 2 := ⟨by decide +kernel, rfl, rfl, ⟨q1068, q178, zcw_in (by decide +kernel) q1069⟩, ⟨by decide +kernel, by decide +kernel, by decide +kernel⟩, Nat.le_of_ble_eq_true rfl⟩
theorem fl_X11_7_10 : zFL RX11 7 10 0 := ⟨RX11, TX11, 4, "ClauseCourt$Part", rfl, by decide, Or.inl q1073, Or.inl rfl, in_X11⟩
abbrev zy_X12_init : zM := (yX12_init, cX12_init, 2, none)
theorem mc_X12_init : zMC zy_X12_init 1 := ⟨by decide +kernel, rfl, rfl, ⟨q1105, q179, zcw_in (by decide +kernel) q1106⟩, ⟨by decide +kernel, by decide +kernel, by decide +kernel⟩, Nat.le_of_ble_eq_true rfl⟩
abbrev zy_X10_take : zM := (yX10_take, cX10_take, 2, none)
theorem mi_X10_take : zMI zy_X10_take 9 1 := ⟨⟨RX10, TX10, 5, rfl, rfl, q1122, qs24, q177, zcw_in (by decide +kernel) q1123⟩, ⟨by decide +kernel, by decide +kernel, by decide +kernel⟩, Nat.le_of_ble_eq_true rfl, by decide⟩
abbrev zy_X10_isDigit : zM := (yX10_isDigit, cX10_isDigit, 1, some .boolean)
theorem mi_X10_isDigit : zMI zy_X10_isDigit 9 0 := ⟨⟨RX10, TX10, 5, rfl, rfl, q1130, qs26, q177, zcw_in (by decide +kernel) q1131⟩, ⟨by decide +kernel, by decide +kernel, by decide +kernel⟩, Nat.le_of_ble_eq_true rfl, by decide⟩
abbrev zy_X10_name : zM := (yX10_name, cX10_name, 3, some (.object "ClauseCourt$Part"))
theorem mi_X10_name : zMI zy_X10_name 9 0 := ⟨⟨RX10, TX10, 5, rfl, rfl, q1126, qs25, q177, zcw_in (by decide +kernel) q1127⟩, ⟨by decide +kernel, by decide +kernel, by decide +kernel⟩, Nat.le_of_ble_eq_true rfl, by decide⟩
abbrev zy_X0_isRule : zM := (yX0_isRule, cX0_isRule, 2, some .boolean)
theorem mi_X0_isRule : zMI zy_X0_isRule 0 1 := ⟨⟨RX0, TX0, 42, rfl, rfl, q1159, qs27, q157, zcw_in (by decide +kernel) q1160⟩, ⟨by decide +kernel, by decide +kernel, by decide +kernel⟩, Nat.le_of_ble_eq_true rfl, by decide⟩
abbrev zy_X0_kind : zM := (yX0_kind, cX0_kind, 2, some .int)
theorem mi_X0_kind : zMI zy_X0_kind 0 1 := ⟨⟨RX0, TX0, 42, rfl, rfl, q1154, q1155, q157, zcw_in (by decide +kernel) q1156⟩, ⟨by decide +kernel, by decide +kernel, by decide +kernel⟩, Nat.le_of_ble_eq_true rfl, by decide⟩
theorem ml_X0_282 : zML RX0 282 zy_X0_isRule := Or.inl q1157
theorem fl_X0_285_5 : zFL RX0 285 5 0 := ⟨RX6, TX6, 6, "ClauseCourt$Rule", rfl, by decide, Or.inl q819, Or.inl rfl, in_X6⟩
theorem fl_X0_285_6 : zFL RX0 285 6 0 := ⟨RX7, TX7, 8, "ClauseCourt$Rule", rfl, by decide, Or.inl q819, Or.inl rfl, in_X7⟩
theorem fl_X0_285_7 : zFL RX0 285 7 0 := ⟨RX8, TX8, 9, "ClauseCourt$Rule", rfl, by decide, Or.inl q819, Or.inl rfl, in_X8⟩
theorem fl_X0_285_8 : zFL RX0 285 8 0 := ⟨RX9, TX9, 7, "ClauseCourt$Rule", rfl, by decide, Or.inl q819, Or.inl rfl, in_X9⟩
theorem fl_X0_285_12 : zFL RX0 285 12 0 := ⟨RX13, TX13, 9, "ClauseCourt$Rule", rfl, by decide, Or.inl q819, Or.inl rfl, in_X13⟩
theorem gm_X0_285 : ∀ t ∈ [5, 6, 7, 8, 12], t < 50 ∧ zFL RX0 285 t 0 ∧ zk t 0 = zk 5 0 := by
  intro t ht
  simp only [List.mem_cons, List.not_mem_nil, or_false] at ht
  rcases ht with rfl | rfl | rfl | rfl | rfl
  · exact ⟨by decide, fl_X0_285_5, rfl⟩
  · exact ⟨by decide, fl_X0_285_6, rfl⟩
  · exact ⟨by decide, fl_X0_285_7, rfl⟩
  · exact ⟨by decide, fl_X0_285_8, rfl⟩
  · exact ⟨by decide, fl_X0_285_12, rfl⟩
abbrev zy_X0_taken : zM := (yX0_taken, cX0_taken, 2, some (.object "ClauseCourt$Rule"))
theorem mi_X0_taken : zMS zy_X0_taken 2 := ⟨by decide +kernel, ⟨q1181, q157, zcw_in (by decide +kernel) q1182⟩, ⟨by decide +kernel, by decide +kernel, by decide +kernel⟩, Nat.le_of_ble_eq_true rfl⟩
abbrev zy_X0_as : zM := (yX0_as, cX0_as, 4, some .int)
theorem mi_X0_as : zMI zy_X0_as 0 2 := ⟨⟨RX0, TX0, 42, rfl, rfl, q1162, q1163, q157, zcw_inW (hh := [(28, 49, 50, 294)]) (by decide +kernel) (by decide) q1164⟩, ⟨by decide +kernel, by decide +kernel, by decide +kernel⟩, Nat.le_of_ble_eq_true rfl, by decide⟩
abbrev zy_X0_item : zM := (yX0_item, cX0_item, 4, some .int)
theorem mi_X0_item : zMI zy_X0_item 0 2 := ⟨⟨RX0, TX0, 42, rfl, rfl, q1184, q1185, q157, zcw_in (by decide +kernel) q1186⟩, ⟨by decide +kernel, by decide +kernel, by decide +kernel⟩, Nat.le_of_ble_eq_true rfl, by decide⟩
theorem fl_X0_296_5 : zFL RX0 296 5 1 := ⟨RX6, TX6, 6, "ClauseCourt$Rule", rfl, by decide, Or.inl q829, Or.inl rfl, in_X6⟩
theorem fl_X0_296_6 : zFL RX0 296 6 1 := ⟨RX7, TX7, 8, "ClauseCourt$Rule", rfl, by decide, Or.inl q829, Or.inl rfl, in_X7⟩
theorem fl_X0_296_7 : zFL RX0 296 7 1 := ⟨RX8, TX8, 9, "ClauseCourt$Rule", rfl, by decide, Or.inl q829, Or.inl rfl, in_X8⟩
theorem fl_X0_296_8 : zFL RX0 296 8 1 := ⟨RX9, TX9, 7, "ClauseCourt$Rule", rfl, by decide, Or.inl q829, Or.inl rfl, in_X9⟩
theorem fl_X0_296_12 : zFL RX0 296 12 1 := ⟨RX13, TX13, 9, "ClauseCourt$Rule", rfl, by decide, Or.inl q829, Or.inl rfl, in_X13⟩
theorem gm_X0_296 : ∀ t ∈ [5, 6, 7, 8, 12], t < 50 ∧ zFL RX0 296 t 1 ∧ zk t 1 = zk 5 1 := by
  intro t ht
  simp only [List.mem_cons, List.not_mem_nil, or_false] at ht
  rcases ht with rfl | rfl | rfl | rfl | rfl
  · exact ⟨by decide, fl_X0_296_5, rfl⟩
  · exact ⟨by decide, fl_X0_296_6, rfl⟩
  · exact ⟨by decide, fl_X0_296_7, rfl⟩
  · exact ⟨by decide, fl_X0_296_8, rfl⟩
  · exact ⟨by decide, fl_X0_296_12, rfl⟩
abbrev zy_X0_rows : zM := (yX0_rows, cX0_rows, 3, some .int)
theorem mi_X0_rows : zMI zy_X0_rows 0 2 := ⟨⟨RX0, TX0, 42, rfl, rfl, q1188, q1189, q157, zcw_in (by decide +kernel) q1190⟩, ⟨by decide +kernel, by decide +kernel, by decide +kernel⟩, Nat.le_of_ble_eq_true rfl, by decide⟩
theorem gm_X0_208 : ∀ t ∈ [5, 6, 7, 8, 12], t < 50 ∧ zFL RX0 208 t 3 ∧ zk t 3 = zk 5 3 := by
  intro t ht
  simp only [List.mem_cons, List.not_mem_nil, or_false] at ht
  rcases ht with rfl | rfl | rfl | rfl | rfl
  · exact ⟨by decide, fl_X0_208_5, rfl⟩
  · exact ⟨by decide, fl_X0_208_6, rfl⟩
  · exact ⟨by decide, fl_X0_208_7, rfl⟩
  · exact ⟨by decide, fl_X0_208_8, rfl⟩
  · exact ⟨by decide, fl_X0_208_12, rfl⟩
theorem gm_X0_205 : ∀ t ∈ [5, 6, 7, 8, 12], t < 50 ∧ zFL RX0 205 t 2 ∧ zk t 2 = zk 5 2 := by
  intro t ht
  simp only [List.mem_cons, List.not_mem_nil, or_false] at ht
  rcases ht with rfl | rfl | rfl | rfl | rfl
  · exact ⟨by decide, fl_X0_205_5, rfl⟩
  · exact ⟨by decide, fl_X0_205_6, rfl⟩
  · exact ⟨by decide, fl_X0_205_7, rfl⟩
  · exact ⟨by decide, fl_X0_205_8, rfl⟩
  · exact ⟨by decide, fl_X0_205_12, rfl⟩
abbrev zy_X0_ask : zM := (yX0_ask, cX0_ask, 3, some .int)
theorem mi_X0_ask : zMI zy_X0_ask 0 2 := ⟨⟨RX0, TX0, 42, rfl, rfl, q1192, q1193, q157, zcw_in (by decide +kernel) q1194⟩, ⟨by decide +kernel, by decide +kernel, by decide +kernel⟩, Nat.le_of_ble_eq_true rfl, by decide⟩
theorem fl_X0_64_0 : zFL RX0 64 0 23 := ⟨RX0, TX0, 42, "ClauseCourt", rfl, by decide, Or.inl q464, Or.inl rfl, in_X0⟩
theorem fm_14_23 : ((14, ((23 : Nat) : Int), 91) : Int × Int × Int) ∈ zFin := by decide +kernel
theorem fl_X0_301_2 : zFL RX0 301 2 3 := ⟨RX2, TX2, 4, "ClauseCourt$Truth", rfl, by decide, Or.inr ⟨"ClauseCourt", q426⟩, Or.inl rfl, in_X2⟩
abbrev zy_X0_print : zM := (yX0_print, cX0_print, 2, some .int)
theorem mi_X0_print : zMI zy_X0_print 0 1 := ⟨⟨RX0, TX0, 42, rfl, rfl, q1302, q1303, q157, zcw_in (by decide +kernel) q1304⟩, ⟨by decide +kernel, by decide +kernel, by decide +kernel⟩, Nat.le_of_ble_eq_true rfl, by decide⟩
abbrev zy_X0_export : zM := (yX0_export, cX0_export, 3, some .int)
theorem mi_X0_export : zMI zy_X0_export 0 0 := ⟨⟨RX0, TX0, 42, rfl, rfl, q1481, q1482, q157, zcw_in (by decide +kernel) q1483⟩, ⟨by decide +kernel, by decide +kernel, by decide +kernel⟩, Nat.le_of_ble_eq_true rfl, by decide⟩
theorem ml_X0_321 : zML RX0 321 zy_X0_sayNumber := Or.inl q1484
abbrev zy_X0_assume : zM := (yX0_assume, cX0_assume, 5, some .int)
theorem mi_X0_assume : zMI zy_X0_assume 0 1 := ⟨⟨RX0, TX0, 42, rfl, rfl, q1486, q1487, q157, zcw_inW (hh := [(0, 56, 106, 138), (57, 73, 106, 138), (74, 105, 106, 138), (0, 56, 115, 140), (57, 73, 115, 140), (74, 105, 115, 140)]) (by decide +kernel) (by decide) q1488⟩, ⟨by decide +kernel, by decide +kernel, by decide +kernel⟩, Nat.le_of_ble_eq_true rfl, by decide⟩
theorem fl_X0_324_0 : zFL RX0 324 0 25 := ⟨RX0, TX0, 42, "ClauseCourt", rfl, by decide, Or.inl q466, Or.inl rfl, in_X0⟩
theorem fl_X0_68_0 : zFL RX0 68 0 24 := ⟨RX0, TX0, 42, "ClauseCourt", rfl, by decide, Or.inl q465, Or.inl rfl, in_X0⟩
theorem fm_14_24 : ((14, ((24 : Nat) : Int), 93) : Int × Int × Int) ∈ zFin := by decide +kernel
theorem sa_93 : zSA 93 50 20 := by unfold zSA; decide +kernel
abbrev zy_X0_free : zM := (yX0_free, cX0_free, 2, some .int)
theorem mi_X0_free : zMI zy_X0_free 0 0 := ⟨⟨RX0, TX0, 42, rfl, rfl, q1490, q1491, q157, zcw_in (by decide +kernel) q1492⟩, ⟨by decide +kernel, by decide +kernel, by decide +kernel⟩, Nat.le_of_ble_eq_true rfl, by decide⟩
abbrev zy_X0_isName : zM := (yX0_isName, cX0_isName, 2, some .boolean)
theorem mi_X0_isName : zMI zy_X0_isName 0 1 := ⟨⟨RX0, TX0, 42, rfl, rfl, q1499, qs33, q157, zcw_in (by decide +kernel) q1500⟩, ⟨by decide +kernel, by decide +kernel, by decide +kernel⟩, Nat.le_of_ble_eq_true rfl, by decide⟩
abbrev zy_X0_weight : zM := (yX0_weight, cX0_weight, 4, some .int)
theorem mi_X0_weight : zMI zy_X0_weight 0 2 := ⟨⟨RX0, TX0, 42, rfl, rfl, q1494, q1495, q157, zcw_in (by decide +kernel) q1496⟩, ⟨by decide +kernel, by decide +kernel, by decide +kernel⟩, Nat.le_of_ble_eq_true rfl, by decide⟩
theorem ml_X0_327 : zML RX0 327 zy_X0_isName := Or.inl q1497
theorem fl_X0_332_4 : zFL RX0 332 4 1 := ⟨RX4, TX4, 3, "ClauseCourt$Name", rfl, by decide, Or.inr ⟨"ClauseCourt", q594⟩, Or.inl rfl, in_X4⟩
abbrev zy_X0_weighs : zM := (yX0_weighs, cX0_weighs, 2, some .long)
theorem mi_X0_weighs : zMI zy_X0_weighs 0 1 := ⟨⟨RX0, TX0, 42, rfl, rfl, q1503, q1504, q157, zcw_in (by decide +kernel) q1505⟩, ⟨by decide +kernel, by decide +kernel, by decide +kernel⟩, Nat.le_of_ble_eq_true rfl, by decide⟩
theorem fl_X0_54_0 : zFL RX0 54 0 21 := ⟨RX0, TX0, 42, "ClauseCourt", rfl, by decide, Or.inl q462, Or.inl rfl, in_X0⟩
theorem fm_14_21 : ((14, ((21 : Nat) : Int), 25) : Int × Int × Int) ∈ zFin := by decide +kernel
theorem fl_X0_335_1 : zFL RX0 335 1 11 := ⟨RX1, TX1, 58, "ClauseCourt$Engine", rfl, by decide, Or.inr ⟨"ClauseCourt", q222⟩, Or.inl rfl, in_X1⟩
theorem sa_25 : zSA 25 1 0 := by unfold zSA; decide +kernel
theorem fl_X0_338_1 : zFL RX0 338 1 16 := ⟨RX1, TX1, 58, "ClauseCourt$Engine", rfl, by decide, Or.inr ⟨"ClauseCourt", q230⟩, Or.inl rfl, in_X1⟩
theorem fm_25_16 : ((25, ((16 : Nat) : Int), 40) : Int × Int × Int) ∈ zFin := by decide +kernel
theorem sa_40 : zSA 40 53 301 := by unfold zSA; decide +kernel
abbrev zy_X0_begin : zM := (yX0_begin, cX0_begin, 3, some .int)
theorem mi_X0_begin : zMI zy_X0_begin 0 1 := ⟨⟨RX0, TX0, 42, rfl, rfl, q1507, q1508, q157, zcw_in (by decide +kernel) q1509⟩, ⟨by decide +kernel, by decide +kernel, by decide +kernel⟩, Nat.le_of_ble_eq_true rfl, by decide⟩
theorem fl_X0_344_0 : zFL RX0 344 0 26 := ⟨RX0, TX0, 42, "ClauseCourt", rfl, by decide, Or.inl q468, Or.inl rfl, in_X0⟩
abbrev zy_X0_forget : zM := (yX0_forget, cX0_forget, 3, some .int)
theorem mi_X0_forget : zMI zy_X0_forget 0 1 := ⟨⟨RX0, TX0, 42, rfl, rfl, q1512, q1513, q157, zcw_in (by decide +kernel) q1514⟩, ⟨by decide +kernel, by decide +kernel, by decide +kernel⟩, Nat.le_of_ble_eq_true rfl, by decide⟩
theorem fl_X0_349_0 : zFL RX0 349 0 27 := ⟨RX0, TX0, 42, "ClauseCourt", rfl, by decide, Or.inl q470, Or.inl rfl, in_X0⟩
abbrev zy_X0_beginMain : zM := (yX0_beginMain, cX0_beginMain, 1, none)
theorem mi_X0_beginMain : zMI zy_X0_beginMain 0 0 := ⟨⟨RX0, TX0, 42, rfl, rfl, q1523, qs34, q157, zcw_in (by decide +kernel) q1524⟩, ⟨by decide +kernel, by decide +kernel, by decide +kernel⟩, Nat.le_of_ble_eq_true rfl, by decide⟩
theorem ml_X0_352 : zML RX0 352 zy_X1_clear := Or.inl q1525
theorem ml_X0_355 : zML RX0 355 zy_X1_layCase := Or.inl q1530
theorem fl_X0_359_2 : zFL RX0 359 2 1 := ⟨RX2, TX2, 4, "ClauseCourt$Truth", rfl, by decide, Or.inr ⟨"ClauseCourt", q424⟩, Or.inl rfl, in_X2⟩
theorem fl_X0_305_2 : zFL RX0 305 2 2 := ⟨RX2, TX2, 4, "ClauseCourt$Truth", rfl, by decide, Or.inr ⟨"ClauseCourt", q425⟩, Or.inl rfl, in_X2⟩
abbrev zy_X0_searched : zM := (yX0_searched, cX0_searched, 4, some .int)
theorem mi_X0_searched : zMI zy_X0_searched 0 1 := ⟨⟨RX0, TX0, 42, rfl, rfl, q1554, qs38, q157, zcw_in (by decide +kernel) q1555⟩, ⟨by decide +kernel, by decide +kernel, by decide +kernel⟩, Nat.le_of_ble_eq_true rfl, by decide⟩
theorem ml_X0_360 : zML RX0 360 zy_X1_search := Or.inl q1556
theorem fl_X0_363_2 : zFL RX0 363 2 0 := ⟨RX2, TX2, 4, "ClauseCourt$Truth", rfl, by decide, Or.inr ⟨"ClauseCourt", q423⟩, Or.inl rfl, in_X2⟩
theorem fl_X0_366_1 : zFL RX0 366 1 56 := ⟨RX1, TX1, 58, "ClauseCourt$Engine", rfl, by decide, Or.inr ⟨"ClauseCourt", q293⟩, Or.inl rfl, in_X1⟩
theorem fm_25_56 : ((25, ((56 : Nat) : Int), 57) : Int × Int × Int) ∈ zFin := by decide +kernel
theorem sa_57 : zSA 57 50 301 := by unfold zSA; decide +kernel
abbrev zy_X0_solve : zM := (yX0_solve, cX0_solve, 3, some .int)
theorem mi_X0_solve : zMI zy_X0_solve 0 1 := ⟨⟨RX0, TX0, 42, rfl, rfl, q1517, q1518, q157, zcw_in (by decide +kernel) q1519⟩, ⟨by decide +kernel, by decide +kernel, by decide +kernel⟩, Nat.le_of_ble_eq_true rfl, by decide⟩
theorem ml_X0_371 : zML RX0 371 zy_X0_beginMain := Or.inl q1521
theorem fl_X0_374_0 : zFL RX0 374 0 29 := ⟨RX0, TX0, 42, "ClauseCourt", rfl, by decide, Or.inl q472, Or.inl rfl, in_X0⟩
theorem fl_X0_377_1 : zFL RX0 377 1 28 := ⟨RX1, TX1, 58, "ClauseCourt$Engine", rfl, by decide, Or.inr ⟨"ClauseCourt", q249⟩, Or.inl rfl, in_X1⟩
theorem fl_X0_378_1 : zFL RX0 378 1 27 := ⟨RX1, TX1, 58, "ClauseCourt$Engine", rfl, by decide, Or.inr ⟨"ClauseCourt", q247⟩, Or.inl rfl, in_X1⟩
theorem fm_25_27 : ((25, ((27 : Nat) : Int), 46) : Int × Int × Int) ∈ zFin := by decide +kernel
theorem ml_X0_379 : zML RX0 379 zy_X0_searched := Or.inl q1552
theorem fl_X0_382_0 : zFL RX0 382 0 28 := ⟨RX0, TX0, 42, "ClauseCourt", rfl, by decide, Or.inl q471, Or.inl rfl, in_X0⟩
theorem fl_X0_385_0 : zFL RX0 385 0 30 := ⟨RX0, TX0, 42, "ClauseCourt", rfl, by decide, Or.inl q473, Or.inl rfl, in_X0⟩
abbrev zy_X0_goOn : zM := (yX0_goOn, cX0_goOn, 3, some .int)
theorem mi_X0_goOn : zMI zy_X0_goOn 0 1 := ⟨⟨RX0, TX0, 42, rfl, rfl, q1702, q1703, q157, zcw_in (by decide +kernel) q1704⟩, ⟨by decide +kernel, by decide +kernel, by decide +kernel⟩, Nat.le_of_ble_eq_true rfl, by decide⟩
abbrev zy_X0_truth : zM := (yX0_truth, cX0_truth, 2, some .int)
theorem mi_X0_truth : zMI zy_X0_truth 0 1 := ⟨⟨RX0, TX0, 42, rfl, rfl, q1706, q1707, q157, zcw_in (by decide +kernel) q1708⟩, ⟨by decide +kernel, by decide +kernel, by decide +kernel⟩, Nat.le_of_ble_eq_true rfl, by decide⟩
abbrev zy_X0_solved : zM := (yX0_solved, cX0_solved, 2, some .int)
theorem mi_X0_solved : zMI zy_X0_solved 0 1 := ⟨⟨RX0, TX0, 42, rfl, rfl, q1710, q1711, q157, zcw_in (by decide +kernel) q1712⟩, ⟨by decide +kernel, by decide +kernel, by decide +kernel⟩, Nat.le_of_ble_eq_true rfl, by decide⟩
theorem fl_X0_388_1 : zFL RX0 388 1 29 := ⟨RX1, TX1, 58, "ClauseCourt$Engine", rfl, by decide, Or.inr ⟨"ClauseCourt", q251⟩, Or.inl rfl, in_X1⟩
theorem fl_X0_391_1 : zFL RX0 391 1 30 := ⟨RX1, TX1, 58, "ClauseCourt$Engine", rfl, by decide, Or.inr ⟨"ClauseCourt", q253⟩, Or.inl rfl, in_X1⟩
theorem fl_X0_394_1 : zFL RX0 394 1 32 := ⟨RX1, TX1, 58, "ClauseCourt$Engine", rfl, by decide, Or.inr ⟨"ClauseCourt", q257⟩, Or.inl rfl, in_X1⟩
theorem fl_X0_397_1 : zFL RX0 397 1 33 := ⟨RX1, TX1, 58, "ClauseCourt$Engine", rfl, by decide, Or.inr ⟨"ClauseCourt", q259⟩, Or.inl rfl, in_X1⟩
theorem fl_X0_400_1 : zFL RX0 400 1 34 := ⟨RX1, TX1, 58, "ClauseCourt$Engine", rfl, by decide, Or.inr ⟨"ClauseCourt", q261⟩, Or.inl rfl, in_X1⟩
theorem fl_X0_403_1 : zFL RX0 403 1 35 := ⟨RX1, TX1, 58, "ClauseCourt$Engine", rfl, by decide, Or.inr ⟨"ClauseCourt", q263⟩, Or.inl rfl, in_X1⟩
theorem fl_X0_406_1 : zFL RX0 406 1 36 := ⟨RX1, TX1, 58, "ClauseCourt$Engine", rfl, by decide, Or.inr ⟨"ClauseCourt", q265⟩, Or.inl rfl, in_X1⟩
theorem fl_X0_409_1 : zFL RX0 409 1 37 := ⟨RX1, TX1, 58, "ClauseCourt$Engine", rfl, by decide, Or.inr ⟨"ClauseCourt", q267⟩, Or.inl rfl, in_X1⟩
theorem fl_X0_412_1 : zFL RX0 412 1 25 := ⟨RX1, TX1, 58, "ClauseCourt$Engine", rfl, by decide, Or.inr ⟨"ClauseCourt", q244⟩, Or.inl rfl, in_X1⟩
theorem fl_X0_415_1 : zFL RX0 415 1 38 := ⟨RX1, TX1, 58, "ClauseCourt$Engine", rfl, by decide, Or.inr ⟨"ClauseCourt", q269⟩, Or.inl rfl, in_X1⟩
abbrev zy_X0_quarrel : zM := (yX0_quarrel, cX0_quarrel, 2, some .int)
theorem mi_X0_quarrel : zMI zy_X0_quarrel 0 1 := ⟨⟨RX0, TX0, 42, rfl, rfl, q1714, q1715, q157, zcw_in (by decide +kernel) q1716⟩, ⟨by decide +kernel, by decide +kernel, by decide +kernel⟩, Nat.le_of_ble_eq_true rfl, by decide⟩
theorem fl_X0_418_1 : zFL RX0 418 1 42 := ⟨RX1, TX1, 58, "ClauseCourt$Engine", rfl, by decide, Or.inr ⟨"ClauseCourt", q275⟩, Or.inl rfl, in_X1⟩
theorem fl_X0_421_1 : zFL RX0 421 1 41 := ⟨RX1, TX1, 58, "ClauseCourt$Engine", rfl, by decide, Or.inr ⟨"ClauseCourt", q273⟩, Or.inl rfl, in_X1⟩
theorem fm_25_41 : ((25, ((41 : Nat) : Int), 47) : Int × Int × Int) ∈ zFin := by decide +kernel
theorem sa_47 : zSA 47 50 5 := by unfold zSA; decide +kernel
abbrev zy_X0_at : zM := (yX0_at, cX0_at, 4, some .int)
theorem mi_X0_at : zMS zy_X0_at 4 := ⟨by decide +kernel, ⟨q1722, q157, zcw_in (by decide +kernel) q1723⟩, ⟨by decide +kernel, by decide +kernel, by decide +kernel⟩, Nat.le_of_ble_eq_true rfl⟩
abbrev zy_X0_line : zM := (yX0_line, cX0_line, 4, some .int)
theorem mi_X0_line : zMI zy_X0_line 0 2 := ⟨⟨RX0, TX0, 42, rfl, rfl, q1718, q1719, q157, zcw_in (by decide +kernel) q1720⟩, ⟨by decide +kernel, by decide +kernel, by decide +kernel⟩, Nat.le_of_ble_eq_true rfl, by decide⟩
theorem fl_X0_428_0 : zFL RX0 428 0 33 := ⟨RX0, TX0, 42, "ClauseCourt", rfl, by decide, Or.inl q476, Or.inl rfl, in_X0⟩
theorem fl_X0_433_1 : zFL RX0 433 1 6 := ⟨RX1, TX1, 58, "ClauseCourt$Engine", rfl, by decide, Or.inr ⟨"ClauseCourt", q216⟩, Or.inl rfl, in_X1⟩
theorem fm_25_6 : ((25, ((6 : Nat) : Int), 32) : Int × Int × Int) ∈ zFin := by decide +kernel
theorem fl_X0_436_1 : zFL RX0 436 1 0 := ⟨RX1, TX1, 58, "ClauseCourt$Engine", rfl, by decide, Or.inr ⟨"ClauseCourt", q208⟩, Or.inl rfl, in_X1⟩
theorem fm_25_0 : ((25, ((0 : Nat) : Int), 26) : Int × Int × Int) ∈ zFin := by decide +kernel
theorem sa_26 : zSA 26 50 1364 := by unfold zSA; decide +kernel
theorem fl_X0_439_1 : zFL RX0 439 1 1 := ⟨RX1, TX1, 58, "ClauseCourt$Engine", rfl, by decide, Or.inr ⟨"ClauseCourt", q210⟩, Or.inl rfl, in_X1⟩
theorem fm_25_1 : ((25, ((1 : Nat) : Int), 27) : Int × Int × Int) ∈ zFin := by decide +kernel
theorem sa_27 : zSA 27 50 1364 := by unfold zSA; decide +kernel
theorem ml_X0_424 : zML RX0 424 zy_X0_at := Or.inl q1721
theorem fl_X0_71_0 : zFL RX0 71 0 31 := ⟨RX0, TX0, 42, "ClauseCourt", rfl, by decide, Or.inl q474, Or.inl rfl, in_X0⟩
theorem fm_14_31 : ((14, ((31 : Nat) : Int), 94) : Int × Int × Int) ∈ zFin := by decide +kernel
theorem fl_X0_74_0 : zFL RX0 74 0 32 := ⟨RX0, TX0, 42, "ClauseCourt", rfl, by decide, Or.inl q475, Or.inl rfl, in_X0⟩
theorem fm_14_32 : ((14, ((32 : Nat) : Int), 95) : Int × Int × Int) ∈ zFin := by decide +kernel
theorem sa_95 : zSA 95 50 65 := by unfold zSA; decide +kernel
abbrev zy_X0_hasCore : zM := (yX0_hasCore, cX0_hasCore, 1, some .boolean)
theorem mi_X0_hasCore : zMI zy_X0_hasCore 0 0 := ⟨⟨RX0, TX0, 42, rfl, rfl, q1731, qs68, q157, zcw_in (by decide +kernel) q1732⟩, ⟨by decide +kernel, by decide +kernel, by decide +kernel⟩, Nat.le_of_ble_eq_true rfl, by decide⟩
abbrev zy_X0_inCore : zM := (yX0_inCore, cX0_inCore, 2, some .boolean)
theorem mi_X0_inCore : zMI zy_X0_inCore 0 1 := ⟨⟨RX0, TX0, 42, rfl, rfl, q1739, qs70, q157, zcw_in (by decide +kernel) q1740⟩, ⟨by decide +kernel, by decide +kernel, by decide +kernel⟩, Nat.le_of_ble_eq_true rfl, by decide⟩
theorem fl_X0_442_1 : zFL RX0 442 1 43 := ⟨RX1, TX1, 58, "ClauseCourt$Engine", rfl, by decide, Or.inr ⟨"ClauseCourt", q277⟩, Or.inl rfl, in_X1⟩
theorem fm_25_43 : ((25, ((43 : Nat) : Int), 48) : Int × Int × Int) ∈ zFin := by decide +kernel
theorem sa_48 : zSA 48 53 8 := by unfold zSA; decide +kernel
abbrev zy_X0_coreRows : zM := (yX0_coreRows, cX0_coreRows, 3, some .int)
theorem mi_X0_coreRows : zMI zy_X0_coreRows 0 0 := ⟨⟨RX0, TX0, 42, rfl, rfl, q1735, qs69, q157, zcw_in (by decide +kernel) q1736⟩, ⟨by decide +kernel, by decide +kernel, by decide +kernel⟩, Nat.le_of_ble_eq_true rfl, by decide⟩
theorem ml_X0_445 : zML RX0 445 zy_X0_inCore := Or.inl q1737
abbrev zy_X0_core : zM := (yX0_core, cX0_core, 2, some .int)
theorem mi_X0_core : zMI zy_X0_core 0 1 := ⟨⟨RX0, TX0, 42, rfl, rfl, q1726, q1727, q157, zcw_in (by decide +kernel) q1728⟩, ⟨by decide +kernel, by decide +kernel, by decide +kernel⟩, Nat.le_of_ble_eq_true rfl, by decide⟩
theorem ml_X0_448 : zML RX0 448 zy_X0_hasCore := Or.inl q1729
theorem fl_X0_455_1 : zFL RX0 455 1 45 := ⟨RX1, TX1, 58, "ClauseCourt$Engine", rfl, by decide, Or.inr ⟨"ClauseCourt", q281⟩, Or.inl rfl, in_X1⟩
theorem ml_X0_452 : zML RX0 452 zy_X0_coreRows := Or.inl q1733
abbrev zy_X0_coreAt : zM := (yX0_coreAt, cX0_coreAt, 5, some .int)
theorem mi_X0_coreAt : zMI zy_X0_coreAt 0 2 := ⟨⟨RX0, TX0, 42, rfl, rfl, q1742, q1743, q157, zcw_in (by decide +kernel) q1744⟩, ⟨by decide +kernel, by decide +kernel, by decide +kernel⟩, Nat.le_of_ble_eq_true rfl, by decide⟩
theorem fl_X0_458_1 : zFL RX0 458 1 44 := ⟨RX1, TX1, 58, "ClauseCourt$Engine", rfl, by decide, Or.inr ⟨"ClauseCourt", q279⟩, Or.inl rfl, in_X1⟩
theorem fm_25_44 : ((25, ((44 : Nat) : Int), 49) : Int × Int × Int) ∈ zFin := by decide +kernel
theorem sa_49 : zSA 49 50 20 := by unfold zSA; decide +kernel
abbrev zy_X0_beginSide : zM := (yX0_beginSide, cX0_beginSide, 2, none)
theorem mi_X0_beginSide : zMI zy_X0_beginSide 0 0 := ⟨⟨RX0, TX0, 42, rfl, rfl, q1751, qs71, q157, zcw_in (by decide +kernel) q1752⟩, ⟨by decide +kernel, by decide +kernel, by decide +kernel⟩, Nat.le_of_ble_eq_true rfl, by decide⟩
theorem fl_X0_77_0 : zFL RX0 77 0 34 := ⟨RX0, TX0, 42, "ClauseCourt", rfl, by decide, Or.inl q477, Or.inl rfl, in_X0⟩
theorem fm_14_34 : ((14, ((34 : Nat) : Int), 96) : Int × Int × Int) ∈ zFin := by decide +kernel
theorem sa_96 : zSA 96 52 500 := by unfold zSA; decide +kernel
abbrev zy_X0_tried : zM := (yX0_tried, cX0_tried, 4, some .int)
theorem mi_X0_tried : zMI zy_X0_tried 0 2 := ⟨⟨RX0, TX0, 42, rfl, rfl, q1755, qs72, q157, zcw_in (by decide +kernel) q1756⟩, ⟨by decide +kernel, by decide +kernel, by decide +kernel⟩, Nat.le_of_ble_eq_true rfl, by decide⟩
theorem fl_X0_58_0 : zFL RX0 58 0 22 := ⟨RX0, TX0, 42, "ClauseCourt", rfl, by decide, Or.inl q463, Or.inl rfl, in_X0⟩
theorem fm_14_22 : ((14, ((22 : Nat) : Int), 58) : Int × Int × Int) ∈ zFin := by decide +kernel
theorem sa_58 : zSA 58 1 0 := by unfold zSA; decide +kernel
theorem fm_58_27 : ((58, ((27 : Nat) : Int), 79) : Int × Int × Int) ∈ zFin := by decide +kernel
theorem sa_79 : zSA 79 50 20 := by unfold zSA; decide +kernel
abbrev zy_X0_shrink : zM := (yX0_shrink, cX0_shrink, 5, some .int)
theorem mi_X0_shrink : zMI zy_X0_shrink 0 1 := ⟨⟨RX0, TX0, 42, rfl, rfl, q1746, q1747, q157, zcw_in (by decide +kernel) q1748⟩, ⟨by decide +kernel, by decide +kernel, by decide +kernel⟩, Nat.le_of_ble_eq_true rfl, by decide⟩
theorem ml_X0_461 : zML RX0 461 zy_X0_beginSide := Or.inl q1749
theorem ml_X0_464 : zML RX0 464 zy_X0_tried := Or.inl q1753
theorem fl_X0_467_1 : zFL RX0 467 1 31 := ⟨RX1, TX1, 58, "ClauseCourt$Engine", rfl, by decide, Or.inr ⟨"ClauseCourt", q255⟩, Or.inl rfl, in_X1⟩
abbrev zy_J14_bitCount : zM := (yJ14_bitCount, cJ14_bitCount, 1, some .int)
theorem mi_J14_bitCount : zMS zy_J14_bitCount 1 := ⟨by decide +kernel, ⟨q1764, q186, zcw_in (by decide +kernel) q1765⟩, ⟨by decide +kernel, by decide +kernel, by decide +kernel⟩, Nat.le_of_ble_eq_true rfl⟩
abbrev zy_X0_least : zM := (yX0_least, cX0_least, 9, some .int)
theorem mi_X0_least : zMI zy_X0_least 0 1 := ⟨⟨RX0, TX0, 42, rfl, rfl, q1759, q1760, q157, zcw_in (by decide +kernel) q1761⟩, ⟨by decide +kernel, by decide +kernel, by decide +kernel⟩, Nat.le_of_ble_eq_true rfl, by decide⟩
theorem ml_X0_472 : zML RX0 472 zy_X0_coreAt := Or.inl q1762
theorem ml_X0_475 : zML RX0 475 zy_J14_bitCount := Or.inl q1763
abbrev zy_X0_take : zM := (yX0_take, cX0_take, 3, some .int)
theorem mi_X0_take : zMI zy_X0_take 0 0 := ⟨⟨RX0, TX0, 42, rfl, rfl, q1770, q1771, q157, zcw_in (by decide +kernel) q1772⟩, ⟨by decide +kernel, by decide +kernel, by decide +kernel⟩, Nat.le_of_ble_eq_true rfl, by decide⟩
theorem fl_X0_480_0 : zFL RX0 480 0 37 := ⟨RX0, TX0, 42, "ClauseCourt", rfl, by decide, Or.inl q480, Or.inl rfl, in_X0⟩
theorem fl_X0_81_0 : zFL RX0 81 0 35 := ⟨RX0, TX0, 42, "ClauseCourt", rfl, by decide, Or.inl q478, Or.inl rfl, in_X0⟩
theorem fm_14_35 : ((14, ((35 : Nat) : Int), 97) : Int × Int × Int) ∈ zFin := by decide +kernel
theorem fl_X0_84_0 : zFL RX0 84 0 36 := ⟨RX0, TX0, 42, "ClauseCourt", rfl, by decide, Or.inl q479, Or.inl rfl, in_X0⟩
theorem fm_14_36 : ((14, ((36 : Nat) : Int), 98) : Int × Int × Int) ∈ zFin := by decide +kernel
theorem sa_98 : zSA 98 50 801 := by unfold zSA; decide +kernel
abbrev zy_X0_claim : zM := (yX0_claim, cX0_claim, 7, some .int)
theorem mi_X0_claim : zMI zy_X0_claim 0 1 := ⟨⟨RX0, TX0, 42, rfl, rfl, q1774, q1775, q157, zcw_inW (hh := [(15, 100, 166, 138), (101, 165, 166, 138), (15, 100, 175, 140), (101, 165, 175, 140)]) (by decide +kernel) (by decide) q1776⟩, ⟨by decide +kernel, by decide +kernel, by decide +kernel⟩, Nat.le_of_ble_eq_true rfl, by decide⟩
abbrev zy_X0_strike : zM := (yX0_strike, cX0_strike, 4, some .int)
theorem mi_X0_strike : zMI zy_X0_strike 0 1 := ⟨⟨RX0, TX0, 42, rfl, rfl, q1778, q1779, q157, zcw_in (by decide +kernel) q1780⟩, ⟨by decide +kernel, by decide +kernel, by decide +kernel⟩, Nat.le_of_ble_eq_true rfl, by decide⟩
abbrev zy_X0_proof : zM := (yX0_proof, cX0_proof, 3, some .int)
theorem mi_X0_proof : zMI zy_X0_proof 0 2 := ⟨⟨RX0, TX0, 42, rfl, rfl, q1782, q1783, q157, zcw_in (by decide +kernel) q1784⟩, ⟨by decide +kernel, by decide +kernel, by decide +kernel⟩, Nat.le_of_ble_eq_true rfl, by decide⟩
abbrev zy_X0_follows : zM := (yX0_follows, cX0_follows, 5, some .boolean)
theorem mi_X0_follows : zMI zy_X0_follows 0 1 := ⟨⟨RX0, TX0, 42, rfl, rfl, q1791, qs73, q157, zcw_inW (hh := [(30, 116, 126, 0), (126, 128, 126, 0)]) (by decide +kernel) (by decide) q1792⟩, ⟨by decide +kernel, by decide +kernel, by decide +kernel⟩, Nat.le_of_ble_eq_true rfl, by decide⟩
theorem fl_X0_483_1 : zFL RX0 483 1 21 := ⟨RX1, TX1, 58, "ClauseCourt$Engine", rfl, by decide, Or.inr ⟨"ClauseCourt", q239⟩, Or.inl rfl, in_X1⟩
theorem fl_X0_486_1 : zFL RX0 486 1 19 := ⟨RX1, TX1, 58, "ClauseCourt$Engine", rfl, by decide, Or.inr ⟨"ClauseCourt", q235⟩, Or.inl rfl, in_X1⟩
theorem fm_58_19 : ((58, ((19 : Nat) : Int), 76) : Int × Int × Int) ∈ zFin := by decide +kernel
theorem sa_76 : zSA 76 50 322 := by unfold zSA; decide +kernel
theorem sa_97 : zSA 97 50 8000 := by unfold zSA; decide +kernel
theorem ml_X0_490 : zML RX0 490 zy_X1_isTrue := Or.inr ⟨by decide +kernel, "ClauseCourt", q1794⟩
theorem ml_X0_493 : zML RX0 493 zy_X1_set := Or.inr ⟨by decide +kernel, "ClauseCourt", q1795⟩
theorem ml_X0_499 : zML RX0 499 zy_X1_back := Or.inl q1797
theorem ml_X0_496 : zML RX0 496 zy_X1_force := Or.inl q1796
abbrev zy_X0_isLastGood : zM := (yX0_isLastGood, cX0_isLastGood, 5, some .boolean)
theorem mi_X0_isLastGood : zMI zy_X0_isLastGood 0 0 := ⟨⟨RX0, TX0, 42, rfl, rfl, q1801, qs74, q157, zcw_in (by decide +kernel) q1802⟩, ⟨by decide +kernel, by decide +kernel, by decide +kernel⟩, Nat.le_of_ble_eq_true rfl, by decide⟩
abbrev zy_X0_check : zM := (yX0_check, cX0_check, 2, some .int)
theorem mi_X0_check : zMI zy_X0_check 0 0 := ⟨⟨RX0, TX0, 42, rfl, rfl, q1786, q1787, q157, zcw_in (by decide +kernel) q1788⟩, ⟨by decide +kernel, by decide +kernel, by decide +kernel⟩, Nat.le_of_ble_eq_true rfl, by decide⟩
theorem fl_X0_87_0 : zFL RX0 87 0 38 := ⟨RX0, TX0, 42, "ClauseCourt", rfl, by decide, Or.inl q481, Or.inl rfl, in_X0⟩
theorem ml_X0_502 : zML RX0 502 zy_X0_follows := Or.inl q1789
theorem ml_X0_505 : zML RX0 505 zy_X1_lay := Or.inl q1798
theorem ml_X0_508 : zML RX0 508 zy_X0_isLastGood := Or.inl q1799
abbrev zy_X0_refusedAt : zM := (yX0_refusedAt, cX0_refusedAt, 1, some .int)
theorem mi_X0_refusedAt : zMI zy_X0_refusedAt 0 0 := ⟨⟨RX0, TX0, 42, rfl, rfl, q1804, q1805, q157, zcw_in (by decide +kernel) q1806⟩, ⟨by decide +kernel, by decide +kernel, by decide +kernel⟩, Nat.le_of_ble_eq_true rfl, by decide⟩
abbrev zy_X0_countedNames : zM := (yX0_countedNames, cX0_countedNames, 3, some .int)
theorem mi_X0_countedNames : zMI zy_X0_countedNames 0 0 := ⟨⟨RX0, TX0, 42, rfl, rfl, q1813, qs75, q157, zcw_in (by decide +kernel) q1814⟩, ⟨by decide +kernel, by decide +kernel, by decide +kernel⟩, Nat.le_of_ble_eq_true rfl, by decide⟩
theorem fl_X0_511_4 : zFL RX0 511 4 2 := ⟨RX4, TX4, 3, "ClauseCourt$Name", rfl, by decide, Or.inr ⟨"ClauseCourt", q595⟩, Or.inl rfl, in_X4⟩
abbrev zy_X0_counted : zM := (yX0_counted, cX0_counted, 4, some .int)
theorem mi_X0_counted : zMI zy_X0_counted 0 2 := ⟨⟨RX0, TX0, 42, rfl, rfl, q1808, q1809, q157, zcw_in (by decide +kernel) q1810⟩, ⟨by decide +kernel, by decide +kernel, by decide +kernel⟩, Nat.le_of_ble_eq_true rfl, by decide⟩
theorem ml_X0_514 : zML RX0 514 zy_X0_countedNames := Or.inl q1811
abbrev zy_X0_barBy : zM := (yX0_barBy, cX0_barBy, 6, some .int)
theorem mi_X0_barBy : zMI zy_X0_barBy 0 3 := ⟨⟨RX0, TX0, 42, rfl, rfl, q1821, qs76, q157, zcw_in (by decide +kernel) q1822⟩, ⟨by decide +kernel, by decide +kernel, by decide +kernel⟩, Nat.le_of_ble_eq_true rfl, by decide⟩
abbrev zy_X0_next : zM := (yX0_next, cX0_next, 3, some .int)
theorem mi_X0_next : zMI zy_X0_next 0 1 := ⟨⟨RX0, TX0, 42, rfl, rfl, q1816, q1817, q157, zcw_in (by decide +kernel) q1818⟩, ⟨by decide +kernel, by decide +kernel, by decide +kernel⟩, Nat.le_of_ble_eq_true rfl, by decide⟩
theorem ml_X0_517 : zML RX0 517 zy_X0_barBy := Or.inl q1819
abbrev zy_X0_unbar : zM := (yX0_unbar, cX0_unbar, 2, some .int)
theorem mi_X0_unbar : zMI zy_X0_unbar 0 0 := ⟨⟨RX0, TX0, 42, rfl, rfl, q1824, q1825, q157, zcw_in (by decide +kernel) q1826⟩, ⟨by decide +kernel, by decide +kernel, by decide +kernel⟩, Nat.le_of_ble_eq_true rfl, by decide⟩
abbrev zy_X0_count : zM := (yX0_count, cX0_count, 6, some .int)
theorem mi_X0_count : zMI zy_X0_count 0 2 := ⟨⟨RX0, TX0, 42, rfl, rfl, q1828, q1829, q157, zcw_in (by decide +kernel) q1830⟩, ⟨by decide +kernel, by decide +kernel, by decide +kernel⟩, Nat.le_of_ble_eq_true rfl, by decide⟩
theorem fl_X0_91_0 : zFL RX0 91 0 39 := ⟨RX0, TX0, 42, "ClauseCourt", rfl, by decide, Or.inl q482, Or.inl rfl, in_X0⟩
theorem fm_14_39 : ((14, ((39 : Nat) : Int), 99) : Int × Int × Int) ∈ zFin := by decide +kernel
theorem fl_X0_94_0 : zFL RX0 94 0 40 := ⟨RX0, TX0, 42, "ClauseCourt", rfl, by decide, Or.inl q483, Or.inl rfl, in_X0⟩
theorem fm_14_40 : ((14, ((40 : Nat) : Int), 100) : Int × Int × Int) ∈ zFin := by decide +kernel
theorem sa_100 : zSA 100 50 65 := by unfold zSA; decide +kernel
abbrev zy_X0_forcing : zM := (yX0_forcing, cX0_forcing, 1, some .int)
theorem mi_X0_forcing : zMI zy_X0_forcing 0 0 := ⟨⟨RX0, TX0, 42, rfl, rfl, q1838, qs77, q157, zcw_in (by decide +kernel) q1839⟩, ⟨by decide +kernel, by decide +kernel, by decide +kernel⟩, Nat.le_of_ble_eq_true rfl, by decide⟩
abbrev zy_X0_forced : zM := (yX0_forced, cX0_forced, 1, some .int)
theorem mi_X0_forced : zMI zy_X0_forced 0 0 := ⟨⟨RX0, TX0, 42, rfl, rfl, q1833, q1834, q157, zcw_in (by decide +kernel) q1835⟩, ⟨by decide +kernel, by decide +kernel, by decide +kernel⟩, Nat.le_of_ble_eq_true rfl, by decide⟩
theorem ml_X0_523 : zML RX0 523 zy_X0_forcing := Or.inl q1836
theorem fl_X0_526_1 : zFL RX0 526 1 20 := ⟨RX1, TX1, 58, "ClauseCourt$Engine", rfl, by decide, Or.inr ⟨"ClauseCourt", q237⟩, Or.inl rfl, in_X1⟩
abbrev zy_X0_forcedAt : zM := (yX0_forcedAt, cX0_forcedAt, 2, some .int)
theorem mi_X0_forcedAt : zMI zy_X0_forcedAt 0 1 := ⟨⟨RX0, TX0, 42, rfl, rfl, q1841, q1842, q157, zcw_in (by decide +kernel) q1843⟩, ⟨by decide +kernel, by decide +kernel, by decide +kernel⟩, Nat.le_of_ble_eq_true rfl, by decide⟩
theorem fl_X0_529_1 : zFL RX0 529 1 18 := ⟨RX1, TX1, 58, "ClauseCourt$Engine", rfl, by decide, Or.inr ⟨"ClauseCourt", q233⟩, Or.inl rfl, in_X1⟩
theorem fm_58_18 : ((58, ((18 : Nat) : Int), 75) : Int × Int × Int) ∈ zFin := by decide +kernel
theorem sa_75 : zSA 75 50 300 := by unfold zSA; decide +kernel
abbrev zy_X0_why : zM := (yX0_why, cX0_why, 2, some .int)
theorem mi_X0_why : zMI zy_X0_why 0 1 := ⟨⟨RX0, TX0, 42, rfl, rfl, q1845, q1846, q157, zcw_in (by decide +kernel) q1847⟩, ⟨by decide +kernel, by decide +kernel, by decide +kernel⟩, Nat.le_of_ble_eq_true rfl, by decide⟩
theorem fl_X0_532_1 : zFL RX0 532 1 12 := ⟨RX1, TX1, 58, "ClauseCourt$Engine", rfl, by decide, Or.inr ⟨"ClauseCourt", q224⟩, Or.inl rfl, in_X1⟩
theorem fm_58_12 : ((58, ((12 : Nat) : Int), 69) : Int × Int × Int) ∈ zFin := by decide +kernel
theorem sa_69 : zSA 69 50 301 := by unfold zSA; decide +kernel
theorem fl_X0_535_1 : zFL RX0 535 1 14 := ⟨RX1, TX1, 58, "ClauseCourt$Engine", rfl, by decide, Or.inr ⟨"ClauseCourt", q227⟩, Or.inl rfl, in_X1⟩
theorem fm_58_14 : ((58, ((14 : Nat) : Int), 71) : Int × Int × Int) ∈ zFin := by decide +kernel
theorem sa_71 : zSA 71 50 301 := by unfold zSA; decide +kernel
abbrev zy_X0_sum : zM := (yX0_sum, cX0_sum, 2, none)
theorem mi_X0_sum : zMI zy_X0_sum 0 1 := ⟨⟨RX0, TX0, 42, rfl, rfl, q1855, qs78, q157, zcw_in (by decide +kernel) q1856⟩, ⟨by decide +kernel, by decide +kernel, by decide +kernel⟩, Nat.le_of_ble_eq_true rfl, by decide⟩
theorem fl_X0_540_0 : zFL RX0 540 0 41 := ⟨RX0, TX0, 42, "ClauseCourt", rfl, by decide, Or.inl q484, Or.inl rfl, in_X0⟩
abbrev zy_X0_digest : zM := (yX0_digest, cX0_digest, 6, some .long)
theorem mi_X0_digest : zMI zy_X0_digest 0 0 := ⟨⟨RX0, TX0, 42, rfl, rfl, q1849, q1850, q157, zcw_in (by decide +kernel) q1851⟩, ⟨by decide +kernel, by decide +kernel, by decide +kernel⟩, Nat.le_of_ble_eq_true rfl, by decide⟩
theorem ml_X0_546 : zML RX0 546 zy_X0_sum := Or.inl q1853
abbrev zy_X0_status : zM := (yX0_status, cX0_status, 1, some .int)
theorem mi_X0_status : zMI zy_X0_status 0 0 := ⟨⟨RX0, TX0, 42, rfl, rfl, q1859, q1860, q157, zcw_in (by decide +kernel) q1861⟩, ⟨by decide +kernel, by decide +kernel, by decide +kernel⟩, Nat.le_of_ble_eq_true rfl, by decide⟩
abbrev zy_X0_about : zM := (yX0_about, cX0_about, 2, some .int)
theorem mi_X0_about : zMI zy_X0_about 0 1 := ⟨⟨RX0, TX0, 42, rfl, rfl, q1863, q1864, q157, zcw_in (by decide +kernel) q1865⟩, ⟨by decide +kernel, by decide +kernel, by decide +kernel⟩, Nat.le_of_ble_eq_true rfl, by decide⟩
def P_N_init (a0 : Int) (a1 : Int) (h : zH) (Q : Int → zH → Prop) : Prop :=
(zt h a0 = 4) ∧
(zt h a0 = 4) ∧
∀ h1 : zH, h1 = zw h a0 0 a1 →
Q 0 h1
theorem W_N_init (a0 : Int) (a1 : Int) (h : zH) (Q : Int → zH → Prop) (hP : P_N_init a0 a1 h Q) : zC true zy_X4_init 2 [zR a0, zI a1] h (zQ0 Q) := by
  unfold P_N_init at hP
  refine zC.of (by decide) (Nat.le_of_ble_eq_true rfl) ?_
  show zV true zy_X4_init 2 0 [zR a0, zI a1] [] h (zQ0 Q)
  refine zV_aload_n dX4_init_0 rfl ?_
  obtain ⟨ob, hP⟩ := hP
  refine zV_oiD dX4_init_1 ob ⟨by decide, by decide⟩ q590 q193 q194 (by decide) (Nat.le_of_ble_eq_true rfl) ?_
  refine zV_aload_n dX4_init_4 rfl ?_
  refine zV_iload_n dX4_init_5 rfl ?_
  obtain ⟨obt, hP⟩ := hP
  refine zV_pD dX4_init_6 obt (by decide) fl_X4_7_4 (Or.inr (by decide)) (Or.inr ⟨rfl, rfl, rfl⟩) rfl trivial (ki := 0) rfl (fun h1 e_h1 => ?_)
  have hP := hP h1 e_h1
  exact zV_return dX4_init_9 rfl ⟨rfl, hP⟩
def P_T_isTrue_J18 (s0 : Int) (s1 : Int) (h : zH) (Q : Int → zH → Prop) : Prop :=
Q (if s1 = s0 then 1 else 0) h
theorem W_T_isTrue_J18 (s0 : Int) (s1 : Int) (h : zH) (Q : Int → zH → Prop) (hP : P_T_isTrue_J18 s0 s1 h Q) : zV true zy_X2_isTrue 2 18 [zU, zU] [zI s0, zI s1] h (zQ0 Q) := by
  unfold P_T_isTrue_J18 at hP
  have K : zV true zy_X2_isTrue 2 26 [zU, zU] [zI (if s1 = s0 then 1 else 0)] h (zQ0 Q) := by
    exact zV_ireturn dX2_isTrue_26 rfl rfl (z01 (z01_if z1 z0)) ⟨rfl, hP⟩
  clear hP
  refine zV_icmp_ne (tgt := 25) dX2_isTrue_18 (by decide) (fun c => ?_) (fun c => ?_)
  · try simp only [if_neg c] at K
    refine zV_iconst dX2_isTrue_25 ⟨by decide, by decide⟩ ?_
    refine zV_mask [false, false] rfl ?_
    exact K
  · try simp only [if_pos c] at K
    refine zV_iconst dX2_isTrue_21 ⟨by decide, by decide⟩ ?_
    refine zV_goto (tgt := 26) dX2_isTrue_22 (by decide) ?_
    refine zV_mask [false, false] rfl ?_
    exact K
def P_T_isTrue (a1 : Int) (h : zH) (Q : Int → zH → Prop) : Prop :=
(0 ≤ zabs a1 ∧ zabs a1 < 301) ∧
P_T_isTrue_J18 (if a1 ≤ 0 then 0 else 1) (zd h 92 (zabs a1)) h Q
theorem W_T_isTrue (a1 : Int) (h : zH) (Q : Int → zH → Prop) (hP : P_T_isTrue a1 h Q) : zC true zy_X2_isTrue 2 [zR 91, zI a1] h (zQ0 Q) := by
  unfold P_T_isTrue at hP
  refine zC.of (by decide) (Nat.le_of_ble_eq_true rfl) ?_
  show zV true zy_X2_isTrue 2 0 [zR 91, zI a1] [] h (zQ0 Q)
  refine zV_aload_n dX2_isTrue_0 rfl ?_
  refine zV_sg dX2_isTrue_1 fm_91_0 sa_91 (by decide) fl_X2_9_2 rfl ?_
  refine zV_iload_n dX2_isTrue_4 rfl ?_
  refine zV_mabs dX2_isTrue_5 q1217 q806 q171 q807 (Nat.le_of_ble_eq_true rfl) (by decide) ?_
  obtain ⟨ob, hP⟩ := hP
  refine zV_ba dX2_isTrue_8 sa_92 ob ?_
  refine zV_iload_n dX2_isTrue_9 rfl ?_
  have K : zV true zy_X2_isTrue 2 18 [zU, zU] [zI (if a1 ≤ 0 then 0 else 1), zI (zd h 92 (zabs a1))] h (zQ0 Q) := by
    exact W_T_isTrue_J18 _ _ _ _ hP
  clear hP
  refine zV_if_le (tgt := 17) dX2_isTrue_10 (by decide) (fun c => ?_) (fun c => ?_)
  · try simp only [if_pos c] at K
    refine zV_iconst dX2_isTrue_17 ⟨by decide, by decide⟩ ?_
    refine zV_mask [false, false] rfl ?_
    exact K
  · try simp only [if_neg c] at K
    refine zV_iconst dX2_isTrue_13 ⟨by decide, by decide⟩ ?_
    refine zV_goto (tgt := 18) dX2_isTrue_14 (by decide) ?_
    refine zV_mask [false, false] rfl ?_
    exact K
def P_Ru_init (a0 : Int) (a2 : Int) (a3 : Int) (h : zH) (Q : Int → zH → Prop) : Prop :=
(zt h a0 = 5 ∨ zt h a0 = 6 ∨ zt h a0 = 7 ∨ zt h a0 = 8 ∨ zt h a0 = 12) ∧
∀ h1 : zH, h1 = zw h a0 4 14 →
(zt h1 a0 = 5 ∨ zt h1 a0 = 6 ∨ zt h1 a0 = 7 ∨ zt h1 a0 = 8 ∨ zt h1 a0 = 12) ∧
(zt h1 a0 = 5 ∨ zt h1 a0 = 6 ∨ zt h1 a0 = 7 ∨ zt h1 a0 = 8 ∨ zt h1 a0 = 12) ∧
∀ h2 : zH, h2 = zw h1 a0 0 a2 →
(zt h2 a0 = 5 ∨ zt h2 a0 = 6 ∨ zt h2 a0 = 7 ∨ zt h2 a0 = 8 ∨ zt h2 a0 = 12) ∧
∀ h3 : zH, h3 = zw h2 a0 1 a3 →
Q 0 h3
theorem W_Ru_init (a0 : Int) (a2 : Int) (a3 : Int) (h : zH) (Q : Int → zH → Prop) (hP : P_Ru_init a0 a2 a3 h Q) : zC true zy_X5_init 2 [zR a0, zR 14, zI a2, zR a3] h (zQ0 Q) := by
  unfold P_Ru_init at hP
  refine zC.of (by decide) (Nat.le_of_ble_eq_true rfl) ?_
  show zV true zy_X5_init 2 0 [zR a0, zR 14, zI a2, zR a3] [] h (zQ0 Q)
  refine zV_aload_n dX5_init_0 rfl ?_
  refine zV_aload_n dX5_init_1 rfl ?_
  obtain ⟨ob, hP⟩ := hP
  refine zV_pM (κ := 2) [5, 6, 7, 8, 12] dX5_init_2 (by rcases ob with o | o | o | o | o <;> exact ⟨_, by decide, o⟩) ?_ (ki := 4) rfl (fun h1 e_h1 => ?_)
  · intro t ht
    simp only [List.mem_cons, List.not_mem_nil, or_false] at ht
    rcases ht with rfl | rfl | rfl | rfl | rfl
    · exact ⟨by decide, by decide, fl_X5_3_5, rfl, Or.inr ⟨rfl, rfl⟩, trivial⟩
    · exact ⟨by decide, by decide, fl_X5_3_6, rfl, Or.inr ⟨rfl, rfl⟩, trivial⟩
    · exact ⟨by decide, by decide, fl_X5_3_7, rfl, Or.inr ⟨rfl, rfl⟩, trivial⟩
    · exact ⟨by decide, by decide, fl_X5_3_8, rfl, Or.inr ⟨rfl, rfl⟩, trivial⟩
    · exact ⟨by decide, by decide, fl_X5_3_12, rfl, Or.inr ⟨rfl, rfl⟩, trivial⟩
  have hP := hP h1 e_h1
  refine zV_aload_n dX5_init_5 rfl ?_
  obtain ⟨ob, hP⟩ := hP
  refine zV_oiM [5, 6, 7, 8, 12] (by decide) dX5_init_6 (by rcases ob with o | o | o | o | o <;> exact ⟨_, by decide, o⟩) q816 q193 q194 (by decide) (Nat.le_of_ble_eq_true rfl) ?_
  refine zV_aload_n dX5_init_9 rfl ?_
  refine zV_iload_n dX5_init_10 rfl ?_
  obtain ⟨ob, hP⟩ := hP
  refine zV_pM (κ := 0) [5, 6, 7, 8, 12] dX5_init_11 (by rcases ob with o | o | o | o | o <;> exact ⟨_, by decide, o⟩) ?_ (ki := 0) rfl (fun h2 e_h2 => ?_)
  · intro t ht
    simp only [List.mem_cons, List.not_mem_nil, or_false] at ht
    rcases ht with rfl | rfl | rfl | rfl | rfl
    · exact ⟨by decide, by decide, fl_X5_15_5, rfl, Or.inr ⟨rfl, rfl⟩, trivial⟩
    · exact ⟨by decide, by decide, fl_X5_15_6, rfl, Or.inr ⟨rfl, rfl⟩, trivial⟩
    · exact ⟨by decide, by decide, fl_X5_15_7, rfl, Or.inr ⟨rfl, rfl⟩, trivial⟩
    · exact ⟨by decide, by decide, fl_X5_15_8, rfl, Or.inr ⟨rfl, rfl⟩, trivial⟩
    · exact ⟨by decide, by decide, fl_X5_15_12, rfl, Or.inr ⟨rfl, rfl⟩, trivial⟩
  have hP := hP h2 e_h2
  refine zV_aload_n dX5_init_14 rfl ?_
  refine zV_aload_n dX5_init_15 rfl ?_
  obtain ⟨ob, hP⟩ := hP
  refine zV_pM (κ := 2) [5, 6, 7, 8, 12] dX5_init_16 (by rcases ob with o | o | o | o | o <;> exact ⟨_, by decide, o⟩) ?_ (ki := 1) rfl (fun h3 e_h3 => ?_)
  · intro t ht
    simp only [List.mem_cons, List.not_mem_nil, or_false] at ht
    rcases ht with rfl | rfl | rfl | rfl | rfl
    · exact ⟨by decide, by decide, fl_X5_19_5, rfl, Or.inr ⟨rfl, rfl⟩, trivial⟩
    · exact ⟨by decide, by decide, fl_X5_19_6, rfl, Or.inr ⟨rfl, rfl⟩, trivial⟩
    · exact ⟨by decide, by decide, fl_X5_19_7, rfl, Or.inr ⟨rfl, rfl⟩, trivial⟩
    · exact ⟨by decide, by decide, fl_X5_19_8, rfl, Or.inr ⟨rfl, rfl⟩, trivial⟩
    · exact ⟨by decide, by decide, fl_X5_19_12, rfl, Or.inr ⟨rfl, rfl⟩, trivial⟩
  have hP := hP h3 e_h3
  exact zV_return dX5_init_19 rfl ⟨rfl, hP⟩
def P_Ru_trues_J42 (y3 : Int) (y4 : Int) (y5 : Int) (s0 : Int) (s1 : Int) (h : zH) (Q : Int → zH → Prop) (k14 : Int → Int → zH → Prop) : Prop :=
∀ x2_6 : Int, x2_6 = (w32 (s1 + s0)) →
∀ x5_7 : Int, x5_7 = w32 (y5 + 1) →
k14 x2_6 x5_7 h
theorem W_Ru_trues_J42 (y3 : Int) (y4 : Int) (y5 : Int) (s0 : Int) (s1 : Int) (h : zH) (Q : Int → zH → Prop) (k14 : Int → Int → zH → Prop) (H14 : ∀ (v2 v5 : Int) (h' : zH), k14 v2 v5 h' → zV true zy_X5_trues 3 14 [zU, zR 91, zI v2, zR y3, zI y4, zI v5, zU] [] h' (zQ0 Q)) (hP : P_Ru_trues_J42 y3 y4 y5 s0 s1 h Q k14) : zV true zy_X5_trues 3 42 [zU, zR 91, zU, zR y3, zI y4, zI y5, zU] [zI s0, zI s1] h (zQ0 Q) := by
  unfold P_Ru_trues_J42 at hP
  refine zV_iadd dX5_trues_42 ?_
  refine zV_top (fun x2_6 e_x2_6 => ?_)
  have hP := hP x2_6 e_x2_6
  refine zV_istore_n (ls' := [zU, zR 91, zI x2_6, zR y3, zI y4, zI y5, zU]) dX5_trues_43 rfl (Nat.le_of_ble_eq_true rfl) rfl rfl ?_
  refine zV_inc (ls' := fun z => [zU, zR 91, zI x2_6, zR y3, zI y4, zI z, zU]) dX5_trues_44 (Nat.le_of_ble_eq_true rfl) rfl rfl (fun _ => rfl) (fun x5_7 e_x5_7 => ?_)
  have hP := hP x5_7 e_x5_7
  refine zV_goto (tgt := 14) dX5_trues_47 (by decide) ?_
  exact H14 _ _ _ hP
def P_Ru_trues_L14 (y3 : Int) (y4 : Int) (Q : Int → zH → Prop) : Nat → Int → Int → zH → Prop
| 0, _, _, _ => False
| n14 + 1, y2, y5, h =>
if y4 ≤ y5 then
(Q y2 h)
else
((zt h y3 = 50 ∧ 0 ≤ y5 ∧ y5 < zl h y3) ∧
∀ x6_3 : Int, x6_3 = (zd h y3 y5) →
P_T_isTrue x6_3 h (fun r4 h5 =>
P_Ru_trues_J42 y3 y4 y5 (if r4 = 0 then 0 else 1) y2 h5 Q (P_Ru_trues_L14 y3 y4 Q n14)))
theorem W_Ru_trues_L14 (y3 : Int) (y4 : Int) (Q : Int → zH → Prop) : ∀ (n14 : Nat) (y2 y5 : Int) (h : zH), P_Ru_trues_L14 y3 y4 Q n14 y2 y5 h → zV true zy_X5_trues 3 14 [zU, zR 91, zI y2, zR y3, zI y4, zI y5, zU] [] h (zQ0 Q) := by
  intro n14
  induction n14 with
  | zero => intro y2 y5 h hP; exact absurd hP id
  | succ n14 ih =>
    intro y2 y5 h hP
    unfold P_Ru_trues_L14 at hP
    refine zV_iload dX5_trues_14 rfl ?_
    refine zV_iload dX5_trues_16 rfl ?_
    refine zV_icmp_ge (tgt := 50) dX5_trues_18 (by decide) (fun c => ?_) (fun c => ?_)
    · have hP := zif_p hP c
      refine zV_iload_n dX5_trues_50 rfl ?_
      exact zV_ireturn dX5_trues_51 rfl rfl rfl ⟨rfl, hP⟩
    · have hP := zif_n hP c
      refine zV_aload_n dX5_trues_21 rfl ?_
      refine zV_iload dX5_trues_22 rfl ?_
      obtain ⟨ob, hP⟩ := hP
      refine zV_iaD dX5_trues_24 ob ?_
      refine zV_top (fun x6_3 e_x6_3 => ?_)
      have hP := hP x6_3 e_x6_3
      refine zV_istore (ls' := [zU, zR 91, zI y2, zR y3, zI y4, zI y5, zI x6_3]) dX5_trues_25 (Nat.le_of_ble_eq_true rfl) rfl rfl ?_
      refine zV_iload_n dX5_trues_27 rfl ?_
      refine zV_aload_n dX5_trues_28 rfl ?_
      refine zV_iload dX5_trues_29 rfl ?_
      refine zV_cVk (As := [zI x6_3]) (rest := [zI y2]) dX5_trues_31 sa_91 (W_T_isTrue _ _ _ hP) mi_X2_isTrue ml_X5_30 (by decide) (Nat.le_of_ble_eq_true rfl) rfl rfl rfl (fun r4 h5 hP => ?_)
      have K : zV true zy_X5_trues 3 42 [zU, zR 91, zU, zR y3, zI y4, zI y5, zU] [zI (if r4 = 0 then 0 else 1), zI y2] h5 (zQ0 Q) := by
        exact W_Ru_trues_J42 _ _ _ _ _ _ _ _ ih hP
      clear hP
      refine zV_if_eq (tgt := 41) dX5_trues_34 (by decide) (fun c => ?_) (fun c => ?_)
      · try simp only [if_pos c] at K
        refine zV_iconst dX5_trues_41 ⟨by decide, by decide⟩ ?_
        refine zV_mask [false, true, false, true, true, true, false] rfl ?_
        exact K
      · try simp only [if_neg c] at K
        refine zV_iconst dX5_trues_37 ⟨by decide, by decide⟩ ?_
        refine zV_goto (tgt := 42) dX5_trues_38 (by decide) ?_
        refine zV_mask [false, true, false, true, true, true, false] rfl ?_
        exact K
def P_Ru_trues (a0 : Int) (h : zH) (Q : Int → zH → Prop) : Prop :=
(zt h a0 = 5 ∨ zt h a0 = 6 ∨ zt h a0 = 7 ∨ zt h a0 = 8 ∨ zt h a0 = 12) ∧
∀ x3_1 : Int, x3_1 = (zd h a0 1) →
(zt h x3_1 = 50) ∧
∀ x4_2 : Int, x4_2 = (zl h x3_1) →
∃ n14, P_Ru_trues_L14 x3_1 x4_2 Q n14 0 0 h
theorem W_Ru_trues (a0 : Int) (h : zH) (Q : Int → zH → Prop) (hP : P_Ru_trues a0 h Q) : zC true zy_X5_trues 3 [zR a0, zR 91] h (zQ0 Q) := by
  unfold P_Ru_trues at hP
  refine zC.of (by decide) (Nat.le_of_ble_eq_true rfl) ?_
  show zV true zy_X5_trues 3 0 [zR a0, zR 91, zU, zU, zU, zU, zU] [] h (zQ0 Q)
  refine zV_iconst dX5_trues_0 ⟨by decide, by decide⟩ ?_
  refine zV_istore_n (ls' := [zR a0, zR 91, zI 0, zU, zU, zU, zU]) dX5_trues_1 rfl (Nat.le_of_ble_eq_true rfl) rfl rfl ?_
  refine zV_aload_n dX5_trues_2 rfl ?_
  obtain ⟨ob, hP⟩ := hP
  refine zV_gM [5, 6, 7, 8, 12] dX5_trues_3 (by rcases ob with o | o | o | o | o <;> exact ⟨_, by decide, o⟩) gm_X5_19 (ki := 1) rfl ?_
  refine zV_top (fun x3_1 e_x3_1 => ?_)
  have hP := hP x3_1 e_x3_1
  refine zV_astore_n (ls' := [zR a0, zR 91, zI 0, zR x3_1, zU, zU, zU]) dX5_trues_6 rfl (Nat.le_of_ble_eq_true rfl) rfl rfl ?_
  refine zV_aload_n dX5_trues_7 rfl ?_
  obtain ⟨ob, hP⟩ := hP
  refine zV_alD dX5_trues_8 (Or.inl ob) ?_
  refine zV_top (fun x4_2 e_x4_2 => ?_)
  have hP := hP x4_2 e_x4_2
  refine zV_istore (ls' := [zR a0, zR 91, zI 0, zR x3_1, zI x4_2, zU, zU]) dX5_trues_9 (Nat.le_of_ble_eq_true rfl) rfl rfl ?_
  refine zV_iconst dX5_trues_11 ⟨by decide, by decide⟩ ?_
  refine zV_istore (ls' := [zR a0, zR 91, zI 0, zR x3_1, zI x4_2, zI 0, zU]) dX5_trues_12 (Nat.le_of_ble_eq_true rfl) rfl rfl ?_
  obtain ⟨n14, hP⟩ := hP
  refine zV_mask [false, true, true, true, true, true, true] (ls' := [zU, zR 91, zI 0, zR x3_1, zI x4_2, zI 0, zU]) rfl ?_
  refine W_Ru_trues_L14 _ _ _ n14 _ _ _ hP
def P_C_body (a1 : Int) (h : zH) (Q : Int → zH → Prop) : Prop :=
(0 ≤ Int.tmod (zd h 14 8) 100 ∧ Int.tmod (zd h 14 8) 100 < 100) ∧
∀ h1 : zH, h1 = zw h 18 (Int.tmod (zd h 14 8) 100) a1 →
∀ h2 : zH, h2 = zw h1 14 8 (w32 ((zd h1 14 8) + 1)) →
Q 0 h2
theorem W_C_body (a1 : Int) (h : zH) (Q : Int → zH → Prop) (hP : P_C_body a1 h Q) : zC true zy_X0_body 1 [zR 14, zI a1] h (zQ0 Q) := by
  unfold P_C_body at hP
  refine zC.of (by decide) (Nat.le_of_ble_eq_true rfl) ?_
  show zV true zy_X0_body 1 0 [zR 14, zI a1] [] h (zQ0 Q)
  refine zV_aload_n dX0_body_0 rfl ?_
  refine zV_sg dX0_body_1 fm_14_7 sa_14 (by decide) fl_X0_25_0 rfl ?_
  refine zV_aload_n dX0_body_4 rfl ?_
  refine zV_gf dX0_body_5 sa_14 (by decide) fl_X0_155_0 rfl (ki := 8) rfl ?_
  refine zV_bipush dX0_body_8 ⟨by decide, by decide, by decide⟩ ?_
  refine zV_irem dX0_body_10 (by decide) ?_
  refine zV_iload_n dX0_body_11 rfl ?_
  obtain ⟨ob, hP⟩ := hP
  refine zV_ias dX0_body_12 sa_18 ob (fun h1 e_h1 => ?_)
  have hP := hP h1 e_h1
  refine zV_aload_n dX0_body_13 rfl ?_
  refine zV_dup dX0_body_14 (Nat.ne_of_beq_eq_false rfl) ?_
  refine zV_gf dX0_body_15 sa_14 (by decide) fl_X0_155_0 rfl (ki := 8) rfl ?_
  refine zV_iconst dX0_body_18 ⟨by decide, by decide⟩ ?_
  refine zV_iadd dX0_body_19 ?_
  refine zV_pf dX0_body_20 sa_14 (by decide) fl_X0_155_0 rfl rfl trivial (ki := 8) rfl (fun h2 e_h2 => ?_)
  have hP := hP h2 e_h2
  exact zV_return dX0_body_23 rfl ⟨rfl, hP⟩
def P_Ru_least (a0 : Int) (h : zH) (Q : Int → zH → Prop) : Prop :=
((zt h a0 = 5 ∨ zt h a0 = 6 ∨ zt h a0 = 7 ∨ zt h a0 = 8 ∨ zt h a0 = 12) ∧ zd h a0 4 = 14) ∧
P_C_body 51 h (fun r1 h2 =>
Q 0 h2)
theorem W_Ru_least (a0 : Int) (h : zH) (Q : Int → zH → Prop) (hP : P_Ru_least a0 h Q) : zC true zy_X5_least 2 [zR a0] h (zQ0 Q) := by
  unfold P_Ru_least at hP
  refine zC.of (by decide) (Nat.le_of_ble_eq_true rfl) ?_
  show zV true zy_X5_least 2 0 [zR a0] [] h (zQ0 Q)
  refine zV_aload_n dX5_least_0 rfl ?_
  obtain ⟨ob, hP⟩ := hP
  refine zV_gM [5, 6, 7, 8, 12] dX5_least_1 (by rcases ob.1 with o | o | o | o | o <;> exact ⟨_, by decide, o⟩) gm_X5_3 (ki := 4) rfl ?_
  refine zV_top (fun x0 e_x0 => ?_)
  obtain rfl := e_x0.trans ob.2
  refine zV_bipush dX5_least_4 ⟨by decide, by decide, by decide⟩ ?_
  refine zV_cVv (As := [zI 51]) (rest := []) dX5_least_6 sa_14 (W_C_body _ _ _ hP) mi_X0_body ml_X5_23 (by decide) (Nat.le_of_ble_eq_true rfl) rfl rfl (fun r1 h2 hP => ?_)
  refine zV_iconst dX5_least_9 ⟨by decide, by decide⟩ ?_
  exact zV_ireturn dX5_least_10 rfl rfl rfl ⟨rfl, hP⟩
def P_Ru_most (a0 : Int) (h : zH) (Q : Int → zH → Prop) : Prop :=
((zt h a0 = 5 ∨ zt h a0 = 6 ∨ zt h a0 = 7 ∨ zt h a0 = 8 ∨ zt h a0 = 12) ∧ zd h a0 4 = 14) ∧
P_C_body 52 h (fun r1 h2 =>
(zt h2 a0 = 5 ∨ zt h2 a0 = 6 ∨ zt h2 a0 = 7 ∨ zt h2 a0 = 8 ∨ zt h2 a0 = 12) ∧
(zt h2 (zd h2 a0 1) = 50) ∧
Q (zl h2 (zd h2 a0 1)) h2)
theorem W_Ru_most (a0 : Int) (h : zH) (Q : Int → zH → Prop) (hP : P_Ru_most a0 h Q) : zC true zy_X5_most 2 [zR a0] h (zQ0 Q) := by
  unfold P_Ru_most at hP
  refine zC.of (by decide) (Nat.le_of_ble_eq_true rfl) ?_
  show zV true zy_X5_most 2 0 [zR a0] [] h (zQ0 Q)
  refine zV_aload_n dX5_most_0 rfl ?_
  obtain ⟨ob, hP⟩ := hP
  refine zV_gM [5, 6, 7, 8, 12] dX5_most_1 (by rcases ob.1 with o | o | o | o | o <;> exact ⟨_, by decide, o⟩) gm_X5_3 (ki := 4) rfl ?_
  refine zV_top (fun x0 e_x0 => ?_)
  obtain rfl := e_x0.trans ob.2
  refine zV_bipush dX5_most_4 ⟨by decide, by decide, by decide⟩ ?_
  refine zV_cVv (As := [zI 52]) (rest := []) dX5_most_6 sa_14 (W_C_body _ _ _ hP) mi_X0_body ml_X5_23 (by decide) (Nat.le_of_ble_eq_true rfl) rfl rfl (fun r1 h2 hP => ?_)
  refine zV_aload_n dX5_most_9 rfl ?_
  obtain ⟨ob, hP⟩ := hP
  refine zV_gM [5, 6, 7, 8, 12] dX5_most_10 (by rcases ob with o | o | o | o | o <;> exact ⟨_, by decide, o⟩) gm_X5_19 (ki := 1) rfl ?_
  obtain ⟨ob, hP⟩ := hP
  refine zV_alD dX5_most_13 (Or.inl ob) ?_
  exact zV_ireturn dX5_most_14 rfl rfl rfl ⟨rfl, hP⟩
def P_Ru_laid (a0 : Int) (h : zH) (Q : Int → zH → Prop) : Prop :=
((zt h a0 = 5 ∨ zt h a0 = 6 ∨ zt h a0 = 7 ∨ zt h a0 = 8 ∨ zt h a0 = 12) ∧ zd h a0 4 = 14) ∧
P_C_body 53 h (fun r1 h2 =>
(zt h2 a0 = 5 ∨ zt h2 a0 = 6 ∨ zt h2 a0 = 7 ∨ zt h2 a0 = 8 ∨ zt h2 a0 = 12) ∧
Q (zd h2 a0 3) h2)
theorem W_Ru_laid (a0 : Int) (h : zH) (Q : Int → zH → Prop) (hP : P_Ru_laid a0 h Q) : zC true zy_X5_laid 2 [zR a0] h (zQ0 Q) := by
  unfold P_Ru_laid at hP
  refine zC.of (by decide) (Nat.le_of_ble_eq_true rfl) ?_
  show zV true zy_X5_laid 2 0 [zR a0] [] h (zQ0 Q)
  refine zV_aload_n dX5_laid_0 rfl ?_
  obtain ⟨ob, hP⟩ := hP
  refine zV_gM [5, 6, 7, 8, 12] dX5_laid_1 (by rcases ob.1 with o | o | o | o | o <;> exact ⟨_, by decide, o⟩) gm_X5_3 (ki := 4) rfl ?_
  refine zV_top (fun x0 e_x0 => ?_)
  obtain rfl := e_x0.trans ob.2
  refine zV_bipush dX5_laid_4 ⟨by decide, by decide, by decide⟩ ?_
  refine zV_cVv (As := [zI 53]) (rest := []) dX5_laid_6 sa_14 (W_C_body _ _ _ hP) mi_X0_body ml_X5_23 (by decide) (Nat.le_of_ble_eq_true rfl) rfl rfl (fun r1 h2 hP => ?_)
  refine zV_aload_n dX5_laid_9 rfl ?_
  obtain ⟨ob, hP⟩ := hP
  refine zV_gM [5, 6, 7, 8, 12] dX5_laid_10 (by rcases ob with o | o | o | o | o <;> exact ⟨_, by decide, o⟩) gm_X5_27 (ki := 3) rfl ?_
  exact zV_ireturn dX5_laid_13 rfl rfl rfl ⟨rfl, hP⟩
def P_C_say_2 (a1 : Int) (h : zH) (Q : Int → zH → Prop) : Prop :=
∀ h1 : zH, h1 = zw h 14 10 (w32 ((zd h 14 10) + 1)) →
(0 ≤ zd h 14 10 ∧ zd h 14 10 < 14000) ∧
∀ h2 : zH, h2 = zw h1 19 (zd h 14 10) (zbyte (zi2b a1)) →
Q 0 h2
theorem W_C_say_2 (a1 : Int) (h : zH) (Q : Int → zH → Prop) (hP : P_C_say_2 a1 h Q) : zC true zy_X0_say_2 1 [zR 14, zI a1] h (zQ0 Q) := by
  unfold P_C_say_2 at hP
  refine zC.of (by decide) (Nat.le_of_ble_eq_true rfl) ?_
  show zV true zy_X0_say_2 1 0 [zR 14, zI a1] [] h (zQ0 Q)
  refine zV_aload_n dX0_say_2_0 rfl ?_
  refine zV_sg dX0_say_2_1 fm_14_9 sa_14 (by decide) fl_X0_28_0 rfl ?_
  refine zV_aload_n dX0_say_2_4 rfl ?_
  refine zV_dup dX0_say_2_5 (Nat.ne_of_beq_eq_false rfl) ?_
  refine zV_gf dX0_say_2_6 sa_14 (by decide) fl_X0_162_0 rfl (ki := 10) rfl ?_
  refine zV_dup_x1 dX0_say_2_9 (Nat.ne_of_beq_eq_false rfl) (Nat.ne_of_beq_eq_false rfl) ?_
  refine zV_iconst dX0_say_2_10 ⟨by decide, by decide⟩ ?_
  refine zV_iadd dX0_say_2_11 ?_
  refine zV_pf dX0_say_2_12 sa_14 (by decide) fl_X0_162_0 rfl rfl trivial (ki := 10) rfl (fun h1 e_h1 => ?_)
  have hP := hP h1 e_h1
  refine zV_iload_n dX0_say_2_15 rfl ?_
  refine zV_i2b dX0_say_2_16 ?_
  obtain ⟨ob, hP⟩ := hP
  refine zV_bas dX0_say_2_17 sa_19 ob (fun h2 e_h2 => ?_)
  have hP := hP h2 e_h2
  exact zV_return dX0_say_2_18 rfl ⟨rfl, hP⟩
def P_C_sayNumber_J32 (y2 : Int) (h : zH) (Q : Int → zH → Prop) : Prop :=
if y2 ≤ 9 then
(P_C_say_2 (w32 (48 + (Int.tmod y2 10))) h (fun r2 h3 =>
Q 0 h3))
else
(P_C_say_2 (w32 (48 + (Int.tmod (w32 (Int.tdiv y2 10)) 10))) h (fun r4 h5 =>
P_C_say_2 (w32 (48 + (Int.tmod y2 10))) h5 (fun r6 h7 =>
Q 0 h7)))
theorem W_C_sayNumber_J32 (y2 : Int) (h : zH) (Q : Int → zH → Prop) (hP : P_C_sayNumber_J32 y2 h Q) : zV true zy_X0_sayNumber 2 32 [zR 14, zU, zI y2] [] h (zQ0 Q) := by
  unfold P_C_sayNumber_J32 at hP
  refine zV_iload_n dX0_sayNumber_32 rfl ?_
  refine zV_bipush dX0_sayNumber_33 ⟨by decide, by decide, by decide⟩ ?_
  refine zV_icmp_le (tgt := 52) dX0_sayNumber_35 (by decide) (fun c => ?_) (fun c => ?_)
  · have hP := zif_p hP c
    refine zV_aload_n dX0_sayNumber_52 rfl ?_
    refine zV_bipush dX0_sayNumber_53 ⟨by decide, by decide, by decide⟩ ?_
    refine zV_iload_n dX0_sayNumber_55 rfl ?_
    refine zV_bipush dX0_sayNumber_56 ⟨by decide, by decide, by decide⟩ ?_
    refine zV_irem dX0_sayNumber_58 (by decide) ?_
    refine zV_iadd dX0_sayNumber_59 ?_
    refine zV_cVv (As := [zI (w32 (48 + (Int.tmod y2 10)))]) (rest := []) dX0_sayNumber_60 sa_14 (W_C_say_2 _ _ _ hP) mi_X0_say_2 ml_X0_175 (by decide) (Nat.le_of_ble_eq_true rfl) rfl rfl (fun r2 h3 hP => ?_)
    exact zV_return dX0_sayNumber_63 rfl ⟨rfl, hP⟩
  · have hP := zif_n hP c
    refine zV_aload_n dX0_sayNumber_38 rfl ?_
    refine zV_bipush dX0_sayNumber_39 ⟨by decide, by decide, by decide⟩ ?_
    refine zV_iload_n dX0_sayNumber_41 rfl ?_
    refine zV_bipush dX0_sayNumber_42 ⟨by decide, by decide, by decide⟩ ?_
    refine zV_idiv dX0_sayNumber_44 (by decide) ?_
    refine zV_bipush dX0_sayNumber_45 ⟨by decide, by decide, by decide⟩ ?_
    refine zV_irem dX0_sayNumber_47 (by decide) ?_
    refine zV_iadd dX0_sayNumber_48 ?_
    refine zV_cVv (As := [zI (w32 (48 + (Int.tmod (w32 (Int.tdiv y2 10)) 10)))]) (rest := []) dX0_sayNumber_49 sa_14 (W_C_say_2 _ _ _ hP) mi_X0_say_2 ml_X0_175 (by decide) (Nat.le_of_ble_eq_true rfl) rfl rfl (fun r4 h5 hP => ?_)
    refine zV_aload_n dX0_sayNumber_52 rfl ?_
    refine zV_bipush dX0_sayNumber_53 ⟨by decide, by decide, by decide⟩ ?_
    refine zV_iload_n dX0_sayNumber_55 rfl ?_
    refine zV_bipush dX0_sayNumber_56 ⟨by decide, by decide, by decide⟩ ?_
    refine zV_irem dX0_sayNumber_58 (by decide) ?_
    refine zV_iadd dX0_sayNumber_59 ?_
    refine zV_cVv (As := [zI (w32 (48 + (Int.tmod y2 10)))]) (rest := []) dX0_sayNumber_60 sa_14 (W_C_say_2 _ _ _ hP) mi_X0_say_2 ml_X0_175 (by decide) (Nat.le_of_ble_eq_true rfl) rfl rfl (fun r6 h7 hP => ?_)
    exact zV_return dX0_sayNumber_63 rfl ⟨rfl, hP⟩
def P_C_sayNumber_J10 (y1 : Int) (h : zH) (Q : Int → zH → Prop) : Prop :=
∀ x2_1 : Int, x2_1 = (zabs y1) →
if x2_1 ≤ 99 then
(P_C_sayNumber_J32 x2_1 h Q)
else
(P_C_say_2 (w32 (48 + (w32 (Int.tdiv x2_1 100)))) h (fun r8 h9 =>
P_C_sayNumber_J32 x2_1 h9 Q))
theorem W_C_sayNumber_J10 (y1 : Int) (h : zH) (Q : Int → zH → Prop) (hP : P_C_sayNumber_J10 y1 h Q) : zV true zy_X0_sayNumber 2 10 [zR 14, zI y1, zU] [] h (zQ0 Q) := by
  unfold P_C_sayNumber_J10 at hP
  refine zV_iload_n dX0_sayNumber_10 rfl ?_
  refine zV_mabs dX0_sayNumber_11 q805 q806 q171 q807 (Nat.le_of_ble_eq_true rfl) (by decide) ?_
  refine zV_top (fun x2_1 e_x2_1 => ?_)
  have hP := hP x2_1 e_x2_1
  refine zV_istore_n (ls' := [zR 14, zI y1, zI x2_1]) dX0_sayNumber_14 rfl (Nat.le_of_ble_eq_true rfl) rfl rfl ?_
  refine zV_iload_n dX0_sayNumber_15 rfl ?_
  refine zV_bipush dX0_sayNumber_16 ⟨by decide, by decide, by decide⟩ ?_
  refine zV_icmp_le (tgt := 32) dX0_sayNumber_18 (by decide) (fun c => ?_) (fun c => ?_)
  · have hP := zif_p hP c
    refine zV_mask [true, false, true] (ls' := [zR 14, zU, zI x2_1]) rfl ?_
    exact W_C_sayNumber_J32 _ _ _ hP
  · have hP := zif_n hP c
    refine zV_aload_n dX0_sayNumber_21 rfl ?_
    refine zV_bipush dX0_sayNumber_22 ⟨by decide, by decide, by decide⟩ ?_
    refine zV_iload_n dX0_sayNumber_24 rfl ?_
    refine zV_bipush dX0_sayNumber_25 ⟨by decide, by decide, by decide⟩ ?_
    refine zV_idiv dX0_sayNumber_27 (by decide) ?_
    refine zV_iadd dX0_sayNumber_28 ?_
    refine zV_cVv (As := [zI (w32 (48 + (w32 (Int.tdiv x2_1 100))))]) (rest := []) dX0_sayNumber_29 sa_14 (W_C_say_2 _ _ _ hP) mi_X0_say_2 ml_X0_175 (by decide) (Nat.le_of_ble_eq_true rfl) rfl rfl (fun r8 h9 hP => ?_)
    refine zV_mask [true, false, true] (ls' := [zR 14, zU, zI x2_1]) rfl ?_
    exact W_C_sayNumber_J32 _ _ _ hP
def P_C_sayNumber (a1 : Int) (h : zH) (Q : Int → zH → Prop) : Prop :=
if 0 ≤ a1 then
(P_C_sayNumber_J10 a1 h Q)
else
(P_C_say_2 45 h (fun r10 h11 =>
P_C_sayNumber_J10 a1 h11 Q))
theorem W_C_sayNumber (a1 : Int) (h : zH) (Q : Int → zH → Prop) (hP : P_C_sayNumber a1 h Q) : zC true zy_X0_sayNumber 2 [zR 14, zI a1] h (zQ0 Q) := by
  unfold P_C_sayNumber at hP
  refine zC.of (by decide) (Nat.le_of_ble_eq_true rfl) ?_
  show zV true zy_X0_sayNumber 2 0 [zR 14, zI a1, zU] [] h (zQ0 Q)
  refine zV_iload_n dX0_sayNumber_0 rfl ?_
  refine zV_if_ge (tgt := 10) dX0_sayNumber_1 (by decide) (fun c => ?_) (fun c => ?_)
  · have hP := zif_p hP c
    exact W_C_sayNumber_J10 _ _ _ hP
  · have hP := zif_n hP c
    refine zV_aload_n dX0_sayNumber_4 rfl ?_
    refine zV_bipush dX0_sayNumber_5 ⟨by decide, by decide, by decide⟩ ?_
    refine zV_cVv (As := [zI 45]) (rest := []) dX0_sayNumber_7 sa_14 (W_C_say_2 _ _ _ hP) mi_X0_say_2 ml_X0_175 (by decide) (Nat.le_of_ble_eq_true rfl) rfl rfl (fun r10 h11 hP => ?_)
    exact W_C_sayNumber_J10 _ _ _ hP
def P_Ru_court (a0 : Int) (h : zH) (Q : Int → zH → Prop) : Prop :=
((zt h a0 = 5 ∨ zt h a0 = 6 ∨ zt h a0 = 7 ∨ zt h a0 = 8 ∨ zt h a0 = 12) ∧ zd h a0 4 = 14) ∧
Q 14 h
theorem W_Ru_court (a0 : Int) (h : zH) (Q : Int → zH → Prop) (hP : P_Ru_court a0 h Q) : zC true zy_X5_court 1 [zR a0] h (zQ0 Q) := by
  unfold P_Ru_court at hP
  refine zC.of (by decide) (Nat.le_of_ble_eq_true rfl) ?_
  show zV true zy_X5_court 1 0 [zR a0] [] h (zQ0 Q)
  refine zV_aload_n dX5_court_0 rfl ?_
  obtain ⟨ob, hP⟩ := hP
  refine zV_gM [5, 6, 7, 8, 12] dX5_court_1 (by rcases ob.1 with o | o | o | o | o <;> exact ⟨_, by decide, o⟩) gm_X5_3 (ki := 4) rfl ?_
  refine zV_top (fun x0 e_x0 => ?_)
  obtain rfl := e_x0.trans ob.2
  exact zV_areturn dX5_court_4 rfl rfl (Or.inl ⟨_, rfl⟩) ⟨rfl, hP⟩
def P_Ru_size (a0 : Int) (h : zH) (Q : Int → zH → Prop) : Prop :=
(zt h a0 = 5 ∨ zt h a0 = 6 ∨ zt h a0 = 7 ∨ zt h a0 = 8 ∨ zt h a0 = 12) ∧
(zt h (zd h a0 1) = 50) ∧
Q (zl h (zd h a0 1)) h
theorem W_Ru_size (a0 : Int) (h : zH) (Q : Int → zH → Prop) (hP : P_Ru_size a0 h Q) : zC true zy_X5_size 1 [zR a0] h (zQ0 Q) := by
  unfold P_Ru_size at hP
  refine zC.of (by decide) (Nat.le_of_ble_eq_true rfl) ?_
  show zV true zy_X5_size 1 0 [zR a0] [] h (zQ0 Q)
  refine zV_aload_n dX5_size_0 rfl ?_
  obtain ⟨ob, hP⟩ := hP
  refine zV_gM [5, 6, 7, 8, 12] dX5_size_1 (by rcases ob with o | o | o | o | o <;> exact ⟨_, by decide, o⟩) gm_X5_19 (ki := 1) rfl ?_
  obtain ⟨ob, hP⟩ := hP
  refine zV_alD dX5_size_4 (Or.inl ob) ?_
  exact zV_ireturn dX5_size_5 rfl rfl rfl ⟨rfl, hP⟩
def P_Ru_at (a0 : Int) (a1 : Int) (h : zH) (Q : Int → zH → Prop) : Prop :=
(zt h a0 = 5 ∨ zt h a0 = 6 ∨ zt h a0 = 7 ∨ zt h a0 = 8 ∨ zt h a0 = 12) ∧
(zt h (zd h a0 1) = 50 ∧ 0 ≤ a1 ∧ a1 < zl h (zd h a0 1)) ∧
Q (zd h (zd h a0 1) a1) h
theorem W_Ru_at (a0 : Int) (a1 : Int) (h : zH) (Q : Int → zH → Prop) (hP : P_Ru_at a0 a1 h Q) : zC true zy_X5_at 1 [zR a0, zI a1] h (zQ0 Q) := by
  unfold P_Ru_at at hP
  refine zC.of (by decide) (Nat.le_of_ble_eq_true rfl) ?_
  show zV true zy_X5_at 1 0 [zR a0, zI a1] [] h (zQ0 Q)
  refine zV_aload_n dX5_at_0 rfl ?_
  obtain ⟨ob, hP⟩ := hP
  refine zV_gM [5, 6, 7, 8, 12] dX5_at_1 (by rcases ob with o | o | o | o | o <;> exact ⟨_, by decide, o⟩) gm_X5_19 (ki := 1) rfl ?_
  refine zV_iload_n dX5_at_4 rfl ?_
  obtain ⟨ob, hP⟩ := hP
  refine zV_iaD dX5_at_5 ob ?_
  exact zV_ireturn dX5_at_6 rfl rfl rfl ⟨rfl, hP⟩
def P_Cl_init (a0 : Int) (a2 : Int) (a3 : Int) (h : zH) (Q : Int → zH → Prop) : Prop :=
(zt h a0 = 5 ∨ zt h a0 = 6 ∨ zt h a0 = 7 ∨ zt h a0 = 12) ∧
∀ h1 : zH, h1 = zw h a0 5 14 →
(zt h1 a0 = 5 ∨ zt h1 a0 = 6 ∨ zt h1 a0 = 7 ∨ zt h1 a0 = 8 ∨ zt h1 a0 = 12) ∧
P_Ru_init a0 a2 a3 h1 (fun r2 h3 =>
Q 0 h3)
theorem W_Cl_init (a0 : Int) (a2 : Int) (a3 : Int) (h : zH) (Q : Int → zH → Prop) (hP : P_Cl_init a0 a2 a3 h Q) : zC true zy_X6_init 3 [zR a0, zR 14, zI a2, zR a3] h (zQ0 Q) := by
  unfold P_Cl_init at hP
  refine zC.of (by decide) (Nat.le_of_ble_eq_true rfl) ?_
  show zV true zy_X6_init 3 0 [zR a0, zR 14, zI a2, zR a3] [] h (zQ0 Q)
  refine zV_aload_n dX6_init_0 rfl ?_
  refine zV_aload_n dX6_init_1 rfl ?_
  obtain ⟨ob, hP⟩ := hP
  refine zV_pM (κ := 2) [5, 6, 7, 12] dX6_init_2 (by rcases ob with o | o | o | o <;> exact ⟨_, by decide, o⟩) ?_ (ki := 5) rfl (fun h1 e_h1 => ?_)
  · intro t ht
    simp only [List.mem_cons, List.not_mem_nil, or_false] at ht
    rcases ht with rfl | rfl | rfl | rfl
    · exact ⟨by decide, by decide, fl_X6_3_5, rfl, Or.inr ⟨rfl, rfl⟩, trivial⟩
    · exact ⟨by decide, by decide, fl_X6_3_6, rfl, Or.inr ⟨rfl, rfl⟩, trivial⟩
    · exact ⟨by decide, by decide, fl_X6_3_7, rfl, Or.inr ⟨rfl, rfl⟩, trivial⟩
    · exact ⟨by decide, by decide, fl_X6_3_12, rfl, Or.inr ⟨rfl, rfl⟩, trivial⟩
  have hP := hP h1 e_h1
  refine zV_aload_n dX6_init_5 rfl ?_
  refine zV_aload_n dX6_init_6 rfl ?_
  refine zV_iload_n dX6_init_7 rfl ?_
  refine zV_aload_n dX6_init_8 rfl ?_
  obtain ⟨ob, hP⟩ := hP
  refine zV_cIM (As := [zR 14, zI a2, zR a3]) (rest := []) [5, 6, 7, 8, 12] (by decide) dX6_init_9 (by rcases ob with o | o | o | o | o <;> exact ⟨_, by decide, o⟩) (W_Ru_init _ _ _ _ _ hP) mc_X5_init ml_X6_9 (by decide) (Nat.le_of_ble_eq_true rfl) rfl (fun r2 h3 hP => ?_)
  exact zV_return dX6_init_12 rfl ⟨rfl, hP⟩
def P_C_also_J49 (y1 : Int) (y3 : Int) (s0 : Int) (s1 : Int) (h : zH) (Q : Int → zH → Prop) (k25 : Int → Int → zH → Prop) : Prop :=
∀ x2_1 : Int, x2_1 = (zand s1 s0) →
∀ x3_2 : Int, x3_2 = w32 (y3 + 1) →
k25 x2_1 x3_2 h
theorem W_C_also_J49 (y1 : Int) (y3 : Int) (s0 : Int) (s1 : Int) (h : zH) (Q : Int → zH → Prop) (k25 : Int → Int → zH → Prop) (H25 : ∀ (v2 v3 : Int) (h' : zH), k25 v2 v3 h' → zV true zy_X0_also 1 25 [zR 14, zI y1, zI v2, zI v3] [] h' (zQ0 Q)) (hP : P_C_also_J49 y1 y3 s0 s1 h Q k25) : zV true zy_X0_also 1 49 [zR 14, zI y1, zU, zI y3] [zI s0, zI s1] h (zQ0 Q) := by
  unfold P_C_also_J49 at hP
  refine zV_iand dX0_also_49 ?_
  refine zV_top (fun x2_1 e_x2_1 => ?_)
  have hP := hP x2_1 e_x2_1
  refine zV_istore_n (ls' := [zR 14, zI y1, zI x2_1, zI y3]) dX0_also_50 rfl (Nat.le_of_ble_eq_true rfl) rfl rfl ?_
  refine zV_inc (ls' := fun z => [zR 14, zI y1, zI x2_1, zI z]) dX0_also_51 (Nat.le_of_ble_eq_true rfl) rfl rfl (fun _ => rfl) (fun x3_2 e_x3_2 => ?_)
  have hP := hP x3_2 e_x3_2
  refine zV_goto (tgt := 25) dX0_also_54 (by decide) ?_
  exact H25 _ _ _ hP
def P_C_also_L25 (y1 : Int) (Q : Int → zH → Prop) (k57 : Int → zH → Prop) : Nat → Int → Int → zH → Prop
| 0, _, _, _ => False
| n25 + 1, y2, y3, h =>
if zd h 14 14 ≤ y3 then
(k57 y2 h)
else
((0 ≤ y3 ∧ y3 < 6000) ∧
P_C_also_J49 y1 y3 (if zd h 20 y3 = y1 then 0 else 1) y2 h Q (P_C_also_L25 y1 Q k57 n25))
theorem W_C_also_L25 (y1 : Int) (Q : Int → zH → Prop) (k57 : Int → zH → Prop) (H57 : ∀ (v2 : Int) (h' : zH), k57 v2 h' → zV true zy_X0_also 1 57 [zR 14, zI y1, zI v2, zU] [] h' (zQ0 Q)) : ∀ (n25 : Nat) (y2 y3 : Int) (h : zH), P_C_also_L25 y1 Q k57 n25 y2 y3 h → zV true zy_X0_also 1 25 [zR 14, zI y1, zI y2, zI y3] [] h (zQ0 Q) := by
  intro n25
  induction n25 with
  | zero => intro y2 y3 h hP; exact absurd hP id
  | succ n25 ih =>
    intro y2 y3 h hP
    unfold P_C_also_L25 at hP
    refine zV_iload_n dX0_also_25 rfl ?_
    refine zV_aload_n dX0_also_26 rfl ?_
    refine zV_gf dX0_also_27 sa_14 (by decide) fl_X0_181_0 rfl (ki := 14) rfl ?_
    refine zV_icmp_ge (tgt := 57) dX0_also_30 (by decide) (fun c => ?_) (fun c => ?_)
    · have hP := zif_p hP c
      refine zV_mask [true, true, true, false] (ls' := [zR 14, zI y1, zI y2, zU]) rfl ?_
      exact H57 _ _ hP
    · have hP := zif_n hP c
      refine zV_iload_n dX0_also_33 rfl ?_
      refine zV_aload_n dX0_also_34 rfl ?_
      refine zV_sg dX0_also_35 fm_14_11 sa_14 (by decide) fl_X0_31_0 rfl ?_
      refine zV_iload_n dX0_also_38 rfl ?_
      obtain ⟨ob, hP⟩ := hP
      refine zV_ia dX0_also_39 sa_20 ob ?_
      refine zV_iload_n dX0_also_40 rfl ?_
      have K : zV true zy_X0_also 1 49 [zR 14, zI y1, zU, zI y3] [zI (if zd h 20 y3 = y1 then 0 else 1), zI y2] h (zQ0 Q) := by
        exact W_C_also_J49 _ _ _ _ _ _ _ ih hP
      clear hP
      refine zV_icmp_eq (tgt := 48) dX0_also_41 (by decide) (fun c => ?_) (fun c => ?_)
      · try simp only [if_pos c] at K
        refine zV_iconst dX0_also_48 ⟨by decide, by decide⟩ ?_
        refine zV_mask [true, true, false, true] rfl ?_
        exact K
      · try simp only [if_neg c] at K
        refine zV_iconst dX0_also_44 ⟨by decide, by decide⟩ ?_
        refine zV_goto (tgt := 49) dX0_also_45 (by decide) ?_
        refine zV_mask [true, true, false, true] rfl ?_
        exact K
def P_C_also_J24 (y1 : Int) (y2 : Int) (s0 : Int) (h : zH) (Q : Int → zH → Prop) : Prop :=
∃ n25, P_C_also_L25 y1 Q (fun u2_57 h3 =>
if u2_57 = 0 then
(Q 0 h3)
else
(∀ h4 : zH, h4 = zw h3 14 14 (w32 ((zd h3 14 14) + 1)) →
(0 ≤ zd h3 14 14 ∧ zd h3 14 14 < 6000) ∧
∀ h5 : zH, h5 = zw h4 20 (zd h3 14 14) y1 →
Q 0 h5)) n25 y2 s0 h
theorem W_C_also_J24 (y1 : Int) (y2 : Int) (s0 : Int) (h : zH) (Q : Int → zH → Prop) (hP : P_C_also_J24 y1 y2 s0 h Q) : zV true zy_X0_also 1 24 [zR 14, zI y1, zI y2, zU] [zI s0] h (zQ0 Q) := by
  unfold P_C_also_J24 at hP
  refine zV_istore_n (ls' := [zR 14, zI y1, zI y2, zI s0]) dX0_also_24 rfl (Nat.le_of_ble_eq_true rfl) rfl rfl ?_
  obtain ⟨n25, hP⟩ := hP
  refine W_C_also_L25 _ _ _ (fun u2_57 h3 hP => ?_) n25 _ _ _ hP
  refine zV_iload_n dX0_also_57 rfl ?_
  refine zV_if_eq (tgt := 78) dX0_also_58 (by decide) (fun c => ?_) (fun c => ?_)
  · have hP := zif_p hP c
    exact zV_return dX0_also_78 rfl ⟨rfl, hP⟩
  · have hP := zif_n hP c
    refine zV_aload_n dX0_also_61 rfl ?_
    refine zV_sg dX0_also_62 fm_14_11 sa_14 (by decide) fl_X0_31_0 rfl ?_
    refine zV_aload_n dX0_also_65 rfl ?_
    refine zV_dup dX0_also_66 (Nat.ne_of_beq_eq_false rfl) ?_
    refine zV_gf dX0_also_67 sa_14 (by decide) fl_X0_181_0 rfl (ki := 14) rfl ?_
    refine zV_dup_x1 dX0_also_70 (Nat.ne_of_beq_eq_false rfl) (Nat.ne_of_beq_eq_false rfl) ?_
    refine zV_iconst dX0_also_71 ⟨by decide, by decide⟩ ?_
    refine zV_iadd dX0_also_72 ?_
    refine zV_pf dX0_also_73 sa_14 (by decide) fl_X0_181_0 rfl rfl trivial (ki := 14) rfl (fun h4 e_h4 => ?_)
    have hP := hP h4 e_h4
    refine zV_iload_n dX0_also_76 rfl ?_
    obtain ⟨ob, hP⟩ := hP
    refine zV_ias dX0_also_77 sa_20 ob (fun h5 e_h5 => ?_)
    have hP := hP h5 e_h5
    exact zV_return dX0_also_78 rfl ⟨rfl, hP⟩
def P_C_also (a1 : Int) (h : zH) (Q : Int → zH → Prop) : Prop :=
(if zd h 14 13 = 0 then True else (0 ≤ w32 ((zd h 14 13) - 1) ∧ w32 ((zd h 14 13) - 1) < 700) ∧ True) ∧
P_C_also_J24 a1 1 (if zd h 14 13 = 0 then 0 else zd h 21 (w32 ((zd h 14 13) - 1))) h Q
theorem W_C_also (a1 : Int) (h : zH) (Q : Int → zH → Prop) (hP : P_C_also a1 h Q) : zC true zy_X0_also 1 [zR 14, zI a1] h (zQ0 Q) := by
  unfold P_C_also at hP
  refine zC.of (by decide) (Nat.le_of_ble_eq_true rfl) ?_
  show zV true zy_X0_also 1 0 [zR 14, zI a1, zU, zU] [] h (zQ0 Q)
  refine zV_iconst dX0_also_0 ⟨by decide, by decide⟩ ?_
  refine zV_istore_n (ls' := [zR 14, zI a1, zI 1, zU]) dX0_also_1 rfl (Nat.le_of_ble_eq_true rfl) rfl rfl ?_
  refine zV_aload_n dX0_also_2 rfl ?_
  refine zV_gf dX0_also_3 sa_14 (by decide) fl_X0_178_0 rfl (ki := 13) rfl ?_
  obtain ⟨hO, hP⟩ := hP
  have K : zV true zy_X0_also 1 24 [zR 14, zI a1, zI 1, zU] [zI (if zd h 14 13 = 0 then 0 else zd h 21 (w32 ((zd h 14 13) - 1)))] h (zQ0 Q) := by
    exact W_C_also_J24 _ _ _ _ _ hP
  clear hP
  refine zV_if_ne (tgt := 13) dX0_also_6 (by decide) (fun c => ?_) (fun c => ?_)
  · try simp only [if_neg c] at K
    have hO := zif_n hO c
    refine zV_aload_n dX0_also_13 rfl ?_
    refine zV_sg dX0_also_14 fm_14_12 sa_14 (by decide) fl_X0_34_0 rfl ?_
    refine zV_aload_n dX0_also_17 rfl ?_
    refine zV_gf dX0_also_18 sa_14 (by decide) fl_X0_178_0 rfl (ki := 13) rfl ?_
    refine zV_iconst dX0_also_21 ⟨by decide, by decide⟩ ?_
    refine zV_isub dX0_also_22 ?_
    obtain ⟨ob, hO⟩ := hO
    refine zV_ia dX0_also_23 sa_21 ob ?_
    refine zV_mask [true, true, true, false] rfl ?_
    exact K
  · try simp only [if_pos c] at K
    have hO := zif_p hO c
    refine zV_iconst dX0_also_9 ⟨by decide, by decide⟩ ?_
    refine zV_goto (tgt := 24) dX0_also_10 (by decide) ?_
    refine zV_mask [true, true, true, false] rfl ?_
    exact K
def P_C_endRow (h : zH) (Q : Int → zH → Prop) : Prop :=
∀ h1 : zH, h1 = zw h 14 13 (w32 ((zd h 14 13) + 1)) →
(0 ≤ zd h 14 13 ∧ zd h 14 13 < 700) ∧
∀ h2 : zH, h2 = zw h1 21 (zd h 14 13) (zd h1 14 14) →
Q 0 h2
theorem W_C_endRow (h : zH) (Q : Int → zH → Prop) (hP : P_C_endRow  h Q) : zC true zy_X0_endRow 1 [zR 14] h (zQ0 Q) := by
  unfold P_C_endRow at hP
  refine zC.of (by decide) (Nat.le_of_ble_eq_true rfl) ?_
  show zV true zy_X0_endRow 1 0 [zR 14] [] h (zQ0 Q)
  refine zV_aload_n dX0_endRow_0 rfl ?_
  refine zV_sg dX0_endRow_1 fm_14_12 sa_14 (by decide) fl_X0_34_0 rfl ?_
  refine zV_aload_n dX0_endRow_4 rfl ?_
  refine zV_dup dX0_endRow_5 (Nat.ne_of_beq_eq_false rfl) ?_
  refine zV_gf dX0_endRow_6 sa_14 (by decide) fl_X0_178_0 rfl (ki := 13) rfl ?_
  refine zV_dup_x1 dX0_endRow_9 (Nat.ne_of_beq_eq_false rfl) (Nat.ne_of_beq_eq_false rfl) ?_
  refine zV_iconst dX0_endRow_10 ⟨by decide, by decide⟩ ?_
  refine zV_iadd dX0_endRow_11 ?_
  refine zV_pf dX0_endRow_12 sa_14 (by decide) fl_X0_178_0 rfl rfl trivial (ki := 13) rfl (fun h1 e_h1 => ?_)
  have hP := hP h1 e_h1
  refine zV_aload_n dX0_endRow_15 rfl ?_
  refine zV_gf dX0_endRow_16 sa_14 (by decide) fl_X0_181_0 rfl (ki := 14) rfl ?_
  obtain ⟨ob, hP⟩ := hP
  refine zV_ias dX0_endRow_19 sa_21 ob (fun h2 e_h2 => ?_)
  have hP := hP h2 e_h2
  exact zV_return dX0_endRow_20 rfl ⟨rfl, hP⟩
def P_Cl_lay_L10 (y0 : Int) (y1 : Int) (y2 : Int) (Q : Int → zH → Prop) : Nat → Int → zH → Prop
| 0, _, _ => False
| n10 + 1, y3, h =>
if y2 ≤ y3 then
(((zt h y0 = 5 ∨ zt h y0 = 6 ∨ zt h y0 = 7 ∨ zt h y0 = 12) ∧ zd h y0 5 = 14) ∧
P_C_endRow h (fun r3 h4 =>
Q 0 h4))
else
((zt h y1 = 50 ∧ 0 ≤ y3 ∧ y3 < zl h y1) ∧
∀ x4_5 : Int, x4_5 = (zd h y1 y3) →
((zt h y0 = 5 ∨ zt h y0 = 6 ∨ zt h y0 = 7 ∨ zt h y0 = 12) ∧ zd h y0 5 = 14) ∧
P_C_also x4_5 h (fun r6 h7 =>
∀ x3_8 : Int, x3_8 = w32 (y3 + 1) →
P_Cl_lay_L10 y0 y1 y2 Q n10 x3_8 h7))
theorem W_Cl_lay_L10 (y0 : Int) (y1 : Int) (y2 : Int) (Q : Int → zH → Prop) : ∀ (n10 : Nat) (y3 : Int) (h : zH), P_Cl_lay_L10 y0 y1 y2 Q n10 y3 h → zV true zy_X6_lay 2 10 [zR y0, zR y1, zI y2, zI y3, zU] [] h (zQ0 Q) := by
  intro n10
  induction n10 with
  | zero => intro y3 h hP; exact absurd hP id
  | succ n10 ih =>
    intro y3 h hP
    unfold P_Cl_lay_L10 at hP
    refine zV_iload_n dX6_lay_10 rfl ?_
    refine zV_iload_n dX6_lay_11 rfl ?_
    refine zV_icmp_ge (tgt := 35) dX6_lay_12 (by decide) (fun c => ?_) (fun c => ?_)
    · have hP := zif_p hP c
      refine zV_aload_n dX6_lay_35 rfl ?_
      obtain ⟨ob, hP⟩ := hP
      refine zV_gM [5, 6, 7, 12] dX6_lay_36 (by rcases ob.1 with o | o | o | o <;> exact ⟨_, by decide, o⟩) gm_X6_3 (ki := 5) rfl ?_
      refine zV_top (fun x0 e_x0 => ?_)
      obtain rfl := e_x0.trans ob.2
      refine zV_cVv (As := []) (rest := []) dX6_lay_39 sa_14 (W_C_endRow _ _ hP) mi_X0_endRow ml_X6_44 (by decide) (Nat.le_of_ble_eq_true rfl) rfl rfl (fun r3 h4 hP => ?_)
      exact zV_return dX6_lay_42 rfl ⟨rfl, hP⟩
    · have hP := zif_n hP c
      refine zV_aload_n dX6_lay_15 rfl ?_
      refine zV_iload_n dX6_lay_16 rfl ?_
      obtain ⟨ob, hP⟩ := hP
      refine zV_iaD dX6_lay_17 ob ?_
      refine zV_top (fun x4_5 e_x4_5 => ?_)
      have hP := hP x4_5 e_x4_5
      refine zV_istore (ls' := [zR y0, zR y1, zI y2, zI y3, zI x4_5]) dX6_lay_18 (Nat.le_of_ble_eq_true rfl) rfl rfl ?_
      refine zV_aload_n dX6_lay_20 rfl ?_
      obtain ⟨ob, hP⟩ := hP
      refine zV_gM [5, 6, 7, 12] dX6_lay_21 (by rcases ob.1 with o | o | o | o <;> exact ⟨_, by decide, o⟩) gm_X6_3 (ki := 5) rfl ?_
      refine zV_top (fun x0 e_x0 => ?_)
      obtain rfl := e_x0.trans ob.2
      refine zV_iload dX6_lay_24 rfl ?_
      refine zV_cVv (As := [zI x4_5]) (rest := []) dX6_lay_26 sa_14 (W_C_also _ _ _ hP) mi_X0_also ml_X6_41 (by decide) (Nat.le_of_ble_eq_true rfl) rfl rfl (fun r6 h7 hP => ?_)
      refine zV_inc (ls' := fun z => [zR y0, zR y1, zI y2, zI z, zI x4_5]) dX6_lay_29 (Nat.le_of_ble_eq_true rfl) rfl rfl (fun _ => rfl) (fun x3_8 e_x3_8 => ?_)
      have hP := hP x3_8 e_x3_8
      refine zV_goto (tgt := 10) dX6_lay_32 (by decide) ?_
      refine zV_mask [true, true, true, true, false] (ls' := [zR y0, zR y1, zI y2, zI x3_8, zU]) rfl ?_
      exact ih _ _ hP
def P_Cl_lay (a0 : Int) (h : zH) (Q : Int → zH → Prop) : Prop :=
(zt h a0 = 5 ∨ zt h a0 = 6 ∨ zt h a0 = 7 ∨ zt h a0 = 12) ∧
∀ x1_1 : Int, x1_1 = (zd h a0 1) →
(zt h x1_1 = 50) ∧
∀ x2_2 : Int, x2_2 = (zl h x1_1) →
∃ n10, P_Cl_lay_L10 a0 x1_1 x2_2 Q n10 0 h
theorem W_Cl_lay (a0 : Int) (h : zH) (Q : Int → zH → Prop) (hP : P_Cl_lay a0 h Q) : zC true zy_X6_lay 2 [zR a0] h (zQ0 Q) := by
  unfold P_Cl_lay at hP
  refine zC.of (by decide) (Nat.le_of_ble_eq_true rfl) ?_
  show zV true zy_X6_lay 2 0 [zR a0, zU, zU, zU, zU] [] h (zQ0 Q)
  refine zV_aload_n dX6_lay_0 rfl ?_
  obtain ⟨ob, hP⟩ := hP
  refine zV_gM [5, 6, 7, 12] dX6_lay_1 (by rcases ob with o | o | o | o <;> exact ⟨_, by decide, o⟩) gm_X6_37 (ki := 1) rfl ?_
  refine zV_top (fun x1_1 e_x1_1 => ?_)
  have hP := hP x1_1 e_x1_1
  refine zV_astore_n (ls' := [zR a0, zR x1_1, zU, zU, zU]) dX6_lay_4 rfl (Nat.le_of_ble_eq_true rfl) rfl rfl ?_
  refine zV_aload_n dX6_lay_5 rfl ?_
  obtain ⟨ob, hP⟩ := hP
  refine zV_alD dX6_lay_6 (Or.inl ob) ?_
  refine zV_top (fun x2_2 e_x2_2 => ?_)
  have hP := hP x2_2 e_x2_2
  refine zV_istore_n (ls' := [zR a0, zR x1_1, zI x2_2, zU, zU]) dX6_lay_7 rfl (Nat.le_of_ble_eq_true rfl) rfl rfl ?_
  refine zV_iconst dX6_lay_8 ⟨by decide, by decide⟩ ?_
  refine zV_istore_n (ls' := [zR a0, zR x1_1, zI x2_2, zI 0, zU]) dX6_lay_9 rfl (Nat.le_of_ble_eq_true rfl) rfl rfl ?_
  obtain ⟨n10, hP⟩ := hP
  refine W_Cl_lay_L10 _ _ _ _ n10 _ _ hP
def P_Cl_holds (a0 : Int) (h : zH) (Q : Int → zH → Prop) : Prop :=
((zt h a0 = 5 ∨ zt h a0 = 6 ∨ zt h a0 = 7 ∨ zt h a0 = 12) ∧ zd h a0 5 = 14) ∧
P_C_body 0 h (fun r1 h2 =>
(zt h2 a0 = 5 ∨ zt h2 a0 = 6 ∨ zt h2 a0 = 7 ∨ zt h2 a0 = 12) ∧
P_Ru_trues a0 h2 (fun r3 h4 =>
Q (if r3 ≤ 0 then 0 else 1) h4))
theorem W_Cl_holds (a0 : Int) (h : zH) (Q : Int → zH → Prop) (hP : P_Cl_holds a0 h Q) : zC true zy_X6_holds 4 [zR a0, zR 91] h (zQ0 Q) := by
  unfold P_Cl_holds at hP
  refine zC.of (by decide) (Nat.le_of_ble_eq_true rfl) ?_
  show zV true zy_X6_holds 4 0 [zR a0, zR 91] [] h (zQ0 Q)
  refine zV_aload_n dX6_holds_0 rfl ?_
  obtain ⟨ob, hP⟩ := hP
  refine zV_gM [5, 6, 7, 12] dX6_holds_1 (by rcases ob.1 with o | o | o | o <;> exact ⟨_, by decide, o⟩) gm_X6_3 (ki := 5) rfl ?_
  refine zV_top (fun x0 e_x0 => ?_)
  obtain rfl := e_x0.trans ob.2
  refine zV_iconst dX6_holds_4 ⟨by decide, by decide⟩ ?_
  refine zV_cVv (As := [zI 0]) (rest := []) dX6_holds_5 sa_14 (W_C_body _ _ _ hP) mi_X0_body ml_X6_15 (by decide) (Nat.le_of_ble_eq_true rfl) rfl rfl (fun r1 h2 hP => ?_)
  refine zV_aload_n dX6_holds_8 rfl ?_
  refine zV_aload_n dX6_holds_9 rfl ?_
  obtain ⟨ob, hP⟩ := hP
  have K : ∀ (r3 : Int) (h4 : zH), (Q (if r3 ≤ 0 then 0 else 1) h4) → zV true zy_X6_holds 4 13 [zR a0, zR 91] [zI r3] h4 (zQ0 Q) := by
    intro r3 h4 hP
    have K : zV true zy_X6_holds 4 21 [zU, zU] [zI (if r3 ≤ 0 then 0 else 1)] h4 (zQ0 Q) := by
      exact zV_ireturn dX6_holds_21 rfl rfl (z01 (z01_if z0 z1)) ⟨rfl, hP⟩
    clear hP
    refine zV_if_le (tgt := 20) dX6_holds_13 (by decide) (fun c => ?_) (fun c => ?_)
    · try simp only [if_pos c] at K
      refine zV_iconst dX6_holds_20 ⟨by decide, by decide⟩ ?_
      refine zV_mask [false, false] rfl ?_
      exact K
    · try simp only [if_neg c] at K
      refine zV_iconst dX6_holds_16 ⟨by decide, by decide⟩ ?_
      refine zV_goto (tgt := 21) dX6_holds_17 (by decide) ?_
      refine zV_mask [false, false] rfl ?_
      exact K
  rcases ob with ob | ob | ob | ob
  · exact zV_cUk (As := [zR 91]) (rest := []) dX6_holds_10 ob (W_Ru_trues _ _ _ hP) ul_X6_19_5 (by decide) (Nat.le_of_ble_eq_true rfl) rfl rfl rfl K
  · exact zV_cUk (As := [zR 91]) (rest := []) dX6_holds_10 ob (W_Ru_trues _ _ _ hP) ul_X6_19_6 (by decide) (Nat.le_of_ble_eq_true rfl) rfl rfl rfl K
  · exact zV_cUk (As := [zR 91]) (rest := []) dX6_holds_10 ob (W_Ru_trues _ _ _ hP) ul_X6_19_7 (by decide) (Nat.le_of_ble_eq_true rfl) rfl rfl rfl K
  · exact zV_cUk (As := [zR 91]) (rest := []) dX6_holds_10 ob (W_Ru_trues _ _ _ hP) ul_X6_19_12 (by decide) (Nat.le_of_ble_eq_true rfl) rfl rfl rfl K
def P_Cl_least (a0 : Int) (h : zH) (Q : Int → zH → Prop) : Prop :=
((zt h a0 = 5 ∨ zt h a0 = 6 ∨ zt h a0 = 7 ∨ zt h a0 = 12) ∧ zd h a0 5 = 14) ∧
P_C_body 1 h (fun r1 h2 =>
(zt h2 a0 = 5 ∨ zt h2 a0 = 6 ∨ zt h2 a0 = 7 ∨ zt h2 a0 = 12) ∧
P_Ru_least a0 h2 (fun r3 h4 =>
Q (w32 (r3 + 1)) h4))
theorem W_Cl_least (a0 : Int) (h : zH) (Q : Int → zH → Prop) (hP : P_Cl_least a0 h Q) : zC true zy_X6_least 3 [zR a0] h (zQ0 Q) := by
  unfold P_Cl_least at hP
  refine zC.of (by decide) (Nat.le_of_ble_eq_true rfl) ?_
  show zV true zy_X6_least 3 0 [zR a0] [] h (zQ0 Q)
  refine zV_aload_n dX6_least_0 rfl ?_
  obtain ⟨ob, hP⟩ := hP
  refine zV_gM [5, 6, 7, 12] dX6_least_1 (by rcases ob.1 with o | o | o | o <;> exact ⟨_, by decide, o⟩) gm_X6_3 (ki := 5) rfl ?_
  refine zV_top (fun x0 e_x0 => ?_)
  obtain rfl := e_x0.trans ob.2
  refine zV_iconst dX6_least_4 ⟨by decide, by decide⟩ ?_
  refine zV_cVv (As := [zI 1]) (rest := []) dX6_least_5 sa_14 (W_C_body _ _ _ hP) mi_X0_body ml_X6_15 (by decide) (Nat.le_of_ble_eq_true rfl) rfl rfl (fun r1 h2 hP => ?_)
  refine zV_aload_n dX6_least_8 rfl ?_
  obtain ⟨ob, hP⟩ := hP
  refine zV_cSUk (As := []) (rest := []) [5, 6, 7, 12] (by decide) dX6_least_9 (by rcases ob with o | o | o | o <;> exact ⟨_, by decide, o⟩) (W_Ru_least _ _ _ hP) su_X6_23 (by decide) (Nat.le_of_ble_eq_true rfl) rfl rfl rfl (fun r3 h4 hP => ?_)
  refine zV_iconst dX6_least_12 ⟨by decide, by decide⟩ ?_
  refine zV_iadd dX6_least_13 ?_
  exact zV_ireturn dX6_least_14 rfl rfl rfl ⟨rfl, hP⟩
def P_Am_init (a0 : Int) (a2 : Int) (a3 : Int) (a4 : Int) (h : zH) (Q : Int → zH → Prop) : Prop :=
(zt h a0 = 6 ∨ zt h a0 = 7) ∧
∀ h1 : zH, h1 = zw h a0 7 14 →
(zt h1 a0 = 5 ∨ zt h1 a0 = 6 ∨ zt h1 a0 = 7 ∨ zt h1 a0 = 12) ∧
P_Cl_init a0 a2 a3 h1 (fun r2 h3 =>
(zt h3 a0 = 6 ∨ zt h3 a0 = 7) ∧
∀ h4 : zH, h4 = zw h3 a0 6 a4 →
Q 0 h4)
theorem W_Am_init (a0 : Int) (a2 : Int) (a3 : Int) (a4 : Int) (h : zH) (Q : Int → zH → Prop) (hP : P_Am_init a0 a2 a3 a4 h Q) : zC true zy_X7_init 4 [zR a0, zR 14, zI a2, zR a3, zI a4] h (zQ0 Q) := by
  unfold P_Am_init at hP
  refine zC.of (by decide) (Nat.le_of_ble_eq_true rfl) ?_
  show zV true zy_X7_init 4 0 [zR a0, zR 14, zI a2, zR a3, zI a4] [] h (zQ0 Q)
  refine zV_aload_n dX7_init_0 rfl ?_
  refine zV_aload_n dX7_init_1 rfl ?_
  obtain ⟨ob, hP⟩ := hP
  refine zV_pM (κ := 2) [6, 7] dX7_init_2 (by rcases ob with o | o <;> exact ⟨_, by decide, o⟩) ?_ (ki := 7) rfl (fun h1 e_h1 => ?_)
  · intro t ht
    simp only [List.mem_cons, List.not_mem_nil, or_false] at ht
    rcases ht with rfl | rfl
    · exact ⟨by decide, by decide, fl_X7_3_6, rfl, Or.inr ⟨rfl, rfl⟩, trivial⟩
    · exact ⟨by decide, by decide, fl_X7_3_7, rfl, Or.inr ⟨rfl, rfl⟩, trivial⟩
  have hP := hP h1 e_h1
  refine zV_aload_n dX7_init_5 rfl ?_
  refine zV_aload_n dX7_init_6 rfl ?_
  refine zV_iload_n dX7_init_7 rfl ?_
  refine zV_aload_n dX7_init_8 rfl ?_
  obtain ⟨ob, hP⟩ := hP
  refine zV_cIM (As := [zR 14, zI a2, zR a3]) (rest := []) [5, 6, 7, 12] (by decide) dX7_init_9 (by rcases ob with o | o | o | o <;> exact ⟨_, by decide, o⟩) (W_Cl_init _ _ _ _ _ hP) mc_X6_init ml_X7_9 (by decide) (Nat.le_of_ble_eq_true rfl) rfl (fun r2 h3 hP => ?_)
  refine zV_aload_n dX7_init_12 rfl ?_
  refine zV_iload dX7_init_13 rfl ?_
  obtain ⟨ob, hP⟩ := hP
  refine zV_pM (κ := 0) [6, 7] dX7_init_15 (by rcases ob with o | o <;> exact ⟨_, by decide, o⟩) ?_ (ki := 6) rfl (fun h4 e_h4 => ?_)
  · intro t ht
    simp only [List.mem_cons, List.not_mem_nil, or_false] at ht
    rcases ht with rfl | rfl
    · exact ⟨by decide, by decide, fl_X7_15_6, rfl, Or.inr ⟨rfl, rfl⟩, trivial⟩
    · exact ⟨by decide, by decide, fl_X7_15_7, rfl, Or.inr ⟨rfl, rfl⟩, trivial⟩
  have hP := hP h4 e_h4
  exact zV_return dX7_init_18 rfl ⟨rfl, hP⟩
def P_C_newName (h : zH) (Q : Int → zH → Prop) : Prop :=
∀ h1 : zH, h1 = zw h 14 15 (w32 ((zd h 14 15) + 1)) →
Q (zd h1 14 15) h1
theorem W_C_newName (h : zH) (Q : Int → zH → Prop) (hP : P_C_newName  h Q) : zC true zy_X0_newName 1 [zR 14] h (zQ0 Q) := by
  unfold P_C_newName at hP
  refine zC.of (by decide) (Nat.le_of_ble_eq_true rfl) ?_
  show zV true zy_X0_newName 1 0 [zR 14] [] h (zQ0 Q)
  refine zV_aload_n dX0_newName_0 rfl ?_
  refine zV_dup dX0_newName_1 (Nat.ne_of_beq_eq_false rfl) ?_
  refine zV_gf dX0_newName_2 sa_14 (by decide) fl_X0_184_0 rfl (ki := 15) rfl ?_
  refine zV_iconst dX0_newName_5 ⟨by decide, by decide⟩ ?_
  refine zV_iadd dX0_newName_6 ?_
  refine zV_pf dX0_newName_7 sa_14 (by decide) fl_X0_184_0 rfl rfl trivial (ki := 15) rfl (fun h1 e_h1 => ?_)
  have hP := hP h1 e_h1
  refine zV_aload_n dX0_newName_10 rfl ?_
  refine zV_gf dX0_newName_11 sa_14 (by decide) fl_X0_184_0 rfl (ki := 15) rfl ?_
  exact zV_ireturn dX0_newName_14 rfl rfl rfl ⟨rfl, hP⟩
def P_C_plan_2 (a1 : Int) (h : zH) (Q : Int → zH → Prop) : Prop :=
P_C_also a1 h (fun r1 h2 =>
P_C_endRow h2 (fun r3 h4 =>
Q 0 h4))
theorem W_C_plan_2 (a1 : Int) (h : zH) (Q : Int → zH → Prop) (hP : P_C_plan_2 a1 h Q) : zC true zy_X0_plan_2 2 [zR 14, zI a1] h (zQ0 Q) := by
  unfold P_C_plan_2 at hP
  refine zC.of (by decide) (Nat.le_of_ble_eq_true rfl) ?_
  show zV true zy_X0_plan_2 2 0 [zR 14, zI a1] [] h (zQ0 Q)
  refine zV_aload_n dX0_plan_2_0 rfl ?_
  refine zV_iload_n dX0_plan_2_1 rfl ?_
  refine zV_cVv (As := [zI a1]) (rest := []) dX0_plan_2_2 sa_14 (W_C_also _ _ _ hP) mi_X0_also ml_X0_187 (by decide) (Nat.le_of_ble_eq_true rfl) rfl rfl (fun r1 h2 hP => ?_)
  refine zV_aload_n dX0_plan_2_5 rfl ?_
  refine zV_cVv (As := []) (rest := []) dX0_plan_2_6 sa_14 (W_C_endRow _ _ hP) mi_X0_endRow ml_X0_190 (by decide) (Nat.le_of_ble_eq_true rfl) rfl rfl (fun r3 h4 hP => ?_)
  exact zV_return dX0_plan_2_9 rfl ⟨rfl, hP⟩
def P_C_plan (a1 : Int) (a2 : Int) (h : zH) (Q : Int → zH → Prop) : Prop :=
P_C_also a1 h (fun r1 h2 =>
P_C_plan_2 a2 h2 (fun r3 h4 =>
Q 0 h4))
theorem W_C_plan (a1 : Int) (a2 : Int) (h : zH) (Q : Int → zH → Prop) (hP : P_C_plan a1 a2 h Q) : zC true zy_X0_plan 3 [zR 14, zI a1, zI a2] h (zQ0 Q) := by
  unfold P_C_plan at hP
  refine zC.of (by decide) (Nat.le_of_ble_eq_true rfl) ?_
  show zV true zy_X0_plan 3 0 [zR 14, zI a1, zI a2] [] h (zQ0 Q)
  refine zV_aload_n dX0_plan_0 rfl ?_
  refine zV_iload_n dX0_plan_1 rfl ?_
  refine zV_cVv (As := [zI a1]) (rest := []) dX0_plan_2 sa_14 (W_C_also _ _ _ hP) mi_X0_also ml_X0_187 (by decide) (Nat.le_of_ble_eq_true rfl) rfl rfl (fun r1 h2 hP => ?_)
  refine zV_aload_n dX0_plan_5 rfl ?_
  refine zV_iload_n dX0_plan_6 rfl ?_
  refine zV_cVv (As := [zI a2]) (rest := []) dX0_plan_7 sa_14 (W_C_plan_2 _ _ _ hP) mi_X0_plan_2 ml_X0_193 (by decide) (Nat.le_of_ble_eq_true rfl) rfl rfl (fun r3 h4 hP => ?_)
  exact zV_return dX0_plan_10 rfl ⟨rfl, hP⟩
def P_C_plan_3 (a1 : Int) (a2 : Int) (a3 : Int) (h : zH) (Q : Int → zH → Prop) : Prop :=
P_C_also a1 h (fun r1 h2 =>
P_C_plan a2 a3 h2 (fun r3 h4 =>
Q 0 h4))
theorem W_C_plan_3 (a1 : Int) (a2 : Int) (a3 : Int) (h : zH) (Q : Int → zH → Prop) (hP : P_C_plan_3 a1 a2 a3 h Q) : zC true zy_X0_plan_3 4 [zR 14, zI a1, zI a2, zI a3] h (zQ0 Q) := by
  unfold P_C_plan_3 at hP
  refine zC.of (by decide) (Nat.le_of_ble_eq_true rfl) ?_
  show zV true zy_X0_plan_3 4 0 [zR 14, zI a1, zI a2, zI a3] [] h (zQ0 Q)
  refine zV_aload_n dX0_plan_3_0 rfl ?_
  refine zV_iload_n dX0_plan_3_1 rfl ?_
  refine zV_cVv (As := [zI a1]) (rest := []) dX0_plan_3_2 sa_14 (W_C_also _ _ _ hP) mi_X0_also ml_X0_187 (by decide) (Nat.le_of_ble_eq_true rfl) rfl rfl (fun r1 h2 hP => ?_)
  refine zV_aload_n dX0_plan_3_5 rfl ?_
  refine zV_iload_n dX0_plan_3_6 rfl ?_
  refine zV_iload_n dX0_plan_3_7 rfl ?_
  refine zV_cVv (As := [zI a2, zI a3]) (rest := []) dX0_plan_3_8 sa_14 (W_C_plan _ _ _ _ hP) mi_X0_plan ml_X0_196 (by decide) (Nat.le_of_ble_eq_true rfl) rfl rfl (fun r3 h4 hP => ?_)
  exact zV_return dX0_plan_3_11 rfl ⟨rfl, hP⟩
def P_Am_counter_J108 (y0 : Int) (y3 : Int) (y4 : Int) (h : zH) (Q : Int → zH → Prop) : Prop :=
if y3 = 0 then
(Q y4 h)
else
(((zt h y0 = 6 ∨ zt h y0 = 7) ∧ zd h y0 7 = 14) ∧
P_C_plan y3 (w32 (-y4)) h (fun r7 h8 =>
Q y4 h8))
theorem W_Am_counter_J108 (y0 : Int) (y3 : Int) (y4 : Int) (h : zH) (Q : Int → zH → Prop) (hP : P_Am_counter_J108 y0 y3 y4 h Q) : zV true zy_X7_counter 5 108 [zR y0, zU, zU, zI y3, zI y4] [] h (zQ0 Q) := by
  unfold P_Am_counter_J108 at hP
  refine zV_iload_n dX7_counter_108 rfl ?_
  refine zV_if_eq (tgt := 123) dX7_counter_109 (by decide) (fun c => ?_) (fun c => ?_)
  · have hP := zif_p hP c
    refine zV_iload dX7_counter_123 rfl ?_
    exact zV_ireturn dX7_counter_125 rfl rfl rfl ⟨rfl, hP⟩
  · have hP := zif_n hP c
    refine zV_aload_n dX7_counter_112 rfl ?_
    obtain ⟨ob, hP⟩ := hP
    refine zV_gM [6, 7] dX7_counter_113 (by rcases ob.1 with o | o <;> exact ⟨_, by decide, o⟩) gm_X7_3 (ki := 7) rfl ?_
    refine zV_top (fun x0 e_x0 => ?_)
    obtain rfl := e_x0.trans ob.2
    refine zV_iload_n dX7_counter_116 rfl ?_
    refine zV_iload dX7_counter_117 rfl ?_
    refine zV_ineg dX7_counter_119 ?_
    refine zV_cVv (As := [zI y3, zI (w32 (-y4))]) (rest := []) dX7_counter_120 sa_14 (W_C_plan _ _ _ _ hP) mi_X0_plan ml_X7_64 (by decide) (Nat.le_of_ble_eq_true rfl) rfl rfl (fun r7 h8 hP => ?_)
    refine zV_iload dX7_counter_123 rfl ?_
    exact zV_ireturn dX7_counter_125 rfl rfl rfl ⟨rfl, hP⟩
def P_Am_counter_J85 (y0 : Int) (y2 : Int) (y3 : Int) (y4 : Int) (h : zH) (Q : Int → zH → Prop) : Prop :=
if y3 = 0 then
(P_Am_counter_J108 y0 y3 y4 h Q)
else
(if y2 = 0 then
(P_Am_counter_J108 y0 y3 y4 h Q)
else
(((zt h y0 = 6 ∨ zt h y0 = 7) ∧ zd h y0 7 = 14) ∧
P_C_plan_3 y2 y3 (w32 (-y4)) h (fun r9 h10 =>
Q y4 h10)))
theorem W_Am_counter_J85 (y0 : Int) (y2 : Int) (y3 : Int) (y4 : Int) (h : zH) (Q : Int → zH → Prop) (hP : P_Am_counter_J85 y0 y2 y3 y4 h Q) : zV true zy_X7_counter 5 85 [zR y0, zU, zI y2, zI y3, zI y4] [] h (zQ0 Q) := by
  unfold P_Am_counter_J85 at hP
  refine zV_iload_n dX7_counter_85 rfl ?_
  refine zV_if_eq (tgt := 108) dX7_counter_86 (by decide) (fun c => ?_) (fun c => ?_)
  · have hP := zif_p hP c
    refine zV_mask [true, true, false, true, true] (ls' := [zR y0, zU, zU, zI y3, zI y4]) rfl ?_
    exact W_Am_counter_J108 _ _ _ _ _ hP
  · have hP := zif_n hP c
    refine zV_iload_n dX7_counter_89 rfl ?_
    refine zV_if_eq (tgt := 108) dX7_counter_90 (by decide) (fun c => ?_) (fun c => ?_)
    · have hP := zif_p hP c
      refine zV_mask [true, true, false, true, true] (ls' := [zR y0, zU, zU, zI y3, zI y4]) rfl ?_
      exact W_Am_counter_J108 _ _ _ _ _ hP
    · have hP := zif_n hP c
      refine zV_aload_n dX7_counter_93 rfl ?_
      obtain ⟨ob, hP⟩ := hP
      refine zV_gM [6, 7] dX7_counter_94 (by rcases ob.1 with o | o <;> exact ⟨_, by decide, o⟩) gm_X7_3 (ki := 7) rfl ?_
      refine zV_top (fun x0 e_x0 => ?_)
      obtain rfl := e_x0.trans ob.2
      refine zV_iload_n dX7_counter_97 rfl ?_
      refine zV_iload_n dX7_counter_98 rfl ?_
      refine zV_iload dX7_counter_99 rfl ?_
      refine zV_ineg dX7_counter_101 ?_
      refine zV_cVv (As := [zI y2, zI y3, zI (w32 (-y4))]) (rest := []) dX7_counter_102 sa_14 (W_C_plan_3 _ _ _ _ _ hP) mi_X0_plan_3 ml_X7_68 (by decide) (Nat.le_of_ble_eq_true rfl) rfl rfl (fun r9 h10 hP => ?_)
      refine zV_goto (tgt := 123) dX7_counter_105 (by decide) ?_
      refine zV_iload dX7_counter_123 rfl ?_
      exact zV_ireturn dX7_counter_125 rfl rfl rfl ⟨rfl, hP⟩
def P_Am_counter_J55 (y0 : Int) (y1 : Int) (y2 : Int) (y3 : Int) (y4 : Int) (h : zH) (Q : Int → zH → Prop) : Prop :=
if y2 = 0 then
(((zt h y0 = 6 ∨ zt h y0 = 7) ∧ zd h y0 7 = 14) ∧
P_C_plan y1 (w32 (-y4)) h (fun r5 h6 =>
P_Am_counter_J85 y0 y2 y3 y4 h6 Q))
else
(((zt h y0 = 6 ∨ zt h y0 = 7) ∧ zd h y0 7 = 14) ∧
P_C_plan_3 y2 y1 (w32 (-y4)) h (fun r11 h12 =>
P_Am_counter_J85 y0 y2 y3 y4 h12 Q))
theorem W_Am_counter_J55 (y0 : Int) (y1 : Int) (y2 : Int) (y3 : Int) (y4 : Int) (h : zH) (Q : Int → zH → Prop) (hP : P_Am_counter_J55 y0 y1 y2 y3 y4 h Q) : zV true zy_X7_counter 5 55 [zR y0, zI y1, zI y2, zI y3, zI y4] [] h (zQ0 Q) := by
  unfold P_Am_counter_J55 at hP
  refine zV_iload_n dX7_counter_55 rfl ?_
  refine zV_if_eq (tgt := 74) dX7_counter_56 (by decide) (fun c => ?_) (fun c => ?_)
  · have hP := zif_p hP c
    refine zV_aload_n dX7_counter_74 rfl ?_
    obtain ⟨ob, hP⟩ := hP
    refine zV_gM [6, 7] dX7_counter_75 (by rcases ob.1 with o | o <;> exact ⟨_, by decide, o⟩) gm_X7_3 (ki := 7) rfl ?_
    refine zV_top (fun x0 e_x0 => ?_)
    obtain rfl := e_x0.trans ob.2
    refine zV_iload_n dX7_counter_78 rfl ?_
    refine zV_iload dX7_counter_79 rfl ?_
    refine zV_ineg dX7_counter_81 ?_
    refine zV_cVv (As := [zI y1, zI (w32 (-y4))]) (rest := []) dX7_counter_82 sa_14 (W_C_plan _ _ _ _ hP) mi_X0_plan ml_X7_64 (by decide) (Nat.le_of_ble_eq_true rfl) rfl rfl (fun r5 h6 hP => ?_)
    refine zV_mask [true, false, true, true, true] (ls' := [zR y0, zU, zI y2, zI y3, zI y4]) rfl ?_
    exact W_Am_counter_J85 _ _ _ _ _ _ hP
  · have hP := zif_n hP c
    refine zV_aload_n dX7_counter_59 rfl ?_
    obtain ⟨ob, hP⟩ := hP
    refine zV_gM [6, 7] dX7_counter_60 (by rcases ob.1 with o | o <;> exact ⟨_, by decide, o⟩) gm_X7_3 (ki := 7) rfl ?_
    refine zV_top (fun x0 e_x0 => ?_)
    obtain rfl := e_x0.trans ob.2
    refine zV_iload_n dX7_counter_63 rfl ?_
    refine zV_iload_n dX7_counter_64 rfl ?_
    refine zV_iload dX7_counter_65 rfl ?_
    refine zV_ineg dX7_counter_67 ?_
    refine zV_cVv (As := [zI y2, zI y1, zI (w32 (-y4))]) (rest := []) dX7_counter_68 sa_14 (W_C_plan_3 _ _ _ _ _ hP) mi_X0_plan_3 ml_X7_68 (by decide) (Nat.le_of_ble_eq_true rfl) rfl rfl (fun r11 h12 hP => ?_)
    refine zV_goto (tgt := 85) dX7_counter_71 (by decide) ?_
    refine zV_mask [true, false, true, true, true] (ls' := [zR y0, zU, zI y2, zI y3, zI y4]) rfl ?_
    exact W_Am_counter_J85 _ _ _ _ _ _ hP
def P_Am_counter_J24 (y0 : Int) (y1 : Int) (y2 : Int) (y3 : Int) (y4 : Int) (h : zH) (Q : Int → zH → Prop) : Prop :=
if y3 = 0 then
(((zt h y0 = 6 ∨ zt h y0 = 7) ∧ zd h y0 7 = 14) ∧
P_C_plan (w32 (-y1)) y4 h (fun r3 h4 =>
P_Am_counter_J55 y0 y1 y2 y3 y4 h4 Q))
else
(((zt h y0 = 6 ∨ zt h y0 = 7) ∧ zd h y0 7 = 14) ∧
P_C_plan_3 (w32 (-y1)) (w32 (-y3)) y4 h (fun r13 h14 =>
P_Am_counter_J55 y0 y1 y2 y3 y4 h14 Q))
theorem W_Am_counter_J24 (y0 : Int) (y1 : Int) (y2 : Int) (y3 : Int) (y4 : Int) (h : zH) (Q : Int → zH → Prop) (hP : P_Am_counter_J24 y0 y1 y2 y3 y4 h Q) : zV true zy_X7_counter 5 24 [zR y0, zI y1, zI y2, zI y3, zI y4] [] h (zQ0 Q) := by
  unfold P_Am_counter_J24 at hP
  refine zV_iload_n dX7_counter_24 rfl ?_
  refine zV_if_eq (tgt := 44) dX7_counter_25 (by decide) (fun c => ?_) (fun c => ?_)
  · have hP := zif_p hP c
    refine zV_aload_n dX7_counter_44 rfl ?_
    obtain ⟨ob, hP⟩ := hP
    refine zV_gM [6, 7] dX7_counter_45 (by rcases ob.1 with o | o <;> exact ⟨_, by decide, o⟩) gm_X7_3 (ki := 7) rfl ?_
    refine zV_top (fun x0 e_x0 => ?_)
    obtain rfl := e_x0.trans ob.2
    refine zV_iload_n dX7_counter_48 rfl ?_
    refine zV_ineg dX7_counter_49 ?_
    refine zV_iload dX7_counter_50 rfl ?_
    refine zV_cVv (As := [zI (w32 (-y1)), zI y4]) (rest := []) dX7_counter_52 sa_14 (W_C_plan _ _ _ _ hP) mi_X0_plan ml_X7_64 (by decide) (Nat.le_of_ble_eq_true rfl) rfl rfl (fun r3 h4 hP => ?_)
    exact W_Am_counter_J55 _ _ _ _ _ _ _ hP
  · have hP := zif_n hP c
    refine zV_aload_n dX7_counter_28 rfl ?_
    obtain ⟨ob, hP⟩ := hP
    refine zV_gM [6, 7] dX7_counter_29 (by rcases ob.1 with o | o <;> exact ⟨_, by decide, o⟩) gm_X7_3 (ki := 7) rfl ?_
    refine zV_top (fun x0 e_x0 => ?_)
    obtain rfl := e_x0.trans ob.2
    refine zV_iload_n dX7_counter_32 rfl ?_
    refine zV_ineg dX7_counter_33 ?_
    refine zV_iload_n dX7_counter_34 rfl ?_
    refine zV_ineg dX7_counter_35 ?_
    refine zV_iload dX7_counter_36 rfl ?_
    refine zV_cVv (As := [zI (w32 (-y1)), zI (w32 (-y3)), zI y4]) (rest := []) dX7_counter_38 sa_14 (W_C_plan_3 _ _ _ _ _ hP) mi_X0_plan_3 ml_X7_68 (by decide) (Nat.le_of_ble_eq_true rfl) rfl rfl (fun r13 h14 hP => ?_)
    refine zV_goto (tgt := 55) dX7_counter_41 (by decide) ?_
    exact W_Am_counter_J55 _ _ _ _ _ _ _ hP
def P_Am_counter (a0 : Int) (a1 : Int) (a2 : Int) (a3 : Int) (h : zH) (Q : Int → zH → Prop) : Prop :=
((zt h a0 = 6 ∨ zt h a0 = 7) ∧ zd h a0 7 = 14) ∧
P_C_newName h (fun r1 h2 =>
if a2 = 0 then
(P_Am_counter_J24 a0 a1 a2 a3 r1 h2 Q)
else
(((zt h2 a0 = 6 ∨ zt h2 a0 = 7) ∧ zd h2 a0 7 = 14) ∧
P_C_plan (w32 (-a2)) r1 h2 (fun r15 h16 =>
P_Am_counter_J24 a0 a1 a2 a3 r1 h16 Q)))
theorem W_Am_counter (a0 : Int) (a1 : Int) (a2 : Int) (a3 : Int) (h : zH) (Q : Int → zH → Prop) (hP : P_Am_counter a0 a1 a2 a3 h Q) : zC true zy_X7_counter 5 [zR a0, zI a1, zI a2, zI a3] h (zQ0 Q) := by
  unfold P_Am_counter at hP
  refine zC.of (by decide) (Nat.le_of_ble_eq_true rfl) ?_
  show zV true zy_X7_counter 5 0 [zR a0, zI a1, zI a2, zI a3, zU] [] h (zQ0 Q)
  refine zV_aload_n dX7_counter_0 rfl ?_
  obtain ⟨ob, hP⟩ := hP
  refine zV_gM [6, 7] dX7_counter_1 (by rcases ob.1 with o | o <;> exact ⟨_, by decide, o⟩) gm_X7_3 (ki := 7) rfl ?_
  refine zV_top (fun x0 e_x0 => ?_)
  obtain rfl := e_x0.trans ob.2
  refine zV_cVk (As := []) (rest := []) dX7_counter_4 sa_14 (W_C_newName _ _ hP) mi_X0_newName ml_X7_61 (by decide) (Nat.le_of_ble_eq_true rfl) rfl rfl rfl (fun r1 h2 hP => ?_)
  refine zV_istore (ls' := [zR a0, zI a1, zI a2, zI a3, zI r1]) dX7_counter_7 (Nat.le_of_ble_eq_true rfl) rfl rfl ?_
  refine zV_iload_n dX7_counter_9 rfl ?_
  refine zV_if_eq (tgt := 24) dX7_counter_10 (by decide) (fun c => ?_) (fun c => ?_)
  · have hP := zif_p hP c
    exact W_Am_counter_J24 _ _ _ _ _ _ _ hP
  · have hP := zif_n hP c
    refine zV_aload_n dX7_counter_13 rfl ?_
    obtain ⟨ob, hP⟩ := hP
    refine zV_gM [6, 7] dX7_counter_14 (by rcases ob.1 with o | o <;> exact ⟨_, by decide, o⟩) gm_X7_3 (ki := 7) rfl ?_
    refine zV_top (fun x0 e_x0 => ?_)
    obtain rfl := e_x0.trans ob.2
    refine zV_iload_n dX7_counter_17 rfl ?_
    refine zV_ineg dX7_counter_18 ?_
    refine zV_iload dX7_counter_19 rfl ?_
    refine zV_cVv (As := [zI (w32 (-a2)), zI r1]) (rest := []) dX7_counter_21 sa_14 (W_C_plan _ _ _ _ hP) mi_X0_plan ml_X7_64 (by decide) (Nat.le_of_ble_eq_true rfl) rfl rfl (fun r15 h16 hP => ?_)
    exact W_Am_counter_J24 _ _ _ _ _ _ _ hP
def P_Am_counters_J105 (y0 : Int) (y1 : Int) (y2 : Int) (y3 : Int) (y4 : Int) (y5 : Int) (s0 : Int) (s1 : Int) (s2 : Int) (h : zH) (Q : Int → zH → Prop) (k42 : Int → zH → Prop) : Prop :=
(zt h s2 = 50 ∧ 0 ≤ s1 ∧ s1 < zl h s2) ∧
∀ h8 : zH, h8 = zw h s2 s1 s0 →
∀ x5_9 : Int, x5_9 = w32 (y5 + 1) →
k42 x5_9 h8
theorem W_Am_counters_J105 (y0 : Int) (y1 : Int) (y2 : Int) (y3 : Int) (y4 : Int) (y5 : Int) (s0 : Int) (s1 : Int) (s2 : Int) (h : zH) (Q : Int → zH → Prop) (k42 : Int → zH → Prop) (H42 : ∀ (v5 : Int) (h' : zH), k42 v5 h' → zV true zy_X7_counters 6 42 [zR y0, zR y1, zI y2, zI y3, zR y4, zI v5] [] h' (zQ0 Q)) (hP : P_Am_counters_J105 y0 y1 y2 y3 y4 y5 s0 s1 s2 h Q k42) : zV true zy_X7_counters 6 105 [zR y0, zR y1, zI y2, zI y3, zR y4, zI y5] [zI s0, zI s1, zR s2] h (zQ0 Q) := by
  unfold P_Am_counters_J105 at hP
  obtain ⟨ob, hP⟩ := hP
  refine zV_iasD dX7_counters_105 ob (fun h8 e_h8 => ?_)
  have hP := hP h8 e_h8
  refine zV_inc (ls' := fun z => [zR y0, zR y1, zI y2, zI y3, zR y4, zI z]) dX7_counters_106 (Nat.le_of_ble_eq_true rfl) rfl rfl (fun _ => rfl) (fun x5_9 e_x5_9 => ?_)
  have hP := hP x5_9 e_x5_9
  refine zV_goto (tgt := 42) dX7_counters_109 (by decide) ?_
  exact H42 _ _ hP
def P_Am_counters_J102 (y0 : Int) (y1 : Int) (y2 : Int) (y3 : Int) (y4 : Int) (y5 : Int) (s0 : Int) (s1 : Int) (s2 : Int) (s3 : Int) (s4 : Int) (s5 : Int) (h : zH) (Q : Int → zH → Prop) (k42 : Int → zH → Prop) : Prop :=
(zt h s3 = 6 ∨ zt h s3 = 7) ∧
P_Am_counter s3 s2 s1 s0 h (fun r6 h7 =>
P_Am_counters_J105 y0 y1 y2 y3 y4 y5 r6 s4 s5 h7 Q k42)
theorem W_Am_counters_J102 (y0 : Int) (y1 : Int) (y2 : Int) (y3 : Int) (y4 : Int) (y5 : Int) (s0 : Int) (s1 : Int) (s2 : Int) (s3 : Int) (s4 : Int) (s5 : Int) (h : zH) (Q : Int → zH → Prop) (k42 : Int → zH → Prop) (H42 : ∀ (v5 : Int) (h' : zH), k42 v5 h' → zV true zy_X7_counters 6 42 [zR y0, zR y1, zI y2, zI y3, zR y4, zI v5] [] h' (zQ0 Q)) (hP : P_Am_counters_J102 y0 y1 y2 y3 y4 y5 s0 s1 s2 s3 s4 s5 h Q k42) : zV true zy_X7_counters 6 102 [zR y0, zR y1, zI y2, zI y3, zR y4, zI y5] [zI s0, zI s1, zI s2, zR s3, zI s4, zR s5] h (zQ0 Q) := by
  unfold P_Am_counters_J102 at hP
  obtain ⟨ob, hP⟩ := hP
  have K : ∀ (r6 : Int) (h7 : zH), (P_Am_counters_J105 y0 y1 y2 y3 y4 y5 r6 s4 s5 h7 Q k42) → zV true zy_X7_counters 6 105 [zR y0, zR y1, zI y2, zI y3, zR y4, zI y5] [zI r6, zI s4, zR s5] h7 (zQ0 Q) := by
    intro r6 h7 hP
    exact W_Am_counters_J105 _ _ _ _ _ _ _ _ _ _ _ _ H42 hP
  rcases ob with ob | ob
  · exact zV_cUk (As := [zI s2, zI s1, zI s0]) (rest := [zI s4, zR s5]) dX7_counters_102 ob (W_Am_counter _ _ _ _ _ _ hP) ul_X7_57_6 (by decide) (Nat.le_of_ble_eq_true rfl) rfl rfl rfl K
  · exact zV_cUk (As := [zI s2, zI s1, zI s0]) (rest := [zI s4, zR s5]) dX7_counters_102 ob (W_Am_counter _ _ _ _ _ _ hP) ul_X7_57_7 (by decide) (Nat.le_of_ble_eq_true rfl) rfl rfl rfl K
def P_Am_counters_J86 (y0 : Int) (y1 : Int) (y2 : Int) (y3 : Int) (y4 : Int) (y5 : Int) (s0 : Int) (s1 : Int) (s2 : Int) (s3 : Int) (s4 : Int) (h : zH) (Q : Int → zH → Prop) (k42 : Int → zH → Prop) : Prop :=
(if y5 ≤ 1 then True else (zt h y1 = 50 ∧ 0 ≤ w32 (y5 - 1) ∧ w32 (y5 - 1) < zl h y1) ∧ True) ∧
P_Am_counters_J102 y0 y1 y2 y3 y4 y5 (if y5 ≤ 1 then 0 else zd h y1 (w32 (y5 - 1))) s0 s1 s2 s3 s4 h Q k42
theorem W_Am_counters_J86 (y0 : Int) (y1 : Int) (y2 : Int) (y3 : Int) (y4 : Int) (y5 : Int) (s0 : Int) (s1 : Int) (s2 : Int) (s3 : Int) (s4 : Int) (h : zH) (Q : Int → zH → Prop) (k42 : Int → zH → Prop) (H42 : ∀ (v5 : Int) (h' : zH), k42 v5 h' → zV true zy_X7_counters 6 42 [zR y0, zR y1, zI y2, zI y3, zR y4, zI v5] [] h' (zQ0 Q)) (hP : P_Am_counters_J86 y0 y1 y2 y3 y4 y5 s0 s1 s2 s3 s4 h Q k42) : zV true zy_X7_counters 6 86 [zR y0, zR y1, zI y2, zI y3, zR y4, zI y5] [zI s0, zI s1, zR s2, zI s3, zR s4] h (zQ0 Q) := by
  unfold P_Am_counters_J86 at hP
  refine zV_iload dX7_counters_86 rfl ?_
  refine zV_iconst dX7_counters_88 ⟨by decide, by decide⟩ ?_
  obtain ⟨hO, hP⟩ := hP
  have K : zV true zy_X7_counters 6 102 [zR y0, zR y1, zI y2, zI y3, zR y4, zI y5] [zI (if y5 ≤ 1 then 0 else zd h y1 (w32 (y5 - 1))), zI s0, zI s1, zR s2, zI s3, zR s4] h (zQ0 Q) := by
    exact W_Am_counters_J102 _ _ _ _ _ _ _ _ _ _ _ _ _ _ _ H42 hP
  clear hP
  refine zV_icmp_le (tgt := 101) dX7_counters_89 (by decide) (fun c => ?_) (fun c => ?_)
  · try simp only [if_pos c] at K
    have hO := zif_p hO c
    refine zV_iconst dX7_counters_101 ⟨by decide, by decide⟩ ?_
    refine zV_mask [true, true, true, true, true, true] rfl ?_
    exact K
  · try simp only [if_neg c] at K
    have hO := zif_n hO c
    refine zV_aload_n dX7_counters_92 rfl ?_
    refine zV_iload dX7_counters_93 rfl ?_
    refine zV_iconst dX7_counters_95 ⟨by decide, by decide⟩ ?_
    refine zV_isub dX7_counters_96 ?_
    obtain ⟨ob, hO⟩ := hO
    refine zV_iaD dX7_counters_97 ob ?_
    refine zV_goto (tgt := 102) dX7_counters_98 (by decide) ?_
    refine zV_mask [true, true, true, true, true, true] rfl ?_
    exact K
def P_Am_counters_L42 (y0 : Int) (y1 : Int) (y2 : Int) (y3 : Int) (y4 : Int) (Q : Int → zH → Prop) (k112 : zH → Prop) : Nat → Int → zH → Prop
| 0, _, _ => False
| n42 + 1, y5, h =>
(zt h y0 = 6 ∨ zt h y0 = 7) ∧
if zmin y2 (w32 ((zd h y0 6) + 1)) < y5 then
(k112 h)
else
(if y2 = 1 then
(P_Am_counters_J105 y0 y1 y2 y3 y4 y5 y3 y5 y4 h Q (P_Am_counters_L42 y0 y1 y2 y3 y4 Q k112 n42))
else
((if y2 ≤ y5 then True else (zt h y1 = 50 ∧ 0 ≤ y5 ∧ y5 < zl h y1) ∧ True) ∧
P_Am_counters_J86 y0 y1 y2 y3 y4 y5 (if y2 ≤ y5 then 0 else zd h y1 y5) y3 y0 y5 y4 h Q (P_Am_counters_L42 y0 y1 y2 y3 y4 Q k112 n42)))
theorem W_Am_counters_L42 (y0 : Int) (y1 : Int) (y2 : Int) (y3 : Int) (y4 : Int) (Q : Int → zH → Prop) (k112 : zH → Prop) (H112 : ∀ (h' : zH), k112 h' → zV true zy_X7_counters 6 112 [zR y0, zU, zI y2, zU, zR y4, zU] [] h' (zQ0 Q)) : ∀ (n42 : Nat) (y5 : Int) (h : zH), P_Am_counters_L42 y0 y1 y2 y3 y4 Q k112 n42 y5 h → zV true zy_X7_counters 6 42 [zR y0, zR y1, zI y2, zI y3, zR y4, zI y5] [] h (zQ0 Q) := by
  intro n42
  induction n42 with
  | zero => intro y5 h hP; exact absurd hP id
  | succ n42 ih =>
    intro y5 h hP
    unfold P_Am_counters_L42 at hP
    refine zV_iload dX7_counters_42 rfl ?_
    refine zV_iload_n dX7_counters_44 rfl ?_
    refine zV_aload_n dX7_counters_45 rfl ?_
    obtain ⟨ob, hP⟩ := hP
    refine zV_gM [6, 7] dX7_counters_46 (by rcases ob with o | o <;> exact ⟨_, by decide, o⟩) gm_X7_15 (ki := 6) rfl ?_
    refine zV_iconst dX7_counters_49 ⟨by decide, by decide⟩ ?_
    refine zV_iadd dX7_counters_50 ?_
    refine zV_mmin dX7_counters_51 q926 q778 q171 q779 (Nat.le_of_ble_eq_true rfl) (by decide) ?_
    refine zV_icmp_gt (tgt := 112) dX7_counters_54 (by decide) (fun c => ?_) (fun c => ?_)
    · have hP := zif_p hP c
      refine zV_mask [true, false, true, false, true, false] (ls' := [zR y0, zU, zI y2, zU, zR y4, zU]) rfl ?_
      exact H112 _ hP
    · have hP := zif_n hP c
      refine zV_aload dX7_counters_57 rfl ?_
      refine zV_iload dX7_counters_59 rfl ?_
      refine zV_iload_n dX7_counters_61 rfl ?_
      refine zV_iconst dX7_counters_62 ⟨by decide, by decide⟩ ?_
      refine zV_icmp_ne (tgt := 70) dX7_counters_63 (by decide) (fun c => ?_) (fun c => ?_)
      · have hP := zif_n hP c
        refine zV_aload_n dX7_counters_70 rfl ?_
        refine zV_iload_n dX7_counters_71 rfl ?_
        refine zV_iload dX7_counters_72 rfl ?_
        refine zV_iload_n dX7_counters_74 rfl ?_
        obtain ⟨hO, hP⟩ := hP
        have K : zV true zy_X7_counters 6 86 [zR y0, zR y1, zI y2, zI y3, zR y4, zI y5] [zI (if y2 ≤ y5 then 0 else zd h y1 y5), zI y3, zR y0, zI y5, zR y4] h (zQ0 Q) := by
          exact W_Am_counters_J86 _ _ _ _ _ _ _ _ _ _ _ _ _ _ ih hP
        clear hP
        refine zV_icmp_ge (tgt := 85) dX7_counters_75 (by decide) (fun c => ?_) (fun c => ?_)
        · try simp only [if_pos c] at K
          have hO := zif_p hO c
          refine zV_iconst dX7_counters_85 ⟨by decide, by decide⟩ ?_
          refine zV_mask [true, true, true, true, true, true] rfl ?_
          exact K
        · try simp only [if_neg c] at K
          have hO := zif_n hO c
          refine zV_aload_n dX7_counters_78 rfl ?_
          refine zV_iload dX7_counters_79 rfl ?_
          obtain ⟨ob, hO⟩ := hO
          refine zV_iaD dX7_counters_81 ob ?_
          refine zV_goto (tgt := 86) dX7_counters_82 (by decide) ?_
          refine zV_mask [true, true, true, true, true, true] rfl ?_
          exact K
      · have hP := zif_p hP c
        refine zV_iload_n dX7_counters_66 rfl ?_
        refine zV_goto (tgt := 105) dX7_counters_67 (by decide) ?_
        exact W_Am_counters_J105 _ _ _ _ _ _ _ _ _ _ _ _ ih hP
def P_Am_counters_L11 (y0 : Int) (Q : Int → zH → Prop) : Nat → Int → Int → zH → Prop
| 0, _, _, _ => False
| n11 + 1, y1, y2, h =>
(zt h y0 = 6 ∨ zt h y0 = 7) ∧
(zt h (zd h y0 1) = 50) ∧
if zl h (zd h y0 1) < y2 then
(Q y1 h)
else
((zt h y0 = 6 ∨ zt h y0 = 7) ∧
(zt h (zd h y0 1) = 50 ∧ 0 ≤ w32 (y2 - 1) ∧ w32 (y2 - 1) < zl h (zd h y0 1)) ∧
∀ x3_3 : Int, x3_3 = (zd h (zd h y0 1) (w32 (y2 - 1))) →
(zt h y0 = 6 ∨ zt h y0 = 7) ∧
(0 ≤ w32 ((zd h y0 6) + 2) ∧ w32 ((zd h y0 6) + 2) ≤ 60000) ∧
∀ h4 : zH, h4 = zal h 50 (w32 ((zd h y0 6) + 2)) (w32 ((zd h y0 6) + 2)) →
∀ x4_5 : Int, x4_5 = (zn h) →
∃ n42, P_Am_counters_L42 y0 y1 y2 x3_3 x4_5 Q (fun h10 =>
∀ x2_11 : Int, x2_11 = w32 (y2 + 1) →
P_Am_counters_L11 y0 Q n11 x4_5 x2_11 h10) n42 1 h4)
theorem W_Am_counters_L11 (y0 : Int) (Q : Int → zH → Prop) : ∀ (n11 : Nat) (y1 y2 : Int) (h : zH), P_Am_counters_L11 y0 Q n11 y1 y2 h → zV true zy_X7_counters 6 11 [zR y0, zR y1, zI y2, zU, zU, zU] [] h (zQ0 Q) := by
  intro n11
  induction n11 with
  | zero => intro y1 y2 h hP; exact absurd hP id
  | succ n11 ih =>
    intro y1 y2 h hP
    unfold P_Am_counters_L11 at hP
    refine zV_iload_n dX7_counters_11 rfl ?_
    refine zV_aload_n dX7_counters_12 rfl ?_
    obtain ⟨ob, hP⟩ := hP
    refine zV_gM [6, 7] dX7_counters_13 (by rcases ob with o | o <;> exact ⟨_, by decide, o⟩) gm_X7_53 (ki := 1) rfl ?_
    obtain ⟨ob, hP⟩ := hP
    refine zV_alD dX7_counters_16 (Or.inl ob) ?_
    refine zV_icmp_gt (tgt := 121) dX7_counters_17 (by decide) (fun c => ?_) (fun c => ?_)
    · have hP := zif_p hP c
      refine zV_aload_n dX7_counters_121 rfl ?_
      exact zV_areturn dX7_counters_122 rfl rfl (Or.inr ⟨_, rfl⟩) ⟨rfl, hP⟩
    · have hP := zif_n hP c
      refine zV_aload_n dX7_counters_20 rfl ?_
      obtain ⟨ob, hP⟩ := hP
      refine zV_gM [6, 7] dX7_counters_21 (by rcases ob with o | o <;> exact ⟨_, by decide, o⟩) gm_X7_53 (ki := 1) rfl ?_
      refine zV_iload_n dX7_counters_24 rfl ?_
      refine zV_iconst dX7_counters_25 ⟨by decide, by decide⟩ ?_
      refine zV_isub dX7_counters_26 ?_
      obtain ⟨ob, hP⟩ := hP
      refine zV_iaD dX7_counters_27 ob ?_
      refine zV_top (fun x3_3 e_x3_3 => ?_)
      have hP := hP x3_3 e_x3_3
      refine zV_istore_n (ls' := [zR y0, zR y1, zI y2, zI x3_3, zU, zU]) dX7_counters_28 rfl (Nat.le_of_ble_eq_true rfl) rfl rfl ?_
      refine zV_aload_n dX7_counters_29 rfl ?_
      obtain ⟨ob, hP⟩ := hP
      refine zV_gM [6, 7] dX7_counters_30 (by rcases ob with o | o <;> exact ⟨_, by decide, o⟩) gm_X7_15 (ki := 6) rfl ?_
      refine zV_iconst dX7_counters_33 ⟨by decide, by decide⟩ ?_
      refine zV_iadd dX7_counters_34 ?_
      obtain ⟨ob, hP⟩ := hP
      refine zV_nai dX7_counters_35 ob (fun h4 e_h4 => ?_)
      have hP := hP h4 e_h4
      refine zV_top (fun x4_5 e_x4_5 => ?_)
      have hP := hP x4_5 e_x4_5
      refine zV_astore (ls' := [zR y0, zR y1, zI y2, zI x3_3, zR x4_5, zU]) dX7_counters_37 (Nat.le_of_ble_eq_true rfl) rfl rfl ?_
      refine zV_iconst dX7_counters_39 ⟨by decide, by decide⟩ ?_
      refine zV_istore (ls' := [zR y0, zR y1, zI y2, zI x3_3, zR x4_5, zI 1]) dX7_counters_40 (Nat.le_of_ble_eq_true rfl) rfl rfl ?_
      obtain ⟨n42, hP⟩ := hP
      refine W_Am_counters_L42 _ _ _ _ _ _ _ (fun h10 hP => ?_) n42 _ _ hP
      refine zV_aload dX7_counters_112 rfl ?_
      refine zV_astore_n (ls' := [zR y0, zR x4_5, zI y2, zU, zR x4_5, zU]) dX7_counters_114 rfl (Nat.le_of_ble_eq_true rfl) rfl rfl ?_
      refine zV_inc (ls' := fun z => [zR y0, zR x4_5, zI z, zU, zR x4_5, zU]) dX7_counters_115 (Nat.le_of_ble_eq_true rfl) rfl rfl (fun _ => rfl) (fun x2_11 e_x2_11 => ?_)
      have hP := hP x2_11 e_x2_11
      refine zV_goto (tgt := 11) dX7_counters_118 (by decide) ?_
      refine zV_mask [true, true, true, true, false, true] (ls' := [zR y0, zR x4_5, zI x2_11, zU, zU, zU]) rfl ?_
      exact ih _ _ _ hP
def P_Am_counters (a0 : Int) (h : zH) (Q : Int → zH → Prop) : Prop :=
(zt h a0 = 6 ∨ zt h a0 = 7) ∧
(0 ≤ w32 ((zd h a0 6) + 2) ∧ w32 ((zd h a0 6) + 2) ≤ 60000) ∧
∀ h1 : zH, h1 = zal h 50 (w32 ((zd h a0 6) + 2)) (w32 ((zd h a0 6) + 2)) →
∀ x1_2 : Int, x1_2 = (zn h) →
∃ n11, P_Am_counters_L11 a0 Q n11 x1_2 1 h1
theorem W_Am_counters (a0 : Int) (h : zH) (Q : Int → zH → Prop) (hP : P_Am_counters a0 h Q) : zC true zy_X7_counters 6 [zR a0] h (zQ0 Q) := by
  unfold P_Am_counters at hP
  refine zC.of (by decide) (Nat.le_of_ble_eq_true rfl) ?_
  show zV true zy_X7_counters 6 0 [zR a0, zU, zU, zU, zU, zU] [] h (zQ0 Q)
  refine zV_aload_n dX7_counters_0 rfl ?_
  obtain ⟨ob, hP⟩ := hP
  refine zV_gM [6, 7] dX7_counters_1 (by rcases ob with o | o <;> exact ⟨_, by decide, o⟩) gm_X7_15 (ki := 6) rfl ?_
  refine zV_iconst dX7_counters_4 ⟨by decide, by decide⟩ ?_
  refine zV_iadd dX7_counters_5 ?_
  obtain ⟨ob, hP⟩ := hP
  refine zV_nai dX7_counters_6 ob (fun h1 e_h1 => ?_)
  have hP := hP h1 e_h1
  refine zV_top (fun x1_2 e_x1_2 => ?_)
  have hP := hP x1_2 e_x1_2
  refine zV_astore_n (ls' := [zR a0, zR x1_2, zU, zU, zU, zU]) dX7_counters_8 rfl (Nat.le_of_ble_eq_true rfl) rfl rfl ?_
  refine zV_iconst dX7_counters_9 ⟨by decide, by decide⟩ ?_
  refine zV_istore_n (ls' := [zR a0, zR x1_2, zI 1, zU, zU, zU]) dX7_counters_10 rfl (Nat.le_of_ble_eq_true rfl) rfl rfl ?_
  obtain ⟨n11, hP⟩ := hP
  refine W_Am_counters_L11 _ _ n11 _ _ _ hP
def P_Am_layMost (a0 : Int) (h : zH) (Q : Int → zH → Prop) : Prop :=
(zt h a0 = 6 ∨ zt h a0 = 7) ∧
P_Am_counters a0 h (fun r1 h2 =>
(zt h2 a0 = 6 ∨ zt h2 a0 = 7) ∧
(zt h2 (zd h2 a0 1) = 50) ∧
(zt h2 a0 = 6 ∨ zt h2 a0 = 7) ∧
if zl h2 (zd h2 a0 1) ≤ zd h2 a0 6 then
(Q r1 h2)
else
(((zt h2 a0 = 6 ∨ zt h2 a0 = 7) ∧ zd h2 a0 7 = 14) ∧
(zt h2 a0 = 6 ∨ zt h2 a0 = 7) ∧
(zt h2 r1 = 50 ∧ 0 ≤ w32 ((zd h2 a0 6) + 1) ∧ w32 ((zd h2 a0 6) + 1) < zl h2 r1) ∧
P_C_plan_2 (w32 (-(zd h2 r1 (w32 ((zd h2 a0 6) + 1))))) h2 (fun r3 h4 =>
Q r1 h4)))
theorem W_Am_layMost (a0 : Int) (h : zH) (Q : Int → zH → Prop) (hP : P_Am_layMost a0 h Q) : zC true zy_X7_layMost 7 [zR a0] h (zQ0 Q) := by
  unfold P_Am_layMost at hP
  refine zC.of (by decide) (Nat.le_of_ble_eq_true rfl) ?_
  show zV true zy_X7_layMost 7 0 [zR a0, zU] [] h (zQ0 Q)
  refine zV_aload_n dX7_layMost_0 rfl ?_
  obtain ⟨ob, hP⟩ := hP
  have K : ∀ (r1 : Int) (h2 : zH), ((zt h2 a0 = 6 ∨ zt h2 a0 = 7) ∧
(zt h2 (zd h2 a0 1) = 50) ∧
(zt h2 a0 = 6 ∨ zt h2 a0 = 7) ∧
if zl h2 (zd h2 a0 1) ≤ zd h2 a0 6 then
(Q r1 h2)
else
(((zt h2 a0 = 6 ∨ zt h2 a0 = 7) ∧ zd h2 a0 7 = 14) ∧
(zt h2 a0 = 6 ∨ zt h2 a0 = 7) ∧
(zt h2 r1 = 50 ∧ 0 ≤ w32 ((zd h2 a0 6) + 1) ∧ w32 ((zd h2 a0 6) + 1) < zl h2 r1) ∧
P_C_plan_2 (w32 (-(zd h2 r1 (w32 ((zd h2 a0 6) + 1))))) h2 (fun r3 h4 =>
Q r1 h4))) → zV true zy_X7_layMost 7 4 [zR a0, zU] [zR r1] h2 (zQ0 Q) := by
    intro r1 h2 hP
    refine zV_astore_n (ls' := [zR a0, zR r1]) dX7_layMost_4 rfl (Nat.le_of_ble_eq_true rfl) rfl rfl ?_
    refine zV_aload_n dX7_layMost_5 rfl ?_
    obtain ⟨ob, hP⟩ := hP
    refine zV_gM [6, 7] dX7_layMost_6 (by rcases ob with o | o <;> exact ⟨_, by decide, o⟩) gm_X7_53 (ki := 1) rfl ?_
    obtain ⟨ob, hP⟩ := hP
    refine zV_alD dX7_layMost_9 (Or.inl ob) ?_
    refine zV_aload_n dX7_layMost_10 rfl ?_
    obtain ⟨ob, hP⟩ := hP
    refine zV_gM [6, 7] dX7_layMost_11 (by rcases ob with o | o <;> exact ⟨_, by decide, o⟩) gm_X7_15 (ki := 6) rfl ?_
    refine zV_icmp_le (tgt := 33) dX7_layMost_14 (by decide) (fun c => ?_) (fun c => ?_)
    · have hP := zif_p hP c
      refine zV_aload_n dX7_layMost_33 rfl ?_
      exact zV_areturn dX7_layMost_34 rfl rfl (Or.inr ⟨_, rfl⟩) ⟨rfl, hP⟩
    · have hP := zif_n hP c
      refine zV_aload_n dX7_layMost_17 rfl ?_
      obtain ⟨ob, hP⟩ := hP
      refine zV_gM [6, 7] dX7_layMost_18 (by rcases ob.1 with o | o <;> exact ⟨_, by decide, o⟩) gm_X7_3 (ki := 7) rfl ?_
      refine zV_top (fun x0 e_x0 => ?_)
      obtain rfl := e_x0.trans ob.2
      refine zV_aload_n dX7_layMost_21 rfl ?_
      refine zV_aload_n dX7_layMost_22 rfl ?_
      obtain ⟨ob, hP⟩ := hP
      refine zV_gM [6, 7] dX7_layMost_23 (by rcases ob with o | o <;> exact ⟨_, by decide, o⟩) gm_X7_15 (ki := 6) rfl ?_
      refine zV_iconst dX7_layMost_26 ⟨by decide, by decide⟩ ?_
      refine zV_iadd dX7_layMost_27 ?_
      obtain ⟨ob, hP⟩ := hP
      refine zV_iaD dX7_layMost_28 ob ?_
      refine zV_ineg dX7_layMost_29 ?_
      refine zV_cVv (As := [zI (w32 (-(zd h2 r1 (w32 ((zd h2 a0 6) + 1)))))]) (rest := []) dX7_layMost_30 sa_14 (W_C_plan_2 _ _ _ hP) mi_X0_plan_2 ml_X7_75 (by decide) (Nat.le_of_ble_eq_true rfl) rfl rfl (fun r3 h4 hP => ?_)
      refine zV_aload_n dX7_layMost_33 rfl ?_
      exact zV_areturn dX7_layMost_34 rfl rfl (Or.inr ⟨_, rfl⟩) ⟨rfl, hP⟩
  rcases ob with ob | ob
  · exact zV_cUk (As := []) (rest := []) dX7_layMost_1 ob (W_Am_counters _ _ _ hP) ul_X7_71_6 (by decide) (Nat.le_of_ble_eq_true rfl) rfl rfl rfl K
  · exact zV_cUk (As := []) (rest := []) dX7_layMost_1 ob (W_Am_counters _ _ _ hP) ul_X7_71_7 (by decide) (Nat.le_of_ble_eq_true rfl) rfl rfl rfl K
def P_Am_lay (a0 : Int) (h : zH) (Q : Int → zH → Prop) : Prop :=
(zt h a0 = 6 ∨ zt h a0 = 7) ∧
P_Am_layMost a0 h (fun r1 h2 =>
Q 0 h2)
theorem W_Am_lay (a0 : Int) (h : zH) (Q : Int → zH → Prop) (hP : P_Am_lay a0 h Q) : zC true zy_X7_lay 8 [zR a0] h (zQ0 Q) := by
  unfold P_Am_lay at hP
  refine zC.of (by decide) (Nat.le_of_ble_eq_true rfl) ?_
  show zV true zy_X7_lay 8 0 [zR a0] [] h (zQ0 Q)
  refine zV_aload_n dX7_lay_0 rfl ?_
  obtain ⟨ob, hP⟩ := hP
  have K : ∀ (r1 : Int) (h2 : zH), (Q 0 h2) → zV true zy_X7_lay 8 4 [zR a0] [zR r1] h2 (zQ0 Q) := by
    intro r1 h2 hP
    refine zV_pop dX7_lay_4 (Nat.ne_of_beq_eq_false rfl) ?_
    exact zV_return dX7_lay_5 rfl ⟨rfl, hP⟩
  rcases ob with ob | ob
  · exact zV_cUk (As := []) (rest := []) dX7_lay_1 ob (W_Am_layMost _ _ _ hP) ul_X7_77_6 (by decide) (Nat.le_of_ble_eq_true rfl) rfl rfl rfl K
  · exact zV_cUk (As := []) (rest := []) dX7_lay_1 ob (W_Am_layMost _ _ _ hP) ul_X7_77_7 (by decide) (Nat.le_of_ble_eq_true rfl) rfl rfl rfl K
def P_Am_holds (a0 : Int) (h : zH) (Q : Int → zH → Prop) : Prop :=
((zt h a0 = 6 ∨ zt h a0 = 7) ∧ zd h a0 7 = 14) ∧
P_C_body 10 h (fun r1 h2 =>
(zt h2 a0 = 6 ∨ zt h2 a0 = 7) ∧
P_Ru_trues a0 h2 (fun r3 h4 =>
(zt h4 a0 = 6 ∨ zt h4 a0 = 7) ∧
Q (if zd h4 a0 6 < r3 then 0 else 1) h4))
theorem W_Am_holds (a0 : Int) (h : zH) (Q : Int → zH → Prop) (hP : P_Am_holds a0 h Q) : zC true zy_X7_holds 4 [zR a0, zR 91] h (zQ0 Q) := by
  unfold P_Am_holds at hP
  refine zC.of (by decide) (Nat.le_of_ble_eq_true rfl) ?_
  show zV true zy_X7_holds 4 0 [zR a0, zR 91] [] h (zQ0 Q)
  refine zV_aload_n dX7_holds_0 rfl ?_
  obtain ⟨ob, hP⟩ := hP
  refine zV_gM [6, 7] dX7_holds_1 (by rcases ob.1 with o | o <;> exact ⟨_, by decide, o⟩) gm_X7_3 (ki := 7) rfl ?_
  refine zV_top (fun x0 e_x0 => ?_)
  obtain rfl := e_x0.trans ob.2
  refine zV_bipush dX7_holds_4 ⟨by decide, by decide, by decide⟩ ?_
  refine zV_cVv (As := [zI 10]) (rest := []) dX7_holds_6 sa_14 (W_C_body _ _ _ hP) mi_X0_body ml_X7_19 (by decide) (Nat.le_of_ble_eq_true rfl) rfl rfl (fun r1 h2 hP => ?_)
  refine zV_aload_n dX7_holds_9 rfl ?_
  refine zV_aload_n dX7_holds_10 rfl ?_
  obtain ⟨ob, hP⟩ := hP
  have K : ∀ (r3 : Int) (h4 : zH), ((zt h4 a0 = 6 ∨ zt h4 a0 = 7) ∧
Q (if zd h4 a0 6 < r3 then 0 else 1) h4) → zV true zy_X7_holds 4 14 [zR a0, zR 91] [zI r3] h4 (zQ0 Q) := by
    intro r3 h4 hP
    refine zV_aload_n dX7_holds_14 rfl ?_
    obtain ⟨ob, hP⟩ := hP
    refine zV_gM [6, 7] dX7_holds_15 (by rcases ob with o | o <;> exact ⟨_, by decide, o⟩) gm_X7_15 (ki := 6) rfl ?_
    have K : zV true zy_X7_holds 4 26 [zU, zU] [zI (if zd h4 a0 6 < r3 then 0 else 1)] h4 (zQ0 Q) := by
      exact zV_ireturn dX7_holds_26 rfl rfl (z01 (z01_if z0 z1)) ⟨rfl, hP⟩
    clear hP
    refine zV_icmp_gt (tgt := 25) dX7_holds_18 (by decide) (fun c => ?_) (fun c => ?_)
    · try simp only [if_pos c] at K
      refine zV_iconst dX7_holds_25 ⟨by decide, by decide⟩ ?_
      refine zV_mask [false, false] rfl ?_
      exact K
    · try simp only [if_neg c] at K
      refine zV_iconst dX7_holds_21 ⟨by decide, by decide⟩ ?_
      refine zV_goto (tgt := 26) dX7_holds_22 (by decide) ?_
      refine zV_mask [false, false] rfl ?_
      exact K
  rcases ob with ob | ob
  · exact zV_cUk (As := [zR 91]) (rest := []) dX7_holds_11 ob (W_Ru_trues _ _ _ hP) ul_X7_23_6 (by decide) (Nat.le_of_ble_eq_true rfl) rfl rfl rfl K
  · exact zV_cUk (As := [zR 91]) (rest := []) dX7_holds_11 ob (W_Ru_trues _ _ _ hP) ul_X7_23_7 (by decide) (Nat.le_of_ble_eq_true rfl) rfl rfl rfl K
def P_Am_least (a0 : Int) (h : zH) (Q : Int → zH → Prop) : Prop :=
((zt h a0 = 6 ∨ zt h a0 = 7) ∧ zd h a0 7 = 14) ∧
P_C_body 11 h (fun r1 h2 =>
(zt h2 a0 = 6 ∨ zt h2 a0 = 7) ∧
P_Cl_least a0 h2 (fun r3 h4 =>
Q (w32 (r3 - 1)) h4))
theorem W_Am_least (a0 : Int) (h : zH) (Q : Int → zH → Prop) (hP : P_Am_least a0 h Q) : zC true zy_X7_least 4 [zR a0] h (zQ0 Q) := by
  unfold P_Am_least at hP
  refine zC.of (by decide) (Nat.le_of_ble_eq_true rfl) ?_
  show zV true zy_X7_least 4 0 [zR a0] [] h (zQ0 Q)
  refine zV_aload_n dX7_least_0 rfl ?_
  obtain ⟨ob, hP⟩ := hP
  refine zV_gM [6, 7] dX7_least_1 (by rcases ob.1 with o | o <;> exact ⟨_, by decide, o⟩) gm_X7_3 (ki := 7) rfl ?_
  refine zV_top (fun x0 e_x0 => ?_)
  obtain rfl := e_x0.trans ob.2
  refine zV_bipush dX7_least_4 ⟨by decide, by decide, by decide⟩ ?_
  refine zV_cVv (As := [zI 11]) (rest := []) dX7_least_6 sa_14 (W_C_body _ _ _ hP) mi_X0_body ml_X7_19 (by decide) (Nat.le_of_ble_eq_true rfl) rfl rfl (fun r1 h2 hP => ?_)
  refine zV_aload_n dX7_least_9 rfl ?_
  obtain ⟨ob, hP⟩ := hP
  refine zV_cSUk (As := []) (rest := []) [6, 7] (by decide) dX7_least_10 (by rcases ob with o | o <;> exact ⟨_, by decide, o⟩) (W_Cl_least _ _ _ hP) su_X7_27 (by decide) (Nat.le_of_ble_eq_true rfl) rfl rfl rfl (fun r3 h4 hP => ?_)
  refine zV_iconst dX7_least_13 ⟨by decide, by decide⟩ ?_
  refine zV_isub dX7_least_14 ?_
  exact zV_ireturn dX7_least_15 rfl rfl rfl ⟨rfl, hP⟩
def P_Am_most (a0 : Int) (h : zH) (Q : Int → zH → Prop) : Prop :=
((zt h a0 = 6 ∨ zt h a0 = 7) ∧ zd h a0 7 = 14) ∧
P_C_body 12 h (fun r1 h2 =>
(zt h2 a0 = 6 ∨ zt h2 a0 = 7) ∧
(zt h2 a0 = 6 ∨ zt h2 a0 = 7) ∧
P_Ru_most a0 h2 (fun r3 h4 =>
Q (zmin (zd h2 a0 6) r3) h4))
theorem W_Am_most (a0 : Int) (h : zH) (Q : Int → zH → Prop) (hP : P_Am_most a0 h Q) : zC true zy_X7_most 3 [zR a0] h (zQ0 Q) := by
  unfold P_Am_most at hP
  refine zC.of (by decide) (Nat.le_of_ble_eq_true rfl) ?_
  show zV true zy_X7_most 3 0 [zR a0] [] h (zQ0 Q)
  refine zV_aload_n dX7_most_0 rfl ?_
  obtain ⟨ob, hP⟩ := hP
  refine zV_gM [6, 7] dX7_most_1 (by rcases ob.1 with o | o <;> exact ⟨_, by decide, o⟩) gm_X7_3 (ki := 7) rfl ?_
  refine zV_top (fun x0 e_x0 => ?_)
  obtain rfl := e_x0.trans ob.2
  refine zV_bipush dX7_most_4 ⟨by decide, by decide, by decide⟩ ?_
  refine zV_cVv (As := [zI 12]) (rest := []) dX7_most_6 sa_14 (W_C_body _ _ _ hP) mi_X0_body ml_X7_19 (by decide) (Nat.le_of_ble_eq_true rfl) rfl rfl (fun r1 h2 hP => ?_)
  refine zV_aload_n dX7_most_9 rfl ?_
  obtain ⟨ob, hP⟩ := hP
  refine zV_gM [6, 7] dX7_most_10 (by rcases ob with o | o <;> exact ⟨_, by decide, o⟩) gm_X7_15 (ki := 6) rfl ?_
  refine zV_aload_n dX7_most_13 rfl ?_
  obtain ⟨ob, hP⟩ := hP
  refine zV_cSUk (As := []) (rest := [zI (zd h2 a0 6)]) [6, 7] (by decide) dX7_most_14 (by rcases ob with o | o <;> exact ⟨_, by decide, o⟩) (W_Ru_most _ _ _ hP) su_X7_31 (by decide) (Nat.le_of_ble_eq_true rfl) rfl rfl rfl (fun r3 h4 hP => ?_)
  refine zV_mmin dX7_most_17 q926 q778 q171 q779 (Nat.le_of_ble_eq_true rfl) (by decide) ?_
  exact zV_ireturn dX7_most_20 rfl rfl rfl ⟨rfl, hP⟩
def P_Gr_init (a0 : Int) (a2 : Int) (a3 : Int) (h : zH) (Q : Int → zH → Prop) : Prop :=
(zt h a0 = 7) ∧
∀ h1 : zH, h1 = zw h a0 8 14 →
(zt h1 a0 = 6 ∨ zt h1 a0 = 7) ∧
P_Am_init a0 2 a2 a3 h1 (fun r2 h3 =>
Q 0 h3)
theorem W_Gr_init (a0 : Int) (a2 : Int) (a3 : Int) (h : zH) (Q : Int → zH → Prop) (hP : P_Gr_init a0 a2 a3 h Q) : zC true zy_X8_init 5 [zR a0, zR 14, zR a2, zI a3] h (zQ0 Q) := by
  unfold P_Gr_init at hP
  refine zC.of (by decide) (Nat.le_of_ble_eq_true rfl) ?_
  show zV true zy_X8_init 5 0 [zR a0, zR 14, zR a2, zI a3] [] h (zQ0 Q)
  refine zV_aload_n dX8_init_0 rfl ?_
  refine zV_aload_n dX8_init_1 rfl ?_
  obtain ⟨obt, hP⟩ := hP
  refine zV_pD dX8_init_2 obt (by decide) fl_X8_3_7 (Or.inr (by decide)) (Or.inr ⟨rfl, rfl, rfl⟩) rfl trivial (ki := 8) rfl (fun h1 e_h1 => ?_)
  have hP := hP h1 e_h1
  refine zV_aload_n dX8_init_5 rfl ?_
  refine zV_aload_n dX8_init_6 rfl ?_
  refine zV_iconst dX8_init_7 ⟨by decide, by decide⟩ ?_
  refine zV_aload_n dX8_init_8 rfl ?_
  refine zV_iload_n dX8_init_9 rfl ?_
  obtain ⟨ob, hP⟩ := hP
  refine zV_cIM (As := [zR 14, zI 2, zR a2, zI a3]) (rest := []) [6, 7] (by decide) dX8_init_10 (by rcases ob with o | o <;> exact ⟨_, by decide, o⟩) (W_Am_init _ _ _ _ _ _ hP) mc_X7_init ml_X8_9 (by decide) (Nat.le_of_ble_eq_true rfl) rfl (fun r2 h3 hP => ?_)
  exact zV_return dX8_init_13 rfl ⟨rfl, hP⟩
def P_Gr_lay (a0 : Int) (h : zH) (Q : Int → zH → Prop) : Prop :=
(zt h a0 = 7) ∧
P_Am_layMost a0 h (fun r1 h2 =>
(zt h2 a0 = 7) ∧
(zt h2 a0 = 7) ∧
(zt h2 (zd h2 a0 1) = 50) ∧
if zd h2 a0 6 ≤ zl h2 (zd h2 a0 1) then
((zt h2 a0 = 7) ∧
if zd h2 a0 6 ≤ 0 then
(Q 0 h2)
else
((zt h2 a0 = 7 ∧ zd h2 a0 8 = 14) ∧
(zt h2 a0 = 7) ∧
(zt h2 r1 = 50 ∧ 0 ≤ zd h2 a0 6 ∧ zd h2 a0 6 < zl h2 r1) ∧
P_C_plan_2 (zd h2 r1 (zd h2 a0 6)) h2 (fun r3 h4 =>
Q 0 h4)))
else
((zt h2 a0 = 7 ∧ zd h2 a0 8 = 14) ∧
P_C_endRow h2 (fun r5 h6 =>
Q 0 h6)))
theorem W_Gr_lay (a0 : Int) (h : zH) (Q : Int → zH → Prop) (hP : P_Gr_lay a0 h Q) : zC true zy_X8_lay 8 [zR a0] h (zQ0 Q) := by
  unfold P_Gr_lay at hP
  refine zC.of (by decide) (Nat.le_of_ble_eq_true rfl) ?_
  show zV true zy_X8_lay 8 0 [zR a0, zU] [] h (zQ0 Q)
  refine zV_aload_n dX8_lay_0 rfl ?_
  obtain ⟨ob, hP⟩ := hP
  have K : ∀ (r1 : Int) (h2 : zH), ((zt h2 a0 = 7) ∧
(zt h2 a0 = 7) ∧
(zt h2 (zd h2 a0 1) = 50) ∧
if zd h2 a0 6 ≤ zl h2 (zd h2 a0 1) then
((zt h2 a0 = 7) ∧
if zd h2 a0 6 ≤ 0 then
(Q 0 h2)
else
((zt h2 a0 = 7 ∧ zd h2 a0 8 = 14) ∧
(zt h2 a0 = 7) ∧
(zt h2 r1 = 50 ∧ 0 ≤ zd h2 a0 6 ∧ zd h2 a0 6 < zl h2 r1) ∧
P_C_plan_2 (zd h2 r1 (zd h2 a0 6)) h2 (fun r3 h4 =>
Q 0 h4)))
else
((zt h2 a0 = 7 ∧ zd h2 a0 8 = 14) ∧
P_C_endRow h2 (fun r5 h6 =>
Q 0 h6))) → zV true zy_X8_lay 8 4 [zR a0, zU] [zR r1] h2 (zQ0 Q) := by
    intro r1 h2 hP
    refine zV_astore_n (ls' := [zR a0, zR r1]) dX8_lay_4 rfl (Nat.le_of_ble_eq_true rfl) rfl rfl ?_
    refine zV_aload_n dX8_lay_5 rfl ?_
    obtain ⟨ob, hP⟩ := hP
    refine zV_gD dX8_lay_6 ob (by decide) fl_X8_27_7 rfl (ki := 6) rfl ?_
    refine zV_aload_n dX8_lay_9 rfl ?_
    obtain ⟨ob, hP⟩ := hP
    refine zV_gD dX8_lay_10 ob (by decide) fl_X8_45_7 rfl (ki := 1) rfl ?_
    obtain ⟨ob, hP⟩ := hP
    refine zV_alD dX8_lay_13 (Or.inl ob) ?_
    refine zV_icmp_le (tgt := 27) dX8_lay_14 (by decide) (fun c => ?_) (fun c => ?_)
    · have hP := zif_p hP c
      refine zV_aload_n dX8_lay_27 rfl ?_
      obtain ⟨ob, hP⟩ := hP
      refine zV_gD dX8_lay_28 ob (by decide) fl_X8_27_7 rfl (ki := 6) rfl ?_
      refine zV_if_le (tgt := 47) dX8_lay_31 (by decide) (fun c => ?_) (fun c => ?_)
      · have hP := zif_p hP c
        exact zV_return dX8_lay_47 rfl ⟨rfl, hP⟩
      · have hP := zif_n hP c
        refine zV_aload_n dX8_lay_34 rfl ?_
        obtain ⟨ob, hP⟩ := hP
        refine zV_gD dX8_lay_35 ob.1 (by decide) fl_X8_3_7 rfl (ki := 8) rfl ?_
        refine zV_top (fun x0 e_x0 => ?_)
        obtain rfl := e_x0.trans ob.2
        refine zV_aload_n dX8_lay_38 rfl ?_
        refine zV_aload_n dX8_lay_39 rfl ?_
        obtain ⟨ob, hP⟩ := hP
        refine zV_gD dX8_lay_40 ob (by decide) fl_X8_27_7 rfl (ki := 6) rfl ?_
        obtain ⟨ob, hP⟩ := hP
        refine zV_iaD dX8_lay_43 ob ?_
        refine zV_cVv (As := [zI (zd h2 r1 (zd h2 a0 6))]) (rest := []) dX8_lay_44 sa_14 (W_C_plan_2 _ _ _ hP) mi_X0_plan_2 ml_X8_52 (by decide) (Nat.le_of_ble_eq_true rfl) rfl rfl (fun r3 h4 hP => ?_)
        exact zV_return dX8_lay_47 rfl ⟨rfl, hP⟩
    · have hP := zif_n hP c
      refine zV_aload_n dX8_lay_17 rfl ?_
      obtain ⟨ob, hP⟩ := hP
      refine zV_gD dX8_lay_18 ob.1 (by decide) fl_X8_3_7 rfl (ki := 8) rfl ?_
      refine zV_top (fun x0 e_x0 => ?_)
      obtain rfl := e_x0.trans ob.2
      refine zV_cVv (As := []) (rest := []) dX8_lay_21 sa_14 (W_C_endRow _ _ hP) mi_X0_endRow ml_X8_49 (by decide) (Nat.le_of_ble_eq_true rfl) rfl rfl (fun r5 h6 hP => ?_)
      refine zV_goto (tgt := 47) dX8_lay_24 (by decide) ?_
      exact zV_return dX8_lay_47 rfl ⟨rfl, hP⟩
  exact zV_cUk (As := []) (rest := []) dX8_lay_1 ob (W_Am_layMost _ _ _ hP) ul_X8_41_7 (by decide) (Nat.le_of_ble_eq_true rfl) rfl rfl rfl K
def P_Gr_holds (a0 : Int) (h : zH) (Q : Int → zH → Prop) : Prop :=
(zt h a0 = 7 ∧ zd h a0 8 = 14) ∧
P_C_body 20 h (fun r1 h2 =>
(zt h2 a0 = 7) ∧
P_Am_holds a0 h2 (fun r3 h4 =>
if r3 = 0 then
(Q 0 h4)
else
((zt h4 a0 = 7) ∧
P_Ru_trues a0 h4 (fun r5 h6 =>
(zt h6 a0 = 7) ∧
Q (if r5 < zd h6 a0 6 then 0 else 1) h6))))
theorem W_Gr_holds (a0 : Int) (h : zH) (Q : Int → zH → Prop) (hP : P_Gr_holds a0 h Q) : zC true zy_X8_holds 5 [zR a0, zR 91] h (zQ0 Q) := by
  unfold P_Gr_holds at hP
  refine zC.of (by decide) (Nat.le_of_ble_eq_true rfl) ?_
  show zV true zy_X8_holds 5 0 [zR a0, zR 91] [] h (zQ0 Q)
  refine zV_aload_n dX8_holds_0 rfl ?_
  obtain ⟨ob, hP⟩ := hP
  refine zV_gD dX8_holds_1 ob.1 (by decide) fl_X8_3_7 rfl (ki := 8) rfl ?_
  refine zV_top (fun x0 e_x0 => ?_)
  obtain rfl := e_x0.trans ob.2
  refine zV_bipush dX8_holds_4 ⟨by decide, by decide, by decide⟩ ?_
  refine zV_cVv (As := [zI 20]) (rest := []) dX8_holds_6 sa_14 (W_C_body _ _ _ hP) mi_X0_body ml_X8_15 (by decide) (Nat.le_of_ble_eq_true rfl) rfl rfl (fun r1 h2 hP => ?_)
  refine zV_aload_n dX8_holds_9 rfl ?_
  refine zV_aload_n dX8_holds_10 rfl ?_
  obtain ⟨ob, hP⟩ := hP
  refine zV_cSUk (As := [zR 91]) (rest := []) [7] (by decide) dX8_holds_11 ⟨7, by decide, ob⟩ (W_Am_holds _ _ _ hP) su_X8_19 (by decide) (Nat.le_of_ble_eq_true rfl) rfl rfl rfl (fun r3 h4 hP => ?_)
  refine zV_if_eq (tgt := 33) dX8_holds_14 (by decide) (fun c => ?_) (fun c => ?_)
  · have hP := zif_p hP c
    refine zV_iconst dX8_holds_33 ⟨by decide, by decide⟩ ?_
    exact zV_ireturn dX8_holds_34 rfl rfl (z01 z0) ⟨rfl, hP⟩
  · have hP := zif_n hP c
    refine zV_aload_n dX8_holds_17 rfl ?_
    refine zV_aload_n dX8_holds_18 rfl ?_
    obtain ⟨ob, hP⟩ := hP
    have K : ∀ (r5 : Int) (h6 : zH), ((zt h6 a0 = 7) ∧
Q (if r5 < zd h6 a0 6 then 0 else 1) h6) → zV true zy_X8_holds 5 22 [zR a0, zR 91] [zI r5] h6 (zQ0 Q) := by
      intro r5 h6 hP
      refine zV_aload_n dX8_holds_22 rfl ?_
      obtain ⟨ob, hP⟩ := hP
      refine zV_gD dX8_holds_23 ob (by decide) fl_X8_27_7 rfl (ki := 6) rfl ?_
      have K : zV true zy_X8_holds 5 34 [zU, zU] [zI (if r5 < zd h6 a0 6 then 0 else 1)] h6 (zQ0 Q) := by
        exact zV_ireturn dX8_holds_34 rfl rfl (z01 (z01_if z0 z1)) ⟨rfl, hP⟩
      clear hP
      refine zV_icmp_lt (tgt := 33) dX8_holds_26 (by decide) (fun c => ?_) (fun c => ?_)
      · try simp only [if_pos c] at K
        refine zV_iconst dX8_holds_33 ⟨by decide, by decide⟩ ?_
        refine zV_mask [false, false] rfl ?_
        exact K
      · try simp only [if_neg c] at K
        refine zV_iconst dX8_holds_29 ⟨by decide, by decide⟩ ?_
        refine zV_goto (tgt := 34) dX8_holds_30 (by decide) ?_
        refine zV_mask [false, false] rfl ?_
        exact K
    exact zV_cUk (As := [zR 91]) (rest := []) dX8_holds_19 ob (W_Ru_trues _ _ _ hP) ul_X8_23_7 (by decide) (Nat.le_of_ble_eq_true rfl) rfl rfl rfl K
def P_Gr_least (a0 : Int) (h : zH) (Q : Int → zH → Prop) : Prop :=
(zt h a0 = 7 ∧ zd h a0 8 = 14) ∧
P_C_body 21 h (fun r1 h2 =>
(zt h2 a0 = 7) ∧
Q (zd h2 a0 6) h2)
theorem W_Gr_least (a0 : Int) (h : zH) (Q : Int → zH → Prop) (hP : P_Gr_least a0 h Q) : zC true zy_X8_least 2 [zR a0] h (zQ0 Q) := by
  unfold P_Gr_least at hP
  refine zC.of (by decide) (Nat.le_of_ble_eq_true rfl) ?_
  show zV true zy_X8_least 2 0 [zR a0] [] h (zQ0 Q)
  refine zV_aload_n dX8_least_0 rfl ?_
  obtain ⟨ob, hP⟩ := hP
  refine zV_gD dX8_least_1 ob.1 (by decide) fl_X8_3_7 rfl (ki := 8) rfl ?_
  refine zV_top (fun x0 e_x0 => ?_)
  obtain rfl := e_x0.trans ob.2
  refine zV_bipush dX8_least_4 ⟨by decide, by decide, by decide⟩ ?_
  refine zV_cVv (As := [zI 21]) (rest := []) dX8_least_6 sa_14 (W_C_body _ _ _ hP) mi_X0_body ml_X8_15 (by decide) (Nat.le_of_ble_eq_true rfl) rfl rfl (fun r1 h2 hP => ?_)
  refine zV_aload_n dX8_least_9 rfl ?_
  obtain ⟨ob, hP⟩ := hP
  refine zV_gD dX8_least_10 ob (by decide) fl_X8_27_7 rfl (ki := 6) rfl ?_
  exact zV_ireturn dX8_least_13 rfl rfl rfl ⟨rfl, hP⟩
def P_Pa_init (a0 : Int) (a2 : Int) (a3 : Int) (h : zH) (Q : Int → zH → Prop) : Prop :=
(zt h a0 = 8) ∧
∀ h1 : zH, h1 = zw h a0 6 14 →
(zt h1 a0 = 5 ∨ zt h1 a0 = 6 ∨ zt h1 a0 = 7 ∨ zt h1 a0 = 8 ∨ zt h1 a0 = 12) ∧
P_Ru_init a0 3 a2 h1 (fun r2 h3 =>
(zt h3 a0 = 8) ∧
(a3 = 0 ∨ a3 = 1) ∧
∀ h4 : zH, h4 = zw h3 a0 5 a3 →
Q 0 h4)
theorem W_Pa_init (a0 : Int) (a2 : Int) (a3 : Int) (h : zH) (Q : Int → zH → Prop) (hP : P_Pa_init a0 a2 a3 h Q) : zC true zy_X9_init 3 [zR a0, zR 14, zR a2, zI a3] h (zQ0 Q) := by
  unfold P_Pa_init at hP
  refine zC.of (by decide) (Nat.le_of_ble_eq_true rfl) ?_
  show zV true zy_X9_init 3 0 [zR a0, zR 14, zR a2, zI a3] [] h (zQ0 Q)
  refine zV_aload_n dX9_init_0 rfl ?_
  refine zV_aload_n dX9_init_1 rfl ?_
  obtain ⟨obt, hP⟩ := hP
  refine zV_pD dX9_init_2 obt (by decide) fl_X9_3_8 (Or.inr (by decide)) (Or.inr ⟨rfl, rfl, rfl⟩) rfl trivial (ki := 6) rfl (fun h1 e_h1 => ?_)
  have hP := hP h1 e_h1
  refine zV_aload_n dX9_init_5 rfl ?_
  refine zV_aload_n dX9_init_6 rfl ?_
  refine zV_iconst dX9_init_7 ⟨by decide, by decide⟩ ?_
  refine zV_aload_n dX9_init_8 rfl ?_
  obtain ⟨ob, hP⟩ := hP
  refine zV_cIM (As := [zR 14, zI 3, zR a2]) (rest := []) [5, 6, 7, 8, 12] (by decide) dX9_init_9 (by rcases ob with o | o | o | o | o <;> exact ⟨_, by decide, o⟩) (W_Ru_init _ _ _ _ _ hP) mc_X5_init ml_X9_9 (by decide) (Nat.le_of_ble_eq_true rfl) rfl (fun r2 h3 hP => ?_)
  refine zV_aload_n dX9_init_12 rfl ?_
  refine zV_iload_n dX9_init_13 rfl ?_
  obtain ⟨obt, hP⟩ := hP
  obtain ⟨ob, hP⟩ := hP
  refine zV_pD dX9_init_14 obt (by decide) fl_X9_15_8 (Or.inr (by decide)) (Or.inr ⟨rfl, rfl, rfl⟩) rfl ob (ki := 5) rfl (fun h4 e_h4 => ?_)
  have hP := hP h4 e_h4
  exact zV_return dX9_init_17 rfl ⟨rfl, hP⟩
def P_Pa_lay_L32 (y0 : Int) (Q : Int → zH → Prop) (k116 : Int → zH → Prop) : Nat → Int → Int → zH → Prop
| 0, _, _, _ => False
| n32 + 1, y1, y2, h =>
(zt h y0 = 8) ∧
(zt h (zd h y0 1) = 50) ∧
if zl h (zd h y0 1) ≤ y2 then
(k116 y1 h)
else
((zt h y0 = 8) ∧
(zt h (zd h y0 1) = 50 ∧ 0 ≤ y2 ∧ y2 < zl h (zd h y0 1)) ∧
∀ x3_2 : Int, x3_2 = (zd h (zd h y0 1) y2) →
(zt h y0 = 8 ∧ zd h y0 6 = 14) ∧
P_C_newName h (fun r3 h4 =>
(zt h4 y0 = 8 ∧ zd h4 y0 6 = 14) ∧
P_C_plan_3 (w32 (-y1)) (w32 (-x3_2)) (w32 (-r3)) h4 (fun r5 h6 =>
(zt h6 y0 = 8 ∧ zd h6 y0 6 = 14) ∧
P_C_plan_3 y1 x3_2 (w32 (-r3)) h6 (fun r7 h8 =>
(zt h8 y0 = 8 ∧ zd h8 y0 6 = 14) ∧
P_C_plan_3 y1 (w32 (-x3_2)) r3 h8 (fun r9 h10 =>
(zt h10 y0 = 8 ∧ zd h10 y0 6 = 14) ∧
P_C_plan_3 (w32 (-y1)) x3_2 r3 h10 (fun r11 h12 =>
∀ x2_13 : Int, x2_13 = w32 (y2 + 1) →
P_Pa_lay_L32 y0 Q k116 n32 r3 x2_13 h12))))))
theorem W_Pa_lay_L32 (y0 : Int) (Q : Int → zH → Prop) (k116 : Int → zH → Prop) (H116 : ∀ (v1 : Int) (h' : zH), k116 v1 h' → zV true zy_X9_lay 5 116 [zR y0, zI v1, zU, zU, zU] [] h' (zQ0 Q)) : ∀ (n32 : Nat) (y1 y2 : Int) (h : zH), P_Pa_lay_L32 y0 Q k116 n32 y1 y2 h → zV true zy_X9_lay 5 32 [zR y0, zI y1, zI y2, zU, zU] [] h (zQ0 Q) := by
  intro n32
  induction n32 with
  | zero => intro y1 y2 h hP; exact absurd hP id
  | succ n32 ih =>
    intro y1 y2 h hP
    unfold P_Pa_lay_L32 at hP
    refine zV_iload_n dX9_lay_32 rfl ?_
    refine zV_aload_n dX9_lay_33 rfl ?_
    obtain ⟨ob, hP⟩ := hP
    refine zV_gD dX9_lay_34 ob (by decide) fl_X9_45_8 rfl (ki := 1) rfl ?_
    obtain ⟨ob, hP⟩ := hP
    refine zV_alD dX9_lay_37 (Or.inl ob) ?_
    refine zV_icmp_ge (tgt := 116) dX9_lay_38 (by decide) (fun c => ?_) (fun c => ?_)
    · have hP := zif_p hP c
      refine zV_mask [true, true, false, true, true] (ls' := [zR y0, zI y1, zU, zU, zU]) rfl ?_
      exact H116 _ _ hP
    · have hP := zif_n hP c
      refine zV_aload_n dX9_lay_41 rfl ?_
      obtain ⟨ob, hP⟩ := hP
      refine zV_gD dX9_lay_42 ob (by decide) fl_X9_45_8 rfl (ki := 1) rfl ?_
      refine zV_iload_n dX9_lay_45 rfl ?_
      obtain ⟨ob, hP⟩ := hP
      refine zV_iaD dX9_lay_46 ob ?_
      refine zV_top (fun x3_2 e_x3_2 => ?_)
      have hP := hP x3_2 e_x3_2
      refine zV_istore_n (ls' := [zR y0, zI y1, zI y2, zI x3_2, zU]) dX9_lay_47 rfl (Nat.le_of_ble_eq_true rfl) rfl rfl ?_
      refine zV_aload_n dX9_lay_48 rfl ?_
      obtain ⟨ob, hP⟩ := hP
      refine zV_gD dX9_lay_49 ob.1 (by decide) fl_X9_3_8 rfl (ki := 6) rfl ?_
      refine zV_top (fun x0 e_x0 => ?_)
      obtain rfl := e_x0.trans ob.2
      refine zV_cVk (As := []) (rest := []) dX9_lay_52 sa_14 (W_C_newName _ _ hP) mi_X0_newName ml_X9_52 (by decide) (Nat.le_of_ble_eq_true rfl) rfl rfl rfl (fun r3 h4 hP => ?_)
      refine zV_istore (ls' := [zR y0, zI y1, zI y2, zI x3_2, zI r3]) dX9_lay_55 (Nat.le_of_ble_eq_true rfl) rfl rfl ?_
      refine zV_aload_n dX9_lay_57 rfl ?_
      obtain ⟨ob, hP⟩ := hP
      refine zV_gD dX9_lay_58 ob.1 (by decide) fl_X9_3_8 rfl (ki := 6) rfl ?_
      refine zV_top (fun x0 e_x0 => ?_)
      obtain rfl := e_x0.trans ob.2
      refine zV_iload_n dX9_lay_61 rfl ?_
      refine zV_ineg dX9_lay_62 ?_
      refine zV_iload_n dX9_lay_63 rfl ?_
      refine zV_ineg dX9_lay_64 ?_
      refine zV_iload dX9_lay_65 rfl ?_
      refine zV_ineg dX9_lay_67 ?_
      refine zV_cVv (As := [zI (w32 (-y1)), zI (w32 (-x3_2)), zI (w32 (-r3))]) (rest := []) dX9_lay_68 sa_14 (W_C_plan_3 _ _ _ _ _ hP) mi_X0_plan_3 ml_X9_55 (by decide) (Nat.le_of_ble_eq_true rfl) rfl rfl (fun r5 h6 hP => ?_)
      refine zV_aload_n dX9_lay_71 rfl ?_
      obtain ⟨ob, hP⟩ := hP
      refine zV_gD dX9_lay_72 ob.1 (by decide) fl_X9_3_8 rfl (ki := 6) rfl ?_
      refine zV_top (fun x0 e_x0 => ?_)
      obtain rfl := e_x0.trans ob.2
      refine zV_iload_n dX9_lay_75 rfl ?_
      refine zV_iload_n dX9_lay_76 rfl ?_
      refine zV_iload dX9_lay_77 rfl ?_
      refine zV_ineg dX9_lay_79 ?_
      refine zV_cVv (As := [zI y1, zI x3_2, zI (w32 (-r3))]) (rest := []) dX9_lay_80 sa_14 (W_C_plan_3 _ _ _ _ _ hP) mi_X0_plan_3 ml_X9_55 (by decide) (Nat.le_of_ble_eq_true rfl) rfl rfl (fun r7 h8 hP => ?_)
      refine zV_aload_n dX9_lay_83 rfl ?_
      obtain ⟨ob, hP⟩ := hP
      refine zV_gD dX9_lay_84 ob.1 (by decide) fl_X9_3_8 rfl (ki := 6) rfl ?_
      refine zV_top (fun x0 e_x0 => ?_)
      obtain rfl := e_x0.trans ob.2
      refine zV_iload_n dX9_lay_87 rfl ?_
      refine zV_iload_n dX9_lay_88 rfl ?_
      refine zV_ineg dX9_lay_89 ?_
      refine zV_iload dX9_lay_90 rfl ?_
      refine zV_cVv (As := [zI y1, zI (w32 (-x3_2)), zI r3]) (rest := []) dX9_lay_92 sa_14 (W_C_plan_3 _ _ _ _ _ hP) mi_X0_plan_3 ml_X9_55 (by decide) (Nat.le_of_ble_eq_true rfl) rfl rfl (fun r9 h10 hP => ?_)
      refine zV_aload_n dX9_lay_95 rfl ?_
      obtain ⟨ob, hP⟩ := hP
      refine zV_gD dX9_lay_96 ob.1 (by decide) fl_X9_3_8 rfl (ki := 6) rfl ?_
      refine zV_top (fun x0 e_x0 => ?_)
      obtain rfl := e_x0.trans ob.2
      refine zV_iload_n dX9_lay_99 rfl ?_
      refine zV_ineg dX9_lay_100 ?_
      refine zV_iload_n dX9_lay_101 rfl ?_
      refine zV_iload dX9_lay_102 rfl ?_
      refine zV_cVv (As := [zI (w32 (-y1)), zI x3_2, zI r3]) (rest := []) dX9_lay_104 sa_14 (W_C_plan_3 _ _ _ _ _ hP) mi_X0_plan_3 ml_X9_55 (by decide) (Nat.le_of_ble_eq_true rfl) rfl rfl (fun r11 h12 hP => ?_)
      refine zV_iload dX9_lay_107 rfl ?_
      refine zV_istore_n (ls' := [zR y0, zI r3, zI y2, zI x3_2, zI r3]) dX9_lay_109 rfl (Nat.le_of_ble_eq_true rfl) rfl rfl ?_
      refine zV_inc (ls' := fun z => [zR y0, zI r3, zI z, zI x3_2, zI r3]) dX9_lay_110 (Nat.le_of_ble_eq_true rfl) rfl rfl (fun _ => rfl) (fun x2_13 e_x2_13 => ?_)
      have hP := hP x2_13 e_x2_13
      refine zV_goto (tgt := 32) dX9_lay_113 (by decide) ?_
      refine zV_mask [true, true, true, false, false] (ls' := [zR y0, zI r3, zI x2_13, zU, zU]) rfl ?_
      exact ih _ _ _ hP
def P_Pa_lay (a0 : Int) (h : zH) (Q : Int → zH → Prop) : Prop :=
(zt h a0 = 8) ∧
(zt h (zd h a0 1) = 50) ∧
if zl h (zd h a0 1) = 0 then
((zt h a0 = 8) ∧
if zd h a0 5 = 0 then
(Q 0 h)
else
((zt h a0 = 8 ∧ zd h a0 6 = 14) ∧
P_C_endRow h (fun r17 h18 =>
Q 0 h18)))
else
((zt h a0 = 8) ∧
(zt h (zd h a0 1) = 50 ∧ (0 : Int) ≤ 0 ∧ 0 < zl h (zd h a0 1)) ∧
∀ x1_1 : Int, x1_1 = (zd h (zd h a0 1) 0) →
∃ n32, P_Pa_lay_L32 a0 Q (fun u1_116 h14 =>
(zt h14 a0 = 8 ∧ zd h14 a0 6 = 14) ∧
(zt h14 a0 = 8) ∧
P_C_plan_2 (if zd h14 a0 5 = 0 then w32 (-u1_116) else u1_116) h14 (fun r15 h16 =>
Q 0 h16)) n32 x1_1 1 h)
theorem W_Pa_lay (a0 : Int) (h : zH) (Q : Int → zH → Prop) (hP : P_Pa_lay a0 h Q) : zC true zy_X9_lay 5 [zR a0] h (zQ0 Q) := by
  unfold P_Pa_lay at hP
  refine zC.of (by decide) (Nat.le_of_ble_eq_true rfl) ?_
  show zV true zy_X9_lay 5 0 [zR a0, zU, zU, zU, zU] [] h (zQ0 Q)
  refine zV_aload_n dX9_lay_0 rfl ?_
  obtain ⟨ob, hP⟩ := hP
  refine zV_gD dX9_lay_1 ob (by decide) fl_X9_45_8 rfl (ki := 1) rfl ?_
  obtain ⟨ob, hP⟩ := hP
  refine zV_alD dX9_lay_4 (Or.inl ob) ?_
  refine zV_if_ne (tgt := 23) dX9_lay_5 (by decide) (fun c => ?_) (fun c => ?_)
  · have hP := zif_n hP c
    refine zV_aload_n dX9_lay_23 rfl ?_
    obtain ⟨ob, hP⟩ := hP
    refine zV_gD dX9_lay_24 ob (by decide) fl_X9_45_8 rfl (ki := 1) rfl ?_
    refine zV_iconst dX9_lay_27 ⟨by decide, by decide⟩ ?_
    obtain ⟨ob, hP⟩ := hP
    refine zV_iaD dX9_lay_28 ob ?_
    refine zV_top (fun x1_1 e_x1_1 => ?_)
    have hP := hP x1_1 e_x1_1
    refine zV_istore_n (ls' := [zR a0, zI x1_1, zU, zU, zU]) dX9_lay_29 rfl (Nat.le_of_ble_eq_true rfl) rfl rfl ?_
    refine zV_iconst dX9_lay_30 ⟨by decide, by decide⟩ ?_
    refine zV_istore_n (ls' := [zR a0, zI x1_1, zI 1, zU, zU]) dX9_lay_31 rfl (Nat.le_of_ble_eq_true rfl) rfl rfl ?_
    obtain ⟨n32, hP⟩ := hP
    refine W_Pa_lay_L32 _ _ _ (fun u1_116 h14 hP => ?_) n32 _ _ _ hP
    refine zV_aload_n dX9_lay_116 rfl ?_
    obtain ⟨ob, hP⟩ := hP
    refine zV_gD dX9_lay_117 ob.1 (by decide) fl_X9_3_8 rfl (ki := 6) rfl ?_
    refine zV_top (fun x0 e_x0 => ?_)
    obtain rfl := e_x0.trans ob.2
    refine zV_aload_n dX9_lay_120 rfl ?_
    obtain ⟨ob, hP⟩ := hP
    refine zV_gD dX9_lay_121 ob (by decide) fl_X9_15_8 rfl (ki := 5) rfl ?_
    have K : zV true zy_X9_lay 5 133 [zU, zU, zU, zU, zU] [zI (if zd h14 a0 5 = 0 then w32 (-u1_116) else u1_116), zR 14] h14 (zQ0 Q) := by
      refine zV_cVv (As := [zI (if zd h14 a0 5 = 0 then w32 (-u1_116) else u1_116)]) (rest := []) dX9_lay_133 sa_14 (W_C_plan_2 _ _ _ hP) mi_X0_plan_2 ml_X9_59 (by decide) (Nat.le_of_ble_eq_true rfl) rfl rfl (fun r15 h16 hP => ?_)
      exact zV_return dX9_lay_136 rfl ⟨rfl, hP⟩
    clear hP
    refine zV_if_eq (tgt := 131) dX9_lay_124 (by decide) (fun c => ?_) (fun c => ?_)
    · try simp only [if_pos c] at K
      refine zV_iload_n dX9_lay_131 rfl ?_
      refine zV_ineg dX9_lay_132 ?_
      refine zV_mask [false, false, false, false, false] rfl ?_
      exact K
    · try simp only [if_neg c] at K
      refine zV_iload_n dX9_lay_127 rfl ?_
      refine zV_goto (tgt := 133) dX9_lay_128 (by decide) ?_
      refine zV_mask [false, false, false, false, false] rfl ?_
      exact K
  · have hP := zif_p hP c
    refine zV_aload_n dX9_lay_8 rfl ?_
    obtain ⟨ob, hP⟩ := hP
    refine zV_gD dX9_lay_9 ob (by decide) fl_X9_15_8 rfl (ki := 5) rfl ?_
    refine zV_if_eq (tgt := 22) dX9_lay_12 (by decide) (fun c => ?_) (fun c => ?_)
    · have hP := zif_p hP c
      exact zV_return dX9_lay_22 rfl ⟨rfl, hP⟩
    · have hP := zif_n hP c
      refine zV_aload_n dX9_lay_15 rfl ?_
      obtain ⟨ob, hP⟩ := hP
      refine zV_gD dX9_lay_16 ob.1 (by decide) fl_X9_3_8 rfl (ki := 6) rfl ?_
      refine zV_top (fun x0 e_x0 => ?_)
      obtain rfl := e_x0.trans ob.2
      refine zV_cVv (As := []) (rest := []) dX9_lay_19 sa_14 (W_C_endRow _ _ hP) mi_X0_endRow ml_X9_49 (by decide) (Nat.le_of_ble_eq_true rfl) rfl rfl (fun r17 h18 hP => ?_)
      exact zV_return dX9_lay_22 rfl ⟨rfl, hP⟩
def P_Pa_holds_J25 (y0 : Int) (s0 : Int) (h : zH) (Q : Int → zH → Prop) : Prop :=
(zt h y0 = 8) ∧
Q (if s0 = zd h y0 5 then 1 else 0) h
theorem W_Pa_holds_J25 (y0 : Int) (s0 : Int) (h : zH) (Q : Int → zH → Prop) (hP : P_Pa_holds_J25 y0 s0 h Q) : zV true zy_X9_holds 4 25 [zR y0, zU] [zI s0] h (zQ0 Q) := by
  unfold P_Pa_holds_J25 at hP
  refine zV_aload_n dX9_holds_25 rfl ?_
  obtain ⟨ob, hP⟩ := hP
  refine zV_gD dX9_holds_26 ob (by decide) fl_X9_15_8 rfl (ki := 5) rfl ?_
  have K : zV true zy_X9_holds 4 37 [zU, zU] [zI (if s0 = zd h y0 5 then 1 else 0)] h (zQ0 Q) := by
    exact zV_ireturn dX9_holds_37 rfl rfl (z01 (z01_if z1 z0)) ⟨rfl, hP⟩
  clear hP
  refine zV_icmp_ne (tgt := 36) dX9_holds_29 (by decide) (fun c => ?_) (fun c => ?_)
  · try simp only [if_neg c] at K
    refine zV_iconst dX9_holds_36 ⟨by decide, by decide⟩ ?_
    refine zV_mask [false, false] rfl ?_
    exact K
  · try simp only [if_pos c] at K
    refine zV_iconst dX9_holds_32 ⟨by decide, by decide⟩ ?_
    refine zV_goto (tgt := 37) dX9_holds_33 (by decide) ?_
    refine zV_mask [false, false] rfl ?_
    exact K
def P_Pa_holds (a0 : Int) (h : zH) (Q : Int → zH → Prop) : Prop :=
(zt h a0 = 8 ∧ zd h a0 6 = 14) ∧
P_C_body 30 h (fun r1 h2 =>
(zt h2 a0 = 8) ∧
P_Ru_trues a0 h2 (fun r3 h4 =>
P_Pa_holds_J25 a0 (if Int.tmod r3 2 = 1 then 1 else 0) h4 Q))
theorem W_Pa_holds (a0 : Int) (h : zH) (Q : Int → zH → Prop) (hP : P_Pa_holds a0 h Q) : zC true zy_X9_holds 4 [zR a0, zR 91] h (zQ0 Q) := by
  unfold P_Pa_holds at hP
  refine zC.of (by decide) (Nat.le_of_ble_eq_true rfl) ?_
  show zV true zy_X9_holds 4 0 [zR a0, zR 91] [] h (zQ0 Q)
  refine zV_aload_n dX9_holds_0 rfl ?_
  obtain ⟨ob, hP⟩ := hP
  refine zV_gD dX9_holds_1 ob.1 (by decide) fl_X9_3_8 rfl (ki := 6) rfl ?_
  refine zV_top (fun x0 e_x0 => ?_)
  obtain rfl := e_x0.trans ob.2
  refine zV_bipush dX9_holds_4 ⟨by decide, by decide, by decide⟩ ?_
  refine zV_cVv (As := [zI 30]) (rest := []) dX9_holds_6 sa_14 (W_C_body _ _ _ hP) mi_X0_body ml_X9_19 (by decide) (Nat.le_of_ble_eq_true rfl) rfl rfl (fun r1 h2 hP => ?_)
  refine zV_aload_n dX9_holds_9 rfl ?_
  refine zV_aload_n dX9_holds_10 rfl ?_
  obtain ⟨ob, hP⟩ := hP
  have K : ∀ (r3 : Int) (h4 : zH), (P_Pa_holds_J25 a0 (if Int.tmod r3 2 = 1 then 1 else 0) h4 Q) → zV true zy_X9_holds 4 14 [zR a0, zR 91] [zI r3] h4 (zQ0 Q) := by
    intro r3 h4 hP
    refine zV_iconst dX9_holds_14 ⟨by decide, by decide⟩ ?_
    refine zV_irem dX9_holds_15 (by decide) ?_
    refine zV_iconst dX9_holds_16 ⟨by decide, by decide⟩ ?_
    have K : zV true zy_X9_holds 4 25 [zR a0, zU] [zI (if Int.tmod r3 2 = 1 then 1 else 0)] h4 (zQ0 Q) := by
      exact W_Pa_holds_J25 _ _ _ _ hP
    clear hP
    refine zV_icmp_ne (tgt := 24) dX9_holds_17 (by decide) (fun c => ?_) (fun c => ?_)
    · try simp only [if_neg c] at K
      refine zV_iconst dX9_holds_24 ⟨by decide, by decide⟩ ?_
      refine zV_mask [true, false] rfl ?_
      exact K
    · try simp only [if_pos c] at K
      refine zV_iconst dX9_holds_20 ⟨by decide, by decide⟩ ?_
      refine zV_goto (tgt := 25) dX9_holds_21 (by decide) ?_
      refine zV_mask [true, false] rfl ?_
      exact K
  exact zV_cUk (As := [zR 91]) (rest := []) dX9_holds_11 ob (W_Ru_trues _ _ _ hP) ul_X9_23_8 (by decide) (Nat.le_of_ble_eq_true rfl) rfl rfl rfl K
def P_Pa_least (a0 : Int) (h : zH) (Q : Int → zH → Prop) : Prop :=
(zt h a0 = 8 ∧ zd h a0 6 = 14) ∧
P_C_body 31 h (fun r1 h2 =>
(zt h2 a0 = 8) ∧
P_Ru_least a0 h2 (fun r3 h4 =>
(zt h4 a0 = 8) ∧
Q (w32 (r3 + (if zd h4 a0 5 = 0 then 0 else 1))) h4))
theorem W_Pa_least (a0 : Int) (h : zH) (Q : Int → zH → Prop) (hP : P_Pa_least a0 h Q) : zC true zy_X9_least 3 [zR a0] h (zQ0 Q) := by
  unfold P_Pa_least at hP
  refine zC.of (by decide) (Nat.le_of_ble_eq_true rfl) ?_
  show zV true zy_X9_least 3 0 [zR a0] [] h (zQ0 Q)
  refine zV_aload_n dX9_least_0 rfl ?_
  obtain ⟨ob, hP⟩ := hP
  refine zV_gD dX9_least_1 ob.1 (by decide) fl_X9_3_8 rfl (ki := 6) rfl ?_
  refine zV_top (fun x0 e_x0 => ?_)
  obtain rfl := e_x0.trans ob.2
  refine zV_bipush dX9_least_4 ⟨by decide, by decide, by decide⟩ ?_
  refine zV_cVv (As := [zI 31]) (rest := []) dX9_least_6 sa_14 (W_C_body _ _ _ hP) mi_X0_body ml_X9_19 (by decide) (Nat.le_of_ble_eq_true rfl) rfl rfl (fun r1 h2 hP => ?_)
  refine zV_aload_n dX9_least_9 rfl ?_
  obtain ⟨ob, hP⟩ := hP
  refine zV_cSUk (As := []) (rest := []) [8] (by decide) dX9_least_10 ⟨8, by decide, ob⟩ (W_Ru_least _ _ _ hP) su_X9_27 (by decide) (Nat.le_of_ble_eq_true rfl) rfl rfl rfl (fun r3 h4 hP => ?_)
  refine zV_aload_n dX9_least_13 rfl ?_
  obtain ⟨ob, hP⟩ := hP
  refine zV_gD dX9_least_14 ob (by decide) fl_X9_15_8 rfl (ki := 5) rfl ?_
  have K : zV true zy_X9_least 3 25 [zU] [zI (if zd h4 a0 5 = 0 then 0 else 1), zI r3] h4 (zQ0 Q) := by
    refine zV_iadd dX9_least_25 ?_
    exact zV_ireturn dX9_least_26 rfl rfl rfl ⟨rfl, hP⟩
  clear hP
  refine zV_if_eq (tgt := 24) dX9_least_17 (by decide) (fun c => ?_) (fun c => ?_)
  · try simp only [if_pos c] at K
    refine zV_iconst dX9_least_24 ⟨by decide, by decide⟩ ?_
    refine zV_mask [false] rfl ?_
    exact K
  · try simp only [if_neg c] at K
    refine zV_iconst dX9_least_20 ⟨by decide, by decide⟩ ?_
    refine zV_goto (tgt := 25) dX9_least_21 (by decide) ?_
    refine zV_mask [false] rfl ?_
    exact K
def P_Pa_most_J26 (y0 : Int) (y1 : Int) (s0 : Int) (h : zH) (Q : Int → zH → Prop) : Prop :=
(zt h y0 = 8) ∧
Q (if s0 = zd h y0 5 then y1 else w32 (y1 - 1)) h
theorem W_Pa_most_J26 (y0 : Int) (y1 : Int) (s0 : Int) (h : zH) (Q : Int → zH → Prop) (hP : P_Pa_most_J26 y0 y1 s0 h Q) : zV true zy_X9_most 3 26 [zR y0, zI y1] [zI s0] h (zQ0 Q) := by
  unfold P_Pa_most_J26 at hP
  refine zV_aload_n dX9_most_26 rfl ?_
  obtain ⟨ob, hP⟩ := hP
  refine zV_gD dX9_most_27 ob (by decide) fl_X9_15_8 rfl (ki := 5) rfl ?_
  have K : zV true zy_X9_most 3 40 [zU, zU] [zI (if s0 = zd h y0 5 then y1 else w32 (y1 - 1))] h (zQ0 Q) := by
    exact zV_ireturn dX9_most_40 rfl rfl rfl ⟨rfl, hP⟩
  clear hP
  refine zV_icmp_ne (tgt := 37) dX9_most_30 (by decide) (fun c => ?_) (fun c => ?_)
  · try simp only [if_neg c] at K
    refine zV_iload_n dX9_most_37 rfl ?_
    refine zV_iconst dX9_most_38 ⟨by decide, by decide⟩ ?_
    refine zV_isub dX9_most_39 ?_
    refine zV_mask [false, false] rfl ?_
    exact K
  · try simp only [if_pos c] at K
    refine zV_iload_n dX9_most_33 rfl ?_
    refine zV_goto (tgt := 40) dX9_most_34 (by decide) ?_
    refine zV_mask [false, false] rfl ?_
    exact K
def P_Pa_most (a0 : Int) (h : zH) (Q : Int → zH → Prop) : Prop :=
(zt h a0 = 8 ∧ zd h a0 6 = 14) ∧
P_C_body 32 h (fun r1 h2 =>
(zt h2 a0 = 8) ∧
P_Ru_most a0 h2 (fun r3 h4 =>
P_Pa_most_J26 a0 r3 (if Int.tmod r3 2 = 1 then 1 else 0) h4 Q))
theorem W_Pa_most (a0 : Int) (h : zH) (Q : Int → zH → Prop) (hP : P_Pa_most a0 h Q) : zC true zy_X9_most 3 [zR a0] h (zQ0 Q) := by
  unfold P_Pa_most at hP
  refine zC.of (by decide) (Nat.le_of_ble_eq_true rfl) ?_
  show zV true zy_X9_most 3 0 [zR a0, zU] [] h (zQ0 Q)
  refine zV_aload_n dX9_most_0 rfl ?_
  obtain ⟨ob, hP⟩ := hP
  refine zV_gD dX9_most_1 ob.1 (by decide) fl_X9_3_8 rfl (ki := 6) rfl ?_
  refine zV_top (fun x0 e_x0 => ?_)
  obtain rfl := e_x0.trans ob.2
  refine zV_bipush dX9_most_4 ⟨by decide, by decide, by decide⟩ ?_
  refine zV_cVv (As := [zI 32]) (rest := []) dX9_most_6 sa_14 (W_C_body _ _ _ hP) mi_X0_body ml_X9_19 (by decide) (Nat.le_of_ble_eq_true rfl) rfl rfl (fun r1 h2 hP => ?_)
  refine zV_aload_n dX9_most_9 rfl ?_
  obtain ⟨ob, hP⟩ := hP
  refine zV_cSUk (As := []) (rest := []) [8] (by decide) dX9_most_10 ⟨8, by decide, ob⟩ (W_Ru_most _ _ _ hP) su_X9_31 (by decide) (Nat.le_of_ble_eq_true rfl) rfl rfl rfl (fun r3 h4 hP => ?_)
  refine zV_istore_n (ls' := [zR a0, zI r3]) dX9_most_13 rfl (Nat.le_of_ble_eq_true rfl) rfl rfl ?_
  refine zV_iload_n dX9_most_14 rfl ?_
  refine zV_iconst dX9_most_15 ⟨by decide, by decide⟩ ?_
  refine zV_irem dX9_most_16 (by decide) ?_
  refine zV_iconst dX9_most_17 ⟨by decide, by decide⟩ ?_
  have K : zV true zy_X9_most 3 26 [zR a0, zI r3] [zI (if Int.tmod r3 2 = 1 then 1 else 0)] h4 (zQ0 Q) := by
    exact W_Pa_most_J26 _ _ _ _ _ hP
  clear hP
  refine zV_icmp_ne (tgt := 25) dX9_most_18 (by decide) (fun c => ?_) (fun c => ?_)
  · try simp only [if_neg c] at K
    refine zV_iconst dX9_most_25 ⟨by decide, by decide⟩ ?_
    refine zV_mask [true, true] rfl ?_
    exact K
  · try simp only [if_pos c] at K
    refine zV_iconst dX9_most_21 ⟨by decide, by decide⟩ ?_
    refine zV_goto (tgt := 26) dX9_most_22 (by decide) ?_
    refine zV_mask [true, true] rfl ?_
    exact K
def P_To_all_L11 (y0 : Int) (y1 : Int) (y2 : Int) (y4 : Int) (y5 : Int) (Q : Int → zH → Prop) (k42 : zH → Prop) : Nat → Int → zH → Prop
| 0, _, _ => False
| n11 + 1, y6, h =>
if y5 ≤ y6 then
(k42 h)
else
((zt h y4 = 50 ∧ 0 ≤ y6 ∧ y6 < zl h y4) ∧
∀ x7_2 : Int, x7_2 = (zd h y4 y6) →
(zt h y0 = 12 ∧ zd h y0 8 = 14) ∧
P_C_plan x7_2 (w32 (-y2)) h (fun r3 h4 =>
∀ x6_5 : Int, x6_5 = w32 (y6 + 1) →
P_To_all_L11 y0 y1 y2 y4 y5 Q k42 n11 x6_5 h4))
theorem W_To_all_L11 (y0 : Int) (y1 : Int) (y2 : Int) (y4 : Int) (y5 : Int) (Q : Int → zH → Prop) (k42 : zH → Prop) (H42 : ∀ (h' : zH), k42 h' → zV true zy_X13_all 4 42 [zR y0, zR y1, zI y2, zU, zU, zU, zU, zU] [] h' (zQ0 Q)) : ∀ (n11 : Nat) (y6 : Int) (h : zH), P_To_all_L11 y0 y1 y2 y4 y5 Q k42 n11 y6 h → zV true zy_X13_all 4 11 [zR y0, zR y1, zI y2, zU, zR y4, zI y5, zI y6, zU] [] h (zQ0 Q) := by
  intro n11
  induction n11 with
  | zero => intro y6 h hP; exact absurd hP id
  | succ n11 ih =>
    intro y6 h hP
    unfold P_To_all_L11 at hP
    refine zV_iload dX13_all_11 rfl ?_
    refine zV_iload dX13_all_13 rfl ?_
    refine zV_icmp_ge (tgt := 42) dX13_all_15 (by decide) (fun c => ?_) (fun c => ?_)
    · have hP := zif_p hP c
      refine zV_mask [true, true, true, true, false, false, false, true] (ls' := [zR y0, zR y1, zI y2, zU, zU, zU, zU, zU]) rfl ?_
      exact H42 _ hP
    · have hP := zif_n hP c
      refine zV_aload dX13_all_18 rfl ?_
      refine zV_iload dX13_all_20 rfl ?_
      obtain ⟨ob, hP⟩ := hP
      refine zV_iaD dX13_all_22 ob ?_
      refine zV_top (fun x7_2 e_x7_2 => ?_)
      have hP := hP x7_2 e_x7_2
      refine zV_istore (ls' := [zR y0, zR y1, zI y2, zU, zR y4, zI y5, zI y6, zI x7_2]) dX13_all_23 (Nat.le_of_ble_eq_true rfl) rfl rfl ?_
      refine zV_aload_n dX13_all_25 rfl ?_
      obtain ⟨ob, hP⟩ := hP
      refine zV_gD dX13_all_26 ob.1 (by decide) fl_X13_3_12 rfl (ki := 8) rfl ?_
      refine zV_top (fun x0 e_x0 => ?_)
      obtain rfl := e_x0.trans ob.2
      refine zV_iload dX13_all_29 rfl ?_
      refine zV_iload_n dX13_all_31 rfl ?_
      refine zV_ineg dX13_all_32 ?_
      refine zV_cVv (As := [zI x7_2, zI (w32 (-y2))]) (rest := []) dX13_all_33 sa_14 (W_C_plan _ _ _ _ hP) mi_X0_plan ml_X13_72 (by decide) (Nat.le_of_ble_eq_true rfl) rfl rfl (fun r3 h4 hP => ?_)
      refine zV_inc (ls' := fun z => [zR y0, zR y1, zI y2, zU, zR y4, zI y5, zI z, zI x7_2]) dX13_all_36 (Nat.le_of_ble_eq_true rfl) rfl rfl (fun _ => rfl) (fun x6_5 e_x6_5 => ?_)
      have hP := hP x6_5 e_x6_5
      refine zV_goto (tgt := 11) dX13_all_39 (by decide) ?_
      refine zV_mask [true, true, true, true, true, true, true, false] (ls' := [zR y0, zR y1, zI y2, zU, zR y4, zI y5, zI x6_5, zU]) rfl ?_
      exact ih _ _ hP
def P_To_all_L61 (y0 : Int) (y4 : Int) (y5 : Int) (Q : Int → zH → Prop) : Nat → Int → zH → Prop
| 0, _, _ => False
| n61 + 1, y6, h =>
if y5 ≤ y6 then
((zt h y0 = 12 ∧ zd h y0 8 = 14) ∧
P_C_endRow h (fun r10 h11 =>
Q 0 h11))
else
((zt h y4 = 50 ∧ 0 ≤ y6 ∧ y6 < zl h y4) ∧
∀ x7_12 : Int, x7_12 = (zd h y4 y6) →
(zt h y0 = 12 ∧ zd h y0 8 = 14) ∧
P_C_also (w32 (-x7_12)) h (fun r13 h14 =>
∀ x6_15 : Int, x6_15 = w32 (y6 + 1) →
P_To_all_L61 y0 y4 y5 Q n61 x6_15 h14))
theorem W_To_all_L61 (y0 : Int) (y4 : Int) (y5 : Int) (Q : Int → zH → Prop) : ∀ (n61 : Nat) (y6 : Int) (h : zH), P_To_all_L61 y0 y4 y5 Q n61 y6 h → zV true zy_X13_all 4 61 [zR y0, zU, zU, zU, zR y4, zI y5, zI y6, zU] [] h (zQ0 Q) := by
  intro n61
  induction n61 with
  | zero => intro y6 h hP; exact absurd hP id
  | succ n61 ih =>
    intro y6 h hP
    unfold P_To_all_L61 at hP
    refine zV_iload dX13_all_61 rfl ?_
    refine zV_iload dX13_all_63 rfl ?_
    refine zV_icmp_ge (tgt := 91) dX13_all_65 (by decide) (fun c => ?_) (fun c => ?_)
    · have hP := zif_p hP c
      refine zV_aload_n dX13_all_91 rfl ?_
      obtain ⟨ob, hP⟩ := hP
      refine zV_gD dX13_all_92 ob.1 (by decide) fl_X13_3_12 rfl (ki := 8) rfl ?_
      refine zV_top (fun x0 e_x0 => ?_)
      obtain rfl := e_x0.trans ob.2
      refine zV_cVv (As := []) (rest := []) dX13_all_95 sa_14 (W_C_endRow _ _ hP) mi_X0_endRow ml_X13_85 (by decide) (Nat.le_of_ble_eq_true rfl) rfl rfl (fun r10 h11 hP => ?_)
      exact zV_return dX13_all_98 rfl ⟨rfl, hP⟩
    · have hP := zif_n hP c
      refine zV_aload dX13_all_68 rfl ?_
      refine zV_iload dX13_all_70 rfl ?_
      obtain ⟨ob, hP⟩ := hP
      refine zV_iaD dX13_all_72 ob ?_
      refine zV_top (fun x7_12 e_x7_12 => ?_)
      have hP := hP x7_12 e_x7_12
      refine zV_istore (ls' := [zR y0, zU, zU, zU, zR y4, zI y5, zI y6, zI x7_12]) dX13_all_73 (Nat.le_of_ble_eq_true rfl) rfl rfl ?_
      refine zV_aload_n dX13_all_75 rfl ?_
      obtain ⟨ob, hP⟩ := hP
      refine zV_gD dX13_all_76 ob.1 (by decide) fl_X13_3_12 rfl (ki := 8) rfl ?_
      refine zV_top (fun x0 e_x0 => ?_)
      obtain rfl := e_x0.trans ob.2
      refine zV_iload dX13_all_79 rfl ?_
      refine zV_ineg dX13_all_81 ?_
      refine zV_cVv (As := [zI (w32 (-x7_12))]) (rest := []) dX13_all_82 sa_14 (W_C_also _ _ _ hP) mi_X0_also ml_X13_82 (by decide) (Nat.le_of_ble_eq_true rfl) rfl rfl (fun r13 h14 hP => ?_)
      refine zV_inc (ls' := fun z => [zR y0, zU, zU, zU, zR y4, zI y5, zI z, zI x7_12]) dX13_all_85 (Nat.le_of_ble_eq_true rfl) rfl rfl (fun _ => rfl) (fun x6_15 e_x6_15 => ?_)
      have hP := hP x6_15 e_x6_15
      refine zV_goto (tgt := 61) dX13_all_88 (by decide) ?_
      refine zV_mask [true, true, true, true, true, true, true, false] (ls' := [zR y0, zU, zU, zU, zR y4, zI y5, zI x6_15, zU]) rfl ?_
      exact ih _ _ hP
def P_To_all (a0 : Int) (a1 : Int) (a2 : Int) (a3 : Int) (h : zH) (Q : Int → zH → Prop) : Prop :=
(zt h a1 = 50) ∧
∀ x5_1 : Int, x5_1 = (zl h a1) →
∃ n11, P_To_all_L11 a0 a1 a2 a1 x5_1 Q (fun h6 =>
(zt h6 a0 = 12 ∧ zd h6 a0 8 = 14) ∧
P_C_also a2 h6 (fun r7 h8 =>
(zt h8 a1 = 50) ∧
∀ x5_9 : Int, x5_9 = (zl h8 a1) →
∃ n61, P_To_all_L61 a0 a1 x5_9 Q n61 0 h8)) n11 0 h
theorem W_To_all (a0 : Int) (a1 : Int) (a2 : Int) (a3 : Int) (h : zH) (Q : Int → zH → Prop) (hP : P_To_all a0 a1 a2 a3 h Q) : zC true zy_X13_all 4 [zR a0, zR a1, zI a2, zI a3] h (zQ0 Q) := by
  unfold P_To_all at hP
  refine zC.of (by decide) (Nat.le_of_ble_eq_true rfl) ?_
  show zV true zy_X13_all 4 0 [zR a0, zR a1, zI a2, zI a3, zU, zU, zU, zU] [] h (zQ0 Q)
  refine zV_aload_n dX13_all_0 rfl ?_
  refine zV_astore (ls' := [zR a0, zR a1, zI a2, zI a3, zR a1, zU, zU, zU]) dX13_all_1 (Nat.le_of_ble_eq_true rfl) rfl rfl ?_
  refine zV_aload dX13_all_3 rfl ?_
  obtain ⟨ob, hP⟩ := hP
  refine zV_alD dX13_all_5 (Or.inl ob) ?_
  refine zV_top (fun x5_1 e_x5_1 => ?_)
  have hP := hP x5_1 e_x5_1
  refine zV_istore (ls' := [zR a0, zR a1, zI a2, zI a3, zR a1, zI x5_1, zU, zU]) dX13_all_6 (Nat.le_of_ble_eq_true rfl) rfl rfl ?_
  refine zV_iconst dX13_all_8 ⟨by decide, by decide⟩ ?_
  refine zV_istore (ls' := [zR a0, zR a1, zI a2, zI a3, zR a1, zI x5_1, zI 0, zU]) dX13_all_9 (Nat.le_of_ble_eq_true rfl) rfl rfl ?_
  obtain ⟨n11, hP⟩ := hP
  refine zV_mask [true, true, true, false, true, true, true, true] (ls' := [zR a0, zR a1, zI a2, zU, zR a1, zI x5_1, zI 0, zU]) rfl ?_
  refine W_To_all_L11 _ _ _ _ _ _ _ (fun h6 hP => ?_) n11 _ _ hP
  refine zV_aload_n dX13_all_42 rfl ?_
  obtain ⟨ob, hP⟩ := hP
  refine zV_gD dX13_all_43 ob.1 (by decide) fl_X13_3_12 rfl (ki := 8) rfl ?_
  refine zV_top (fun x0 e_x0 => ?_)
  obtain rfl := e_x0.trans ob.2
  refine zV_iload_n dX13_all_46 rfl ?_
  refine zV_cVv (As := [zI a2]) (rest := []) dX13_all_47 sa_14 (W_C_also _ _ _ hP) mi_X0_also ml_X13_82 (by decide) (Nat.le_of_ble_eq_true rfl) rfl rfl (fun r7 h8 hP => ?_)
  refine zV_aload_n dX13_all_50 rfl ?_
  refine zV_astore (ls' := [zR a0, zR a1, zI a2, zU, zR a1, zU, zU, zU]) dX13_all_51 (Nat.le_of_ble_eq_true rfl) rfl rfl ?_
  refine zV_aload dX13_all_53 rfl ?_
  obtain ⟨ob, hP⟩ := hP
  refine zV_alD dX13_all_55 (Or.inl ob) ?_
  refine zV_top (fun x5_9 e_x5_9 => ?_)
  have hP := hP x5_9 e_x5_9
  refine zV_istore (ls' := [zR a0, zR a1, zI a2, zU, zR a1, zI x5_9, zU, zU]) dX13_all_56 (Nat.le_of_ble_eq_true rfl) rfl rfl ?_
  refine zV_iconst dX13_all_58 ⟨by decide, by decide⟩ ?_
  refine zV_istore (ls' := [zR a0, zR a1, zI a2, zU, zR a1, zI x5_9, zI 0, zU]) dX13_all_59 (Nat.le_of_ble_eq_true rfl) rfl rfl ?_
  obtain ⟨n61, hP⟩ := hP
  refine zV_mask [true, false, false, true, true, true, true, true] (ls' := [zR a0, zU, zU, zU, zR a1, zI x5_9, zI 0, zU]) rfl ?_
  refine W_To_all_L61 _ _ _ _ n61 _ _ hP
def P_To_row_L9 (y0 : Int) (y2 : Int) (y3 : Int) (y4 : Int) (Q : Int → zH → Prop) : Nat → Int → zH → Prop
| 0, _, _ => False
| n9 + 1, y5, h =>
if y4 ≤ y5 then
((zt h y0 = 12 ∧ zd h y0 8 = 14) ∧
P_C_also (w32 (-y2)) h (fun r2 h3 =>
(zt h3 y0 = 12 ∧ zd h3 y0 8 = 14) ∧
P_C_endRow h3 (fun r4 h5 =>
Q 0 h5)))
else
((zt h y3 = 50 ∧ 0 ≤ y5 ∧ y5 < zl h y3) ∧
∀ x6_6 : Int, x6_6 = (zd h y3 y5) →
(zt h y0 = 12 ∧ zd h y0 8 = 14) ∧
P_C_also x6_6 h (fun r7 h8 =>
∀ x5_9 : Int, x5_9 = w32 (y5 + 1) →
P_To_row_L9 y0 y2 y3 y4 Q n9 x5_9 h8))
theorem W_To_row_L9 (y0 : Int) (y2 : Int) (y3 : Int) (y4 : Int) (Q : Int → zH → Prop) : ∀ (n9 : Nat) (y5 : Int) (h : zH), P_To_row_L9 y0 y2 y3 y4 Q n9 y5 h → zV true zy_X13_row 2 9 [zR y0, zU, zI y2, zR y3, zI y4, zI y5, zU] [] h (zQ0 Q) := by
  intro n9
  induction n9 with
  | zero => intro y5 h hP; exact absurd hP id
  | succ n9 ih =>
    intro y5 h hP
    unfold P_To_row_L9 at hP
    refine zV_iload dX13_row_9 rfl ?_
    refine zV_iload dX13_row_11 rfl ?_
    refine zV_icmp_ge (tgt := 37) dX13_row_13 (by decide) (fun c => ?_) (fun c => ?_)
    · have hP := zif_p hP c
      refine zV_aload_n dX13_row_37 rfl ?_
      obtain ⟨ob, hP⟩ := hP
      refine zV_gD dX13_row_38 ob.1 (by decide) fl_X13_3_12 rfl (ki := 8) rfl ?_
      refine zV_top (fun x0 e_x0 => ?_)
      obtain rfl := e_x0.trans ob.2
      refine zV_iload_n dX13_row_41 rfl ?_
      refine zV_ineg dX13_row_42 ?_
      refine zV_cVv (As := [zI (w32 (-y2))]) (rest := []) dX13_row_43 sa_14 (W_C_also _ _ _ hP) mi_X0_also ml_X13_82 (by decide) (Nat.le_of_ble_eq_true rfl) rfl rfl (fun r2 h3 hP => ?_)
      refine zV_aload_n dX13_row_46 rfl ?_
      obtain ⟨ob, hP⟩ := hP
      refine zV_gD dX13_row_47 ob.1 (by decide) fl_X13_3_12 rfl (ki := 8) rfl ?_
      refine zV_top (fun x0 e_x0 => ?_)
      obtain rfl := e_x0.trans ob.2
      refine zV_cVv (As := []) (rest := []) dX13_row_50 sa_14 (W_C_endRow _ _ hP) mi_X0_endRow ml_X13_85 (by decide) (Nat.le_of_ble_eq_true rfl) rfl rfl (fun r4 h5 hP => ?_)
      exact zV_return dX13_row_53 rfl ⟨rfl, hP⟩
    · have hP := zif_n hP c
      refine zV_aload_n dX13_row_16 rfl ?_
      refine zV_iload dX13_row_17 rfl ?_
      obtain ⟨ob, hP⟩ := hP
      refine zV_iaD dX13_row_19 ob ?_
      refine zV_top (fun x6_6 e_x6_6 => ?_)
      have hP := hP x6_6 e_x6_6
      refine zV_istore (ls' := [zR y0, zU, zI y2, zR y3, zI y4, zI y5, zI x6_6]) dX13_row_20 (Nat.le_of_ble_eq_true rfl) rfl rfl ?_
      refine zV_aload_n dX13_row_22 rfl ?_
      obtain ⟨ob, hP⟩ := hP
      refine zV_gD dX13_row_23 ob.1 (by decide) fl_X13_3_12 rfl (ki := 8) rfl ?_
      refine zV_top (fun x0 e_x0 => ?_)
      obtain rfl := e_x0.trans ob.2
      refine zV_iload dX13_row_26 rfl ?_
      refine zV_cVv (As := [zI x6_6]) (rest := []) dX13_row_28 sa_14 (W_C_also _ _ _ hP) mi_X0_also ml_X13_82 (by decide) (Nat.le_of_ble_eq_true rfl) rfl rfl (fun r7 h8 hP => ?_)
      refine zV_inc (ls' := fun z => [zR y0, zU, zI y2, zR y3, zI y4, zI z, zI x6_6]) dX13_row_31 (Nat.le_of_ble_eq_true rfl) rfl rfl (fun _ => rfl) (fun x5_9 e_x5_9 => ?_)
      have hP := hP x5_9 e_x5_9
      refine zV_goto (tgt := 9) dX13_row_34 (by decide) ?_
      refine zV_mask [true, true, true, true, true, true, false] (ls' := [zR y0, zU, zI y2, zR y3, zI y4, zI x5_9, zU]) rfl ?_
      exact ih _ _ hP
def P_To_row (a0 : Int) (a1 : Int) (a2 : Int) (h : zH) (Q : Int → zH → Prop) : Prop :=
(zt h a1 = 50) ∧
∀ x4_1 : Int, x4_1 = (zl h a1) →
∃ n9, P_To_row_L9 a0 a2 a1 x4_1 Q n9 0 h
theorem W_To_row (a0 : Int) (a1 : Int) (a2 : Int) (h : zH) (Q : Int → zH → Prop) (hP : P_To_row a0 a1 a2 h Q) : zC true zy_X13_row 2 [zR a0, zR a1, zI a2] h (zQ0 Q) := by
  unfold P_To_row at hP
  refine zC.of (by decide) (Nat.le_of_ble_eq_true rfl) ?_
  show zV true zy_X13_row 2 0 [zR a0, zR a1, zI a2, zU, zU, zU, zU] [] h (zQ0 Q)
  refine zV_aload_n dX13_row_0 rfl ?_
  refine zV_astore_n (ls' := [zR a0, zR a1, zI a2, zR a1, zU, zU, zU]) dX13_row_1 rfl (Nat.le_of_ble_eq_true rfl) rfl rfl ?_
  refine zV_aload_n dX13_row_2 rfl ?_
  obtain ⟨ob, hP⟩ := hP
  refine zV_alD dX13_row_3 (Or.inl ob) ?_
  refine zV_top (fun x4_1 e_x4_1 => ?_)
  have hP := hP x4_1 e_x4_1
  refine zV_istore (ls' := [zR a0, zR a1, zI a2, zR a1, zI x4_1, zU, zU]) dX13_row_4 (Nat.le_of_ble_eq_true rfl) rfl rfl ?_
  refine zV_iconst dX13_row_6 ⟨by decide, by decide⟩ ?_
  refine zV_istore (ls' := [zR a0, zR a1, zI a2, zR a1, zI x4_1, zI 0, zU]) dX13_row_7 (Nat.le_of_ble_eq_true rfl) rfl rfl ?_
  obtain ⟨n9, hP⟩ := hP
  refine zV_mask [true, false, true, true, true, true, true] (ls' := [zR a0, zU, zI a2, zR a1, zI x4_1, zI 0, zU]) rfl ?_
  refine W_To_row_L9 _ _ _ _ _ n9 _ _ hP
def P_To_some_L9 (y0 : Int) (y1 : Int) (y2 : Int) (y3 : Int) (y4 : Int) (Q : Int → zH → Prop) : Nat → Int → zH → Prop
| 0, _, _ => False
| n9 + 1, y5, h =>
if y4 ≤ y5 then
((zt h y0 = 12) ∧
P_To_row y0 y1 y2 h (fun r2 h3 =>
Q 0 h3))
else
((zt h y3 = 50 ∧ 0 ≤ y5 ∧ y5 < zl h y3) ∧
∀ x6_4 : Int, x6_4 = (zd h y3 y5) →
(zt h y0 = 12 ∧ zd h y0 8 = 14) ∧
P_C_plan (w32 (-x6_4)) y2 h (fun r5 h6 =>
∀ x5_7 : Int, x5_7 = w32 (y5 + 1) →
P_To_some_L9 y0 y1 y2 y3 y4 Q n9 x5_7 h6))
theorem W_To_some_L9 (y0 : Int) (y1 : Int) (y2 : Int) (y3 : Int) (y4 : Int) (Q : Int → zH → Prop) : ∀ (n9 : Nat) (y5 : Int) (h : zH), P_To_some_L9 y0 y1 y2 y3 y4 Q n9 y5 h → zV true zy_X13_some 4 9 [zR y0, zR y1, zI y2, zR y3, zI y4, zI y5, zU] [] h (zQ0 Q) := by
  intro n9
  induction n9 with
  | zero => intro y5 h hP; exact absurd hP id
  | succ n9 ih =>
    intro y5 h hP
    unfold P_To_some_L9 at hP
    refine zV_iload dX13_some_9 rfl ?_
    refine zV_iload dX13_some_11 rfl ?_
    refine zV_icmp_ge (tgt := 39) dX13_some_13 (by decide) (fun c => ?_) (fun c => ?_)
    · have hP := zif_p hP c
      refine zV_aload_n dX13_some_39 rfl ?_
      refine zV_aload_n dX13_some_40 rfl ?_
      refine zV_iload_n dX13_some_41 rfl ?_
      obtain ⟨ob, hP⟩ := hP
      refine zV_cVvD (As := [zR y1, zI y2]) (rest := []) dX13_some_42 ob (W_To_row _ _ _ _ _ hP) mi_X13_row ml_X13_89 (by decide) (Nat.le_of_ble_eq_true rfl) rfl rfl (fun r2 h3 hP => ?_)
      exact zV_return dX13_some_45 rfl ⟨rfl, hP⟩
    · have hP := zif_n hP c
      refine zV_aload_n dX13_some_16 rfl ?_
      refine zV_iload dX13_some_17 rfl ?_
      obtain ⟨ob, hP⟩ := hP
      refine zV_iaD dX13_some_19 ob ?_
      refine zV_top (fun x6_4 e_x6_4 => ?_)
      have hP := hP x6_4 e_x6_4
      refine zV_istore (ls' := [zR y0, zR y1, zI y2, zR y3, zI y4, zI y5, zI x6_4]) dX13_some_20 (Nat.le_of_ble_eq_true rfl) rfl rfl ?_
      refine zV_aload_n dX13_some_22 rfl ?_
      obtain ⟨ob, hP⟩ := hP
      refine zV_gD dX13_some_23 ob.1 (by decide) fl_X13_3_12 rfl (ki := 8) rfl ?_
      refine zV_top (fun x0 e_x0 => ?_)
      obtain rfl := e_x0.trans ob.2
      refine zV_iload dX13_some_26 rfl ?_
      refine zV_ineg dX13_some_28 ?_
      refine zV_iload_n dX13_some_29 rfl ?_
      refine zV_cVv (As := [zI (w32 (-x6_4)), zI y2]) (rest := []) dX13_some_30 sa_14 (W_C_plan _ _ _ _ hP) mi_X0_plan ml_X13_72 (by decide) (Nat.le_of_ble_eq_true rfl) rfl rfl (fun r5 h6 hP => ?_)
      refine zV_inc (ls' := fun z => [zR y0, zR y1, zI y2, zR y3, zI y4, zI z, zI x6_4]) dX13_some_33 (Nat.le_of_ble_eq_true rfl) rfl rfl (fun _ => rfl) (fun x5_7 e_x5_7 => ?_)
      have hP := hP x5_7 e_x5_7
      refine zV_goto (tgt := 9) dX13_some_36 (by decide) ?_
      refine zV_mask [true, true, true, true, true, true, false] (ls' := [zR y0, zR y1, zI y2, zR y3, zI y4, zI x5_7, zU]) rfl ?_
      exact ih _ _ hP
def P_To_some (a0 : Int) (a1 : Int) (a2 : Int) (h : zH) (Q : Int → zH → Prop) : Prop :=
(zt h a1 = 50) ∧
∀ x4_1 : Int, x4_1 = (zl h a1) →
∃ n9, P_To_some_L9 a0 a1 a2 a1 x4_1 Q n9 0 h
theorem W_To_some (a0 : Int) (a1 : Int) (a2 : Int) (h : zH) (Q : Int → zH → Prop) (hP : P_To_some a0 a1 a2 h Q) : zC true zy_X13_some 4 [zR a0, zR a1, zI a2] h (zQ0 Q) := by
  unfold P_To_some at hP
  refine zC.of (by decide) (Nat.le_of_ble_eq_true rfl) ?_
  show zV true zy_X13_some 4 0 [zR a0, zR a1, zI a2, zU, zU, zU, zU] [] h (zQ0 Q)
  refine zV_aload_n dX13_some_0 rfl ?_
  refine zV_astore_n (ls' := [zR a0, zR a1, zI a2, zR a1, zU, zU, zU]) dX13_some_1 rfl (Nat.le_of_ble_eq_true rfl) rfl rfl ?_
  refine zV_aload_n dX13_some_2 rfl ?_
  obtain ⟨ob, hP⟩ := hP
  refine zV_alD dX13_some_3 (Or.inl ob) ?_
  refine zV_top (fun x4_1 e_x4_1 => ?_)
  have hP := hP x4_1 e_x4_1
  refine zV_istore (ls' := [zR a0, zR a1, zI a2, zR a1, zI x4_1, zU, zU]) dX13_some_4 (Nat.le_of_ble_eq_true rfl) rfl rfl ?_
  refine zV_iconst dX13_some_6 ⟨by decide, by decide⟩ ?_
  refine zV_istore (ls' := [zR a0, zR a1, zI a2, zR a1, zI x4_1, zI 0, zU]) dX13_some_7 (Nat.le_of_ble_eq_true rfl) rfl rfl ?_
  obtain ⟨n9, hP⟩ := hP
  refine W_To_some_L9 _ _ _ _ _ _ n9 _ _ hP
def P_To_justOne_L19 (y0 : Int) (y1 : Int) (y2 : Int) (y3 : Int) (Q : Int → zH → Prop) (k50 : zH → Prop) : Nat → Int → zH → Prop
| 0, _, _ => False
| n19 + 1, y4, h =>
(zt h y1 = 50) ∧
if zl h y1 ≤ y4 then
(k50 h)
else
((zt h y0 = 12 ∧ zd h y0 8 = 14) ∧
(zt h y1 = 50 ∧ 0 ≤ y3 ∧ y3 < zl h y1) ∧
(zt h y1 = 50 ∧ 0 ≤ y4 ∧ y4 < zl h y1) ∧
P_C_plan_3 (w32 (-(zd h y1 y3))) (w32 (-(zd h y1 y4))) (w32 (-y2)) h (fun r4 h5 =>
∀ x4_6 : Int, x4_6 = w32 (y4 + 1) →
P_To_justOne_L19 y0 y1 y2 y3 Q k50 n19 x4_6 h5))
theorem W_To_justOne_L19 (y0 : Int) (y1 : Int) (y2 : Int) (y3 : Int) (Q : Int → zH → Prop) (k50 : zH → Prop) (H50 : ∀ (h' : zH), k50 h' → zV true zy_X13_justOne 5 50 [zR y0, zR y1, zI y2, zI y3, zU] [] h' (zQ0 Q)) : ∀ (n19 : Nat) (y4 : Int) (h : zH), P_To_justOne_L19 y0 y1 y2 y3 Q k50 n19 y4 h → zV true zy_X13_justOne 5 19 [zR y0, zR y1, zI y2, zI y3, zI y4] [] h (zQ0 Q) := by
  intro n19
  induction n19 with
  | zero => intro y4 h hP; exact absurd hP id
  | succ n19 ih =>
    intro y4 h hP
    unfold P_To_justOne_L19 at hP
    refine zV_iload dX13_justOne_19 rfl ?_
    refine zV_aload_n dX13_justOne_21 rfl ?_
    obtain ⟨ob, hP⟩ := hP
    refine zV_alD dX13_justOne_22 (Or.inl ob) ?_
    refine zV_icmp_ge (tgt := 50) dX13_justOne_23 (by decide) (fun c => ?_) (fun c => ?_)
    · have hP := zif_p hP c
      refine zV_mask [true, true, true, true, false] (ls' := [zR y0, zR y1, zI y2, zI y3, zU]) rfl ?_
      exact H50 _ hP
    · have hP := zif_n hP c
      refine zV_aload_n dX13_justOne_26 rfl ?_
      obtain ⟨ob, hP⟩ := hP
      refine zV_gD dX13_justOne_27 ob.1 (by decide) fl_X13_3_12 rfl (ki := 8) rfl ?_
      refine zV_top (fun x0 e_x0 => ?_)
      obtain rfl := e_x0.trans ob.2
      refine zV_aload_n dX13_justOne_30 rfl ?_
      refine zV_iload_n dX13_justOne_31 rfl ?_
      obtain ⟨ob, hP⟩ := hP
      refine zV_iaD dX13_justOne_32 ob ?_
      refine zV_ineg dX13_justOne_33 ?_
      refine zV_aload_n dX13_justOne_34 rfl ?_
      refine zV_iload dX13_justOne_35 rfl ?_
      obtain ⟨ob, hP⟩ := hP
      refine zV_iaD dX13_justOne_37 ob ?_
      refine zV_ineg dX13_justOne_38 ?_
      refine zV_iload_n dX13_justOne_39 rfl ?_
      refine zV_ineg dX13_justOne_40 ?_
      refine zV_cVv (As := [zI (w32 (-(zd h y1 y3))), zI (w32 (-(zd h y1 y4))), zI (w32 (-y2))]) (rest := []) dX13_justOne_41 sa_14 (W_C_plan_3 _ _ _ _ _ hP) mi_X0_plan_3 ml_X13_76 (by decide) (Nat.le_of_ble_eq_true rfl) rfl rfl (fun r4 h5 hP => ?_)
      refine zV_inc (ls' := fun z => [zR y0, zR y1, zI y2, zI y3, zI z]) dX13_justOne_44 (Nat.le_of_ble_eq_true rfl) rfl rfl (fun _ => rfl) (fun x4_6 e_x4_6 => ?_)
      have hP := hP x4_6 e_x4_6
      refine zV_goto (tgt := 19) dX13_justOne_47 (by decide) ?_
      exact ih _ _ hP
def P_To_justOne_L8 (y0 : Int) (y1 : Int) (y2 : Int) (Q : Int → zH → Prop) (k56 : zH → Prop) : Nat → Int → zH → Prop
| 0, _, _ => False
| n8 + 1, y3, h =>
(zt h y1 = 50) ∧
if zl h y1 ≤ y3 then
(k56 h)
else
(∀ x4_3 : Int, x4_3 = (w32 (y3 + 1)) →
∃ n19, P_To_justOne_L19 y0 y1 y2 y3 Q (fun h7 =>
∀ x3_8 : Int, x3_8 = w32 (y3 + 1) →
P_To_justOne_L8 y0 y1 y2 Q k56 n8 x3_8 h7) n19 x4_3 h)
theorem W_To_justOne_L8 (y0 : Int) (y1 : Int) (y2 : Int) (Q : Int → zH → Prop) (k56 : zH → Prop) (H56 : ∀ (h' : zH), k56 h' → zV true zy_X13_justOne 5 56 [zR y0, zR y1, zI y2, zU, zU] [] h' (zQ0 Q)) : ∀ (n8 : Nat) (y3 : Int) (h : zH), P_To_justOne_L8 y0 y1 y2 Q k56 n8 y3 h → zV true zy_X13_justOne 5 8 [zR y0, zR y1, zI y2, zI y3, zU] [] h (zQ0 Q) := by
  intro n8
  induction n8 with
  | zero => intro y3 h hP; exact absurd hP id
  | succ n8 ih =>
    intro y3 h hP
    unfold P_To_justOne_L8 at hP
    refine zV_iload_n dX13_justOne_8 rfl ?_
    refine zV_aload_n dX13_justOne_9 rfl ?_
    obtain ⟨ob, hP⟩ := hP
    refine zV_alD dX13_justOne_10 (Or.inl ob) ?_
    refine zV_icmp_ge (tgt := 56) dX13_justOne_11 (by decide) (fun c => ?_) (fun c => ?_)
    · have hP := zif_p hP c
      refine zV_mask [true, true, true, false, true] (ls' := [zR y0, zR y1, zI y2, zU, zU]) rfl ?_
      exact H56 _ hP
    · have hP := zif_n hP c
      refine zV_iload_n dX13_justOne_14 rfl ?_
      refine zV_iconst dX13_justOne_15 ⟨by decide, by decide⟩ ?_
      refine zV_iadd dX13_justOne_16 ?_
      refine zV_top (fun x4_3 e_x4_3 => ?_)
      have hP := hP x4_3 e_x4_3
      refine zV_istore (ls' := [zR y0, zR y1, zI y2, zI y3, zI x4_3]) dX13_justOne_17 (Nat.le_of_ble_eq_true rfl) rfl rfl ?_
      obtain ⟨n19, hP⟩ := hP
      refine W_To_justOne_L19 _ _ _ _ _ _ (fun h7 hP => ?_) n19 _ _ hP
      refine zV_inc (ls' := fun z => [zR y0, zR y1, zI y2, zI z, zU]) dX13_justOne_50 (Nat.le_of_ble_eq_true rfl) rfl rfl (fun _ => rfl) (fun x3_8 e_x3_8 => ?_)
      have hP := hP x3_8 e_x3_8
      refine zV_goto (tgt := 8) dX13_justOne_53 (by decide) ?_
      exact ih _ _ hP
def P_To_justOne_J110 (y0 : Int) (y1 : Int) (y2 : Int) (y3 : Int) (y4 : Int) (h : zH) (Q : Int → zH → Prop) (k86 : Int → zH → Prop) : Prop :=
∀ x4_14 : Int, x4_14 = w32 (y4 + 1) →
k86 x4_14 h
theorem W_To_justOne_J110 (y0 : Int) (y1 : Int) (y2 : Int) (y3 : Int) (y4 : Int) (h : zH) (Q : Int → zH → Prop) (k86 : Int → zH → Prop) (H86 : ∀ (v4 : Int) (h' : zH), k86 v4 h' → zV true zy_X13_justOne 5 86 [zR y0, zR y1, zI y2, zI y3, zI v4] [] h' (zQ0 Q)) (hP : P_To_justOne_J110 y0 y1 y2 y3 y4 h Q k86) : zV true zy_X13_justOne 5 110 [zR y0, zR y1, zI y2, zI y3, zI y4] [] h (zQ0 Q) := by
  unfold P_To_justOne_J110 at hP
  refine zV_inc (ls' := fun z => [zR y0, zR y1, zI y2, zI y3, zI z]) dX13_justOne_110 (Nat.le_of_ble_eq_true rfl) rfl rfl (fun _ => rfl) (fun x4_14 e_x4_14 => ?_)
  have hP := hP x4_14 e_x4_14
  refine zV_goto (tgt := 86) dX13_justOne_113 (by decide) ?_
  exact H86 _ _ hP
def P_To_justOne_L86 (y0 : Int) (y1 : Int) (y2 : Int) (y3 : Int) (Q : Int → zH → Prop) (k116 : zH → Prop) : Nat → Int → zH → Prop
| 0, _, _ => False
| n86 + 1, y4, h =>
(zt h y1 = 50) ∧
if zl h y1 ≤ y4 then
(k116 h)
else
(if y4 = y3 then
(P_To_justOne_J110 y0 y1 y2 y3 y4 h Q (P_To_justOne_L86 y0 y1 y2 y3 Q k116 n86))
else
((zt h y0 = 12 ∧ zd h y0 8 = 14) ∧
(zt h y1 = 50 ∧ 0 ≤ y4 ∧ y4 < zl h y1) ∧
P_C_also (zd h y1 y4) h (fun r15 h16 =>
P_To_justOne_J110 y0 y1 y2 y3 y4 h16 Q (P_To_justOne_L86 y0 y1 y2 y3 Q k116 n86))))
theorem W_To_justOne_L86 (y0 : Int) (y1 : Int) (y2 : Int) (y3 : Int) (Q : Int → zH → Prop) (k116 : zH → Prop) (H116 : ∀ (h' : zH), k116 h' → zV true zy_X13_justOne 5 116 [zR y0, zR y1, zI y2, zI y3, zU] [] h' (zQ0 Q)) : ∀ (n86 : Nat) (y4 : Int) (h : zH), P_To_justOne_L86 y0 y1 y2 y3 Q k116 n86 y4 h → zV true zy_X13_justOne 5 86 [zR y0, zR y1, zI y2, zI y3, zI y4] [] h (zQ0 Q) := by
  intro n86
  induction n86 with
  | zero => intro y4 h hP; exact absurd hP id
  | succ n86 ih =>
    intro y4 h hP
    unfold P_To_justOne_L86 at hP
    refine zV_iload dX13_justOne_86 rfl ?_
    refine zV_aload_n dX13_justOne_88 rfl ?_
    obtain ⟨ob, hP⟩ := hP
    refine zV_alD dX13_justOne_89 (Or.inl ob) ?_
    refine zV_icmp_ge (tgt := 116) dX13_justOne_90 (by decide) (fun c => ?_) (fun c => ?_)
    · have hP := zif_p hP c
      refine zV_mask [true, true, true, true, false] (ls' := [zR y0, zR y1, zI y2, zI y3, zU]) rfl ?_
      exact H116 _ hP
    · have hP := zif_n hP c
      refine zV_iload dX13_justOne_93 rfl ?_
      refine zV_iload_n dX13_justOne_95 rfl ?_
      refine zV_icmp_eq (tgt := 110) dX13_justOne_96 (by decide) (fun c => ?_) (fun c => ?_)
      · have hP := zif_p hP c
        exact W_To_justOne_J110 _ _ _ _ _ _ _ _ ih hP
      · have hP := zif_n hP c
        refine zV_aload_n dX13_justOne_99 rfl ?_
        obtain ⟨ob, hP⟩ := hP
        refine zV_gD dX13_justOne_100 ob.1 (by decide) fl_X13_3_12 rfl (ki := 8) rfl ?_
        refine zV_top (fun x0 e_x0 => ?_)
        obtain rfl := e_x0.trans ob.2
        refine zV_aload_n dX13_justOne_103 rfl ?_
        refine zV_iload dX13_justOne_104 rfl ?_
        obtain ⟨ob, hP⟩ := hP
        refine zV_iaD dX13_justOne_106 ob ?_
        refine zV_cVv (As := [zI (zd h y1 y4)]) (rest := []) dX13_justOne_107 sa_14 (W_C_also _ _ _ hP) mi_X0_also ml_X13_82 (by decide) (Nat.le_of_ble_eq_true rfl) rfl rfl (fun r15 h16 hP => ?_)
        exact W_To_justOne_J110 _ _ _ _ _ _ _ _ ih hP
def P_To_justOne_L58 (y0 : Int) (y1 : Int) (y2 : Int) (Q : Int → zH → Prop) : Nat → Int → zH → Prop
| 0, _, _ => False
| n58 + 1, y3, h =>
(zt h y1 = 50) ∧
if zl h y1 ≤ y3 then
(Q 0 h)
else
((zt h y0 = 12 ∧ zd h y0 8 = 14) ∧
P_C_also y2 h (fun r10 h11 =>
(zt h11 y0 = 12 ∧ zd h11 y0 8 = 14) ∧
(zt h11 y1 = 50 ∧ 0 ≤ y3 ∧ y3 < zl h11 y1) ∧
P_C_also (w32 (-(zd h11 y1 y3))) h11 (fun r12 h13 =>
∃ n86, P_To_justOne_L86 y0 y1 y2 y3 Q (fun h17 =>
(zt h17 y0 = 12 ∧ zd h17 y0 8 = 14) ∧
P_C_endRow h17 (fun r18 h19 =>
∀ x3_20 : Int, x3_20 = w32 (y3 + 1) →
P_To_justOne_L58 y0 y1 y2 Q n58 x3_20 h19)) n86 0 h13)))
theorem W_To_justOne_L58 (y0 : Int) (y1 : Int) (y2 : Int) (Q : Int → zH → Prop) : ∀ (n58 : Nat) (y3 : Int) (h : zH), P_To_justOne_L58 y0 y1 y2 Q n58 y3 h → zV true zy_X13_justOne 5 58 [zR y0, zR y1, zI y2, zI y3, zU] [] h (zQ0 Q) := by
  intro n58
  induction n58 with
  | zero => intro y3 h hP; exact absurd hP id
  | succ n58 ih =>
    intro y3 h hP
    unfold P_To_justOne_L58 at hP
    refine zV_iload_n dX13_justOne_58 rfl ?_
    refine zV_aload_n dX13_justOne_59 rfl ?_
    obtain ⟨ob, hP⟩ := hP
    refine zV_alD dX13_justOne_60 (Or.inl ob) ?_
    refine zV_icmp_ge (tgt := 129) dX13_justOne_61 (by decide) (fun c => ?_) (fun c => ?_)
    · have hP := zif_p hP c
      exact zV_return dX13_justOne_129 rfl ⟨rfl, hP⟩
    · have hP := zif_n hP c
      refine zV_aload_n dX13_justOne_64 rfl ?_
      obtain ⟨ob, hP⟩ := hP
      refine zV_gD dX13_justOne_65 ob.1 (by decide) fl_X13_3_12 rfl (ki := 8) rfl ?_
      refine zV_top (fun x0 e_x0 => ?_)
      obtain rfl := e_x0.trans ob.2
      refine zV_iload_n dX13_justOne_68 rfl ?_
      refine zV_cVv (As := [zI y2]) (rest := []) dX13_justOne_69 sa_14 (W_C_also _ _ _ hP) mi_X0_also ml_X13_82 (by decide) (Nat.le_of_ble_eq_true rfl) rfl rfl (fun r10 h11 hP => ?_)
      refine zV_aload_n dX13_justOne_72 rfl ?_
      obtain ⟨ob, hP⟩ := hP
      refine zV_gD dX13_justOne_73 ob.1 (by decide) fl_X13_3_12 rfl (ki := 8) rfl ?_
      refine zV_top (fun x0 e_x0 => ?_)
      obtain rfl := e_x0.trans ob.2
      refine zV_aload_n dX13_justOne_76 rfl ?_
      refine zV_iload_n dX13_justOne_77 rfl ?_
      obtain ⟨ob, hP⟩ := hP
      refine zV_iaD dX13_justOne_78 ob ?_
      refine zV_ineg dX13_justOne_79 ?_
      refine zV_cVv (As := [zI (w32 (-(zd h11 y1 y3)))]) (rest := []) dX13_justOne_80 sa_14 (W_C_also _ _ _ hP) mi_X0_also ml_X13_82 (by decide) (Nat.le_of_ble_eq_true rfl) rfl rfl (fun r12 h13 hP => ?_)
      refine zV_iconst dX13_justOne_83 ⟨by decide, by decide⟩ ?_
      refine zV_istore (ls' := [zR y0, zR y1, zI y2, zI y3, zI 0]) dX13_justOne_84 (Nat.le_of_ble_eq_true rfl) rfl rfl ?_
      obtain ⟨n86, hP⟩ := hP
      refine W_To_justOne_L86 _ _ _ _ _ _ (fun h17 hP => ?_) n86 _ _ hP
      refine zV_aload_n dX13_justOne_116 rfl ?_
      obtain ⟨ob, hP⟩ := hP
      refine zV_gD dX13_justOne_117 ob.1 (by decide) fl_X13_3_12 rfl (ki := 8) rfl ?_
      refine zV_top (fun x0 e_x0 => ?_)
      obtain rfl := e_x0.trans ob.2
      refine zV_cVv (As := []) (rest := []) dX13_justOne_120 sa_14 (W_C_endRow _ _ hP) mi_X0_endRow ml_X13_85 (by decide) (Nat.le_of_ble_eq_true rfl) rfl rfl (fun r18 h19 hP => ?_)
      refine zV_inc (ls' := fun z => [zR y0, zR y1, zI y2, zI z, zU]) dX13_justOne_123 (Nat.le_of_ble_eq_true rfl) rfl rfl (fun _ => rfl) (fun x3_20 e_x3_20 => ?_)
      have hP := hP x3_20 e_x3_20
      refine zV_goto (tgt := 58) dX13_justOne_126 (by decide) ?_
      exact ih _ _ hP
def P_To_justOne (a0 : Int) (a1 : Int) (a2 : Int) (h : zH) (Q : Int → zH → Prop) : Prop :=
(zt h a0 = 12) ∧
P_To_row a0 a1 a2 h (fun r1 h2 =>
∃ n8, P_To_justOne_L8 a0 a1 a2 Q (fun h9 =>
∃ n58, P_To_justOne_L58 a0 a1 a2 Q n58 0 h9) n8 0 h2)
theorem W_To_justOne (a0 : Int) (a1 : Int) (a2 : Int) (h : zH) (Q : Int → zH → Prop) (hP : P_To_justOne a0 a1 a2 h Q) : zC true zy_X13_justOne 5 [zR a0, zR a1, zI a2] h (zQ0 Q) := by
  unfold P_To_justOne at hP
  refine zC.of (by decide) (Nat.le_of_ble_eq_true rfl) ?_
  show zV true zy_X13_justOne 5 0 [zR a0, zR a1, zI a2, zU, zU] [] h (zQ0 Q)
  refine zV_aload_n dX13_justOne_0 rfl ?_
  refine zV_aload_n dX13_justOne_1 rfl ?_
  refine zV_iload_n dX13_justOne_2 rfl ?_
  obtain ⟨ob, hP⟩ := hP
  refine zV_cVvD (As := [zR a1, zI a2]) (rest := []) dX13_justOne_3 ob (W_To_row _ _ _ _ _ hP) mi_X13_row ml_X13_89 (by decide) (Nat.le_of_ble_eq_true rfl) rfl rfl (fun r1 h2 hP => ?_)
  refine zV_iconst dX13_justOne_6 ⟨by decide, by decide⟩ ?_
  refine zV_istore_n (ls' := [zR a0, zR a1, zI a2, zI 0, zU]) dX13_justOne_7 rfl (Nat.le_of_ble_eq_true rfl) rfl rfl ?_
  obtain ⟨n8, hP⟩ := hP
  refine W_To_justOne_L8 _ _ _ _ _ (fun h9 hP => ?_) n8 _ _ hP
  refine zV_iconst dX13_justOne_56 ⟨by decide, by decide⟩ ?_
  refine zV_istore_n (ls' := [zR a0, zR a1, zI a2, zI 0, zU]) dX13_justOne_57 rfl (Nat.le_of_ble_eq_true rfl) rfl rfl ?_
  obtain ⟨n58, hP⟩ := hP
  refine W_To_justOne_L58 _ _ _ _ n58 _ _ hP
def P_To_init (a0 : Int) (a2 : Int) (a3 : Int) (a4 : Int) (h : zH) (Q : Int → zH → Prop) : Prop :=
(zt h a0 = 12) ∧
∀ h1 : zH, h1 = zw h a0 8 14 →
(zt h1 a0 = 5 ∨ zt h1 a0 = 6 ∨ zt h1 a0 = 7 ∨ zt h1 a0 = 12) ∧
P_Cl_init a0 4 a2 h1 (fun r2 h3 =>
(zt h3 a0 = 12) ∧
∀ h4 : zH, h4 = zw h3 a0 6 a3 →
(zt h4 a0 = 12) ∧
∀ h5 : zH, h5 = zw h4 a0 7 a4 →
Q 0 h5)
theorem W_To_init (a0 : Int) (a2 : Int) (a3 : Int) (a4 : Int) (h : zH) (Q : Int → zH → Prop) (hP : P_To_init a0 a2 a3 a4 h Q) : zC true zy_X13_init 4 [zR a0, zR 14, zR a2, zR a3, zR a4] h (zQ0 Q) := by
  unfold P_To_init at hP
  refine zC.of (by decide) (Nat.le_of_ble_eq_true rfl) ?_
  show zV true zy_X13_init 4 0 [zR a0, zR 14, zR a2, zR a3, zR a4] [] h (zQ0 Q)
  refine zV_aload_n dX13_init_0 rfl ?_
  refine zV_aload_n dX13_init_1 rfl ?_
  obtain ⟨obt, hP⟩ := hP
  refine zV_pD dX13_init_2 obt (by decide) fl_X13_3_12 (Or.inr (by decide)) (Or.inr ⟨rfl, rfl, rfl⟩) rfl trivial (ki := 8) rfl (fun h1 e_h1 => ?_)
  have hP := hP h1 e_h1
  refine zV_aload_n dX13_init_5 rfl ?_
  refine zV_aload_n dX13_init_6 rfl ?_
  refine zV_iconst dX13_init_7 ⟨by decide, by decide⟩ ?_
  refine zV_aload_n dX13_init_8 rfl ?_
  obtain ⟨ob, hP⟩ := hP
  refine zV_cIM (As := [zR 14, zI 4, zR a2]) (rest := []) [5, 6, 7, 12] (by decide) dX13_init_9 (by rcases ob with o | o | o | o <;> exact ⟨_, by decide, o⟩) (W_Cl_init _ _ _ _ _ hP) mc_X6_init ml_X13_9 (by decide) (Nat.le_of_ble_eq_true rfl) rfl (fun r2 h3 hP => ?_)
  refine zV_aload_n dX13_init_12 rfl ?_
  refine zV_aload_n dX13_init_13 rfl ?_
  obtain ⟨obt, hP⟩ := hP
  refine zV_pD dX13_init_14 obt (by decide) fl_X13_15_12 (Or.inr (by decide)) (Or.inr ⟨rfl, rfl, rfl⟩) rfl trivial (ki := 6) rfl (fun h4 e_h4 => ?_)
  have hP := hP h4 e_h4
  refine zV_aload_n dX13_init_17 rfl ?_
  refine zV_aload dX13_init_18 rfl ?_
  obtain ⟨obt, hP⟩ := hP
  refine zV_pD dX13_init_20 obt (by decide) fl_X13_19_12 (Or.inr (by decide)) (Or.inr ⟨rfl, rfl, rfl⟩) rfl trivial (ki := 7) rfl (fun h5 e_h5 => ?_)
  have hP := hP h5 e_h5
  exact zV_return dX13_init_23 rfl ⟨rfl, hP⟩
def P_To_most (a0 : Int) (h : zH) (Q : Int → zH → Prop) : Prop :=
(zt h a0 = 12 ∧ zd h a0 8 = 14) ∧
P_C_body 42 h (fun r1 h2 =>
Q 1 h2)
theorem W_To_most (a0 : Int) (h : zH) (Q : Int → zH → Prop) (hP : P_To_most a0 h Q) : zC true zy_X13_most 2 [zR a0] h (zQ0 Q) := by
  unfold P_To_most at hP
  refine zC.of (by decide) (Nat.le_of_ble_eq_true rfl) ?_
  show zV true zy_X13_most 2 0 [zR a0] [] h (zQ0 Q)
  refine zV_aload_n dX13_most_0 rfl ?_
  obtain ⟨ob, hP⟩ := hP
  refine zV_gD dX13_most_1 ob.1 (by decide) fl_X13_3_12 rfl (ki := 8) rfl ?_
  refine zV_top (fun x0 e_x0 => ?_)
  obtain rfl := e_x0.trans ob.2
  refine zV_bipush dX13_most_4 ⟨by decide, by decide, by decide⟩ ?_
  refine zV_cVv (As := [zI 42]) (rest := []) dX13_most_6 sa_14 (W_C_body _ _ _ hP) mi_X0_body ml_X13_49 (by decide) (Nat.le_of_ble_eq_true rfl) rfl rfl (fun r1 h2 hP => ?_)
  refine zV_iconst dX13_most_9 ⟨by decide, by decide⟩ ?_
  exact zV_ireturn dX13_most_10 rfl rfl rfl ⟨rfl, hP⟩
def P_To_print_L19 (y0 : Int) (y1 : Int) (y2 : Int) (Q : Int → zH → Prop) : Nat → Int → zH → Prop
| 0, _, _ => False
| n19 + 1, y3, h =>
if y2 ≤ y3 then
(Q 0 h)
else
((zt h y1 = 51 ∧ 0 ≤ y3 ∧ y3 < zl h y1) ∧
∀ x4_5 : Int, x4_5 = (zd h y1 y3) →
(zt h y0 = 12 ∧ zd h y0 8 = 14) ∧
P_C_say_2 x4_5 h (fun r6 h7 =>
∀ x3_8 : Int, x3_8 = w32 (y3 + 1) →
P_To_print_L19 y0 y1 y2 Q n19 x3_8 h7))
theorem W_To_print_L19 (y0 : Int) (y1 : Int) (y2 : Int) (Q : Int → zH → Prop) : ∀ (n19 : Nat) (y3 : Int) (h : zH), P_To_print_L19 y0 y1 y2 Q n19 y3 h → zV true zy_X13_print 2 19 [zR y0, zR y1, zI y2, zI y3, zU] [] h (zQ0 Q) := by
  intro n19
  induction n19 with
  | zero => intro y3 h hP; exact absurd hP id
  | succ n19 ih =>
    intro y3 h hP
    unfold P_To_print_L19 at hP
    refine zV_iload_n dX13_print_19 rfl ?_
    refine zV_iload_n dX13_print_20 rfl ?_
    refine zV_icmp_ge (tgt := 44) dX13_print_21 (by decide) (fun c => ?_) (fun c => ?_)
    · have hP := zif_p hP c
      exact zV_return dX13_print_44 rfl ⟨rfl, hP⟩
    · have hP := zif_n hP c
      refine zV_aload_n dX13_print_24 rfl ?_
      refine zV_iload_n dX13_print_25 rfl ?_
      obtain ⟨ob, hP⟩ := hP
      refine zV_zaD dX13_print_26 ⟨Or.inl ob.1, ob.2⟩ ?_
      refine zV_top (fun x4_5 e_x4_5 => ?_)
      have hP := hP x4_5 e_x4_5
      refine zV_istore (ls' := [zR y0, zR y1, zI y2, zI y3, zI x4_5]) dX13_print_27 (Nat.le_of_ble_eq_true rfl) rfl rfl ?_
      refine zV_aload_n dX13_print_29 rfl ?_
      obtain ⟨ob, hP⟩ := hP
      refine zV_gD dX13_print_30 ob.1 (by decide) fl_X13_3_12 rfl (ki := 8) rfl ?_
      refine zV_top (fun x0 e_x0 => ?_)
      obtain rfl := e_x0.trans ob.2
      refine zV_iload dX13_print_33 rfl ?_
      refine zV_cVv (As := [zI x4_5]) (rest := []) dX13_print_35 sa_14 (W_C_say_2 _ _ _ hP) mi_X0_say_2 ml_X13_53 (by decide) (Nat.le_of_ble_eq_true rfl) rfl rfl (fun r6 h7 hP => ?_)
      refine zV_inc (ls' := fun z => [zR y0, zR y1, zI y2, zI z, zI x4_5]) dX13_print_38 (Nat.le_of_ble_eq_true rfl) rfl rfl (fun _ => rfl) (fun x3_8 e_x3_8 => ?_)
      have hP := hP x3_8 e_x3_8
      refine zV_goto (tgt := 19) dX13_print_41 (by decide) ?_
      refine zV_mask [true, true, true, true, false] (ls' := [zR y0, zR y1, zI y2, zI x3_8, zU]) rfl ?_
      exact ih _ _ hP
def P_To_print (a0 : Int) (h : zH) (Q : Int → zH → Prop) : Prop :=
(zt h a0 = 12 ∧ zd h a0 8 = 14) ∧
P_C_body 44 h (fun r1 h2 =>
(zt h2 a0 = 12) ∧
∀ x1_3 : Int, x1_3 = (zd h2 a0 6) →
(zt h2 x1_3 = 51) ∧
∀ x2_4 : Int, x2_4 = (zl h2 x1_3) →
∃ n19, P_To_print_L19 a0 x1_3 x2_4 Q n19 0 h2)
theorem W_To_print (a0 : Int) (h : zH) (Q : Int → zH → Prop) (hP : P_To_print a0 h Q) : zC true zy_X13_print 2 [zR a0] h (zQ0 Q) := by
  unfold P_To_print at hP
  refine zC.of (by decide) (Nat.le_of_ble_eq_true rfl) ?_
  show zV true zy_X13_print 2 0 [zR a0, zU, zU, zU, zU] [] h (zQ0 Q)
  refine zV_aload_n dX13_print_0 rfl ?_
  obtain ⟨ob, hP⟩ := hP
  refine zV_gD dX13_print_1 ob.1 (by decide) fl_X13_3_12 rfl (ki := 8) rfl ?_
  refine zV_top (fun x0 e_x0 => ?_)
  obtain rfl := e_x0.trans ob.2
  refine zV_bipush dX13_print_4 ⟨by decide, by decide, by decide⟩ ?_
  refine zV_cVv (As := [zI 44]) (rest := []) dX13_print_6 sa_14 (W_C_body _ _ _ hP) mi_X0_body ml_X13_49 (by decide) (Nat.le_of_ble_eq_true rfl) rfl rfl (fun r1 h2 hP => ?_)
  refine zV_aload_n dX13_print_9 rfl ?_
  obtain ⟨ob, hP⟩ := hP
  refine zV_gD dX13_print_10 ob (by decide) fl_X13_15_12 rfl (ki := 6) rfl ?_
  refine zV_top (fun x1_3 e_x1_3 => ?_)
  have hP := hP x1_3 e_x1_3
  refine zV_astore_n (ls' := [zR a0, zR x1_3, zU, zU, zU]) dX13_print_13 rfl (Nat.le_of_ble_eq_true rfl) rfl rfl ?_
  refine zV_aload_n dX13_print_14 rfl ?_
  obtain ⟨ob, hP⟩ := hP
  refine zV_alD dX13_print_15 (Or.inr (Or.inl ob)) ?_
  refine zV_top (fun x2_4 e_x2_4 => ?_)
  have hP := hP x2_4 e_x2_4
  refine zV_istore_n (ls' := [zR a0, zR x1_3, zI x2_4, zU, zU]) dX13_print_16 rfl (Nat.le_of_ble_eq_true rfl) rfl rfl ?_
  refine zV_iconst dX13_print_17 ⟨by decide, by decide⟩ ?_
  refine zV_istore_n (ls' := [zR a0, zR x1_3, zI x2_4, zI 0, zU]) dX13_print_18 rfl (Nat.le_of_ble_eq_true rfl) rfl rfl ?_
  obtain ⟨n19, hP⟩ := hP
  refine W_To_print_L19 _ _ _ _ n19 _ _ hP
def P_C_isIn (a1 : Int) (a2 : Int) (a3 : Int) (h : zH) (Q : Int → zH → Prop) : Prop :=
Q (if zcmp a1 a2 < 0 then 0 else if 0 < zcmp a1 a3 then 0 else 1) h
theorem W_C_isIn (a1 : Int) (a2 : Int) (a3 : Int) (h : zH) (Q : Int → zH → Prop) (hP : P_C_isIn a1 a2 a3 h Q) : zC true zy_X0_isIn 1 [zJ a1, zJ a2, zJ a3] h (zQ0 Q) := by
  unfold P_C_isIn at hP
  refine zC.of (by decide) (Nat.le_of_ble_eq_true rfl) ?_
  show zV true zy_X0_isIn 1 0 [zJ a1, zU, zJ a2, zU, zJ a3, zU] [] h (zQ0 Q)
  refine zV_lload_n dX0_isIn_0 rfl ?_
  refine zV_lload_n dX0_isIn_1 rfl ?_
  refine zV_lcmp dX0_isIn_2 ?_
  have K : zV true zy_X0_isIn 1 18 [zU, zU, zU, zU, zU, zU] [zI (if zcmp a1 a2 < 0 then 0 else if 0 < zcmp a1 a3 then 0 else 1)] h (zQ0 Q) := by
    exact zV_ireturn dX0_isIn_18 rfl rfl (z01 (z01_if z0 (z01_if z0 z1))) ⟨rfl, hP⟩
  clear hP
  refine zV_if_lt (tgt := 17) dX0_isIn_3 (by decide) (fun c => ?_) (fun c => ?_)
  · try simp only [if_pos c] at K
    refine zV_iconst dX0_isIn_17 ⟨by decide, by decide⟩ ?_
    refine zV_mask [false, false, false, false, false, false] rfl ?_
    exact K
  · try simp only [if_neg c] at K
    refine zV_lload_n dX0_isIn_6 rfl ?_
    refine zV_lload dX0_isIn_7 rfl ?_
    refine zV_lcmp dX0_isIn_9 ?_
    refine zV_if_gt (tgt := 17) dX0_isIn_10 (by decide) (fun c => ?_) (fun c => ?_)
    · try simp only [if_pos c] at K
      refine zV_iconst dX0_isIn_17 ⟨by decide, by decide⟩ ?_
      refine zV_mask [false, false, false, false, false, false] rfl ?_
      exact K
    · try simp only [if_neg c] at K
      refine zV_iconst dX0_isIn_13 ⟨by decide, by decide⟩ ?_
      refine zV_goto (tgt := 18) dX0_isIn_14 (by decide) ?_
      refine zV_mask [false, false, false, false, false, false] rfl ?_
      exact K
def P_C_refused (a1 : Int) (h : zH) (Q : Int → zH → Prop) : Prop :=
∀ h1 : zH, h1 = zw h 14 0 a1 →
Q a1 h1
theorem W_C_refused (a1 : Int) (h : zH) (Q : Int → zH → Prop) (hP : P_C_refused a1 h Q) : zC true zy_X0_refused 1 [zR 14, zI a1] h (zQ0 Q) := by
  unfold P_C_refused at hP
  refine zC.of (by decide) (Nat.le_of_ble_eq_true rfl) ?_
  show zV true zy_X0_refused 1 0 [zR 14, zI a1] [] h (zQ0 Q)
  refine zV_aload_n dX0_refused_0 rfl ?_
  refine zV_iload_n dX0_refused_1 rfl ?_
  refine zV_pf dX0_refused_2 sa_14 (by decide) fl_X0_97_0 rfl rfl trivial (ki := 0) rfl (fun h1 e_h1 => ?_)
  have hP := hP h1 e_h1
  refine zV_iload_n dX0_refused_5 rfl ?_
  exact zV_ireturn dX0_refused_6 rfl rfl rfl ⟨rfl, hP⟩
def P_C_moreNames_L2 (y1 : Int) (Q : Int → zH → Prop) : Nat → Int → zH → Prop
| 0, _, _ => False
| n2 + 1, y2, h =>
if y1 ≤ y2 then
(∀ h1 : zH, h1 = zw h 14 3 (w32 ((zd h 14 3) + 1)) →
Q 0 h1)
else
(∀ h2 : zH, h2 = zal h 4 0 3 →
(zt h2 (zn h) = 4) ∧
P_N_init (zn h) (w32 ((zd h2 14 2) + 1)) h2 (fun r3 h4 =>
(0 ≤ zd h 14 2 ∧ zd h 14 2 < 300) ∧
(zt h4 (zn h) = 4) ∧
∀ h5 : zH, h5 = zw h4 15 (zd h 14 2) (zn h) →
∀ h6 : zH, h6 = zw h5 14 2 (w32 ((zd h5 14 2) + 1)) →
∀ x2_7 : Int, x2_7 = w32 (y2 + 1) →
P_C_moreNames_L2 y1 Q n2 x2_7 h6))
theorem W_C_moreNames_L2 (y1 : Int) (Q : Int → zH → Prop) : ∀ (n2 : Nat) (y2 : Int) (h : zH), P_C_moreNames_L2 y1 Q n2 y2 h → zV true zy_X0_moreNames 3 2 [zR 14, zI y1, zI y2] [] h (zQ0 Q) := by
  intro n2
  induction n2 with
  | zero => intro y2 h hP; exact absurd hP id
  | succ n2 ih =>
    intro y2 h hP
    unfold P_C_moreNames_L2 at hP
    refine zV_iload_n dX0_moreNames_2 rfl ?_
    refine zV_iload_n dX0_moreNames_3 rfl ?_
    refine zV_icmp_ge (tgt := 45) dX0_moreNames_4 (by decide) (fun c => ?_) (fun c => ?_)
    · have hP := zif_p hP c
      refine zV_aload_n dX0_moreNames_45 rfl ?_
      refine zV_dup dX0_moreNames_46 (Nat.ne_of_beq_eq_false rfl) ?_
      refine zV_gf dX0_moreNames_47 sa_14 (by decide) fl_X0_106_0 rfl (ki := 3) rfl ?_
      refine zV_iconst dX0_moreNames_50 ⟨by decide, by decide⟩ ?_
      refine zV_iadd dX0_moreNames_51 ?_
      refine zV_pf dX0_moreNames_52 sa_14 (by decide) fl_X0_106_0 rfl rfl trivial (ki := 3) rfl (fun h1 e_h1 => ?_)
      have hP := hP h1 e_h1
      exact zV_return dX0_moreNames_55 rfl ⟨rfl, hP⟩
    · have hP := zif_n hP c
      refine zV_aload_n dX0_moreNames_7 rfl ?_
      refine zV_sg dX0_moreNames_8 fm_14_1 sa_14 (by decide) fl_X0_11_0 rfl ?_
      refine zV_aload_n dX0_moreNames_11 rfl ?_
      refine zV_gf dX0_moreNames_12 sa_14 (by decide) fl_X0_100_0 rfl (ki := 2) rfl ?_
      refine zV_newX (t := 4) (N := 3) dX0_moreNames_15 (by decide) rfl nw_X0_9 (fun h2 e_h2 => ?_)
      have hP := hP h2 e_h2
      refine zV_dup dX0_moreNames_18 (Nat.ne_of_beq_eq_false rfl) ?_
      refine zV_aload_n dX0_moreNames_19 rfl ?_
      refine zV_gf dX0_moreNames_20 sa_14 (by decide) fl_X0_100_0 rfl (ki := 2) rfl ?_
      refine zV_iconst dX0_moreNames_23 ⟨by decide, by decide⟩ ?_
      refine zV_iadd dX0_moreNames_24 ?_
      obtain ⟨ob, hP⟩ := hP
      refine zV_cID (As := [zI (w32 ((zd h2 14 2) + 1))]) (rest := [zR (zn h), zI (zd h 14 2), zR 15]) dX0_moreNames_25 ob ⟨by decide, by decide⟩ (W_N_init _ _ _ _ hP) mc_X4_init ml_X0_103 (by decide) (Nat.le_of_ble_eq_true rfl) rfl (fun r3 h4 hP => ?_)
      obtain ⟨ob, obf, hP⟩ := hP
      refine zV_aas dX0_moreNames_28 sa_15 ob (Or.inl ⟨rfl, obf⟩) (fun h5 e_h5 => ?_)
      have hP := hP h5 e_h5
      refine zV_aload_n dX0_moreNames_29 rfl ?_
      refine zV_dup dX0_moreNames_30 (Nat.ne_of_beq_eq_false rfl) ?_
      refine zV_gf dX0_moreNames_31 sa_14 (by decide) fl_X0_100_0 rfl (ki := 2) rfl ?_
      refine zV_iconst dX0_moreNames_34 ⟨by decide, by decide⟩ ?_
      refine zV_iadd dX0_moreNames_35 ?_
      refine zV_pf dX0_moreNames_36 sa_14 (by decide) fl_X0_100_0 rfl rfl trivial (ki := 2) rfl (fun h6 e_h6 => ?_)
      have hP := hP h6 e_h6
      refine zV_inc (ls' := fun z => [zR 14, zI y1, zI z]) dX0_moreNames_39 (Nat.le_of_ble_eq_true rfl) rfl rfl (fun _ => rfl) (fun x2_7 e_x2_7 => ?_)
      have hP := hP x2_7 e_x2_7
      refine zV_goto (tgt := 2) dX0_moreNames_42 (by decide) ?_
      exact ih _ _ hP
def P_C_moreNames (a1 : Int) (h : zH) (Q : Int → zH → Prop) : Prop :=
∃ n2, P_C_moreNames_L2 a1 Q n2 0 h
theorem W_C_moreNames (a1 : Int) (h : zH) (Q : Int → zH → Prop) (hP : P_C_moreNames a1 h Q) : zC true zy_X0_moreNames 3 [zR 14, zI a1] h (zQ0 Q) := by
  unfold P_C_moreNames at hP
  refine zC.of (by decide) (Nat.le_of_ble_eq_true rfl) ?_
  show zV true zy_X0_moreNames 3 0 [zR 14, zI a1, zU] [] h (zQ0 Q)
  refine zV_iconst dX0_moreNames_0 ⟨by decide, by decide⟩ ?_
  refine zV_istore_n (ls' := [zR 14, zI a1, zI 0]) dX0_moreNames_1 rfl (Nat.le_of_ble_eq_true rfl) rfl rfl ?_
  obtain ⟨n2, hP⟩ := hP
  refine W_C_moreNames_L2 _ _ n2 _ _ hP
def P_C_names (a1 : Int) (h : zH) (Q : Int → zH → Prop) : Prop :=
P_C_isIn a1 0 300 h (fun r1 h2 =>
if r1 = 0 then
(P_C_refused (-1001) h2 (fun r7 h8 =>
Q r7 h8))
else
(if w32 ((zd h2 14 2) + a1) ≤ 300 then
(P_C_moreNames a1 h2 (fun r3 h4 =>
Q (zd h4 14 2) h4))
else
(P_C_refused (-1003) h2 (fun r5 h6 =>
Q r5 h6))))
theorem W_C_names (a1 : Int) (h : zH) (Q : Int → zH → Prop) (hP : P_C_names a1 h Q) : zC true zy_X0_names 4 [zR 14, zI a1] h (zQ0 Q) := by
  unfold P_C_names at hP
  refine zC.of (by decide) (Nat.le_of_ble_eq_true rfl) ?_
  show zV true zy_X0_names 4 0 [zR 14, zI a1] [] h (zQ0 Q)
  refine zV_iload_n dX0_names_0 rfl ?_
  refine zV_i2l dX0_names_1 ?_
  refine zV_lconst (x := 0) dX0_names_2 rfl ?_
  refine zV_ldc2c (x := 300) dX0_names_3 (by decide) q574 ⟨by decide, by decide⟩ ?_
  refine zV_cSk (As := [zJ a1, zJ 0, zJ 300]) (rest := []) dX0_names_6 (W_C_isIn _ _ _ _ _ hP) mi_X0_isIn ml_X0_109 (by decide) (Nat.le_of_ble_eq_true rfl) rfl rfl rfl (fun r1 h2 hP => ?_)
  refine zV_if_ne (tgt := 20) dX0_names_9 (by decide) (fun c => ?_) (fun c => ?_)
  · have hP := zif_n hP c
    refine zV_aload_n dX0_names_20 rfl ?_
    refine zV_gf dX0_names_21 sa_14 (by decide) fl_X0_100_0 rfl (ki := 2) rfl ?_
    refine zV_iload_n dX0_names_24 rfl ?_
    refine zV_iadd dX0_names_25 ?_
    refine zV_sipush dX0_names_26 ⟨by decide, by decide, by decide⟩ ?_
    refine zV_icmp_le (tgt := 40) dX0_names_29 (by decide) (fun c => ?_) (fun c => ?_)
    · have hP := zif_p hP c
      refine zV_aload_n dX0_names_40 rfl ?_
      refine zV_iload_n dX0_names_41 rfl ?_
      refine zV_cVv (As := [zI a1]) (rest := []) dX0_names_42 sa_14 (W_C_moreNames _ _ _ hP) mi_X0_moreNames ml_X0_127 (by decide) (Nat.le_of_ble_eq_true rfl) rfl rfl (fun r3 h4 hP => ?_)
      refine zV_aload_n dX0_names_45 rfl ?_
      refine zV_gf dX0_names_46 sa_14 (by decide) fl_X0_100_0 rfl (ki := 2) rfl ?_
      exact zV_ireturn dX0_names_49 rfl rfl rfl ⟨rfl, hP⟩
    · have hP := zif_n hP c
      refine zV_aload_n dX0_names_32 rfl ?_
      refine zV_sipush dX0_names_33 ⟨by decide, by decide, by decide⟩ ?_
      refine zV_cVk (As := [zI (-1003)]) (rest := []) dX0_names_36 sa_14 (W_C_refused _ _ _ hP) mi_X0_refused ml_X0_124 (by decide) (Nat.le_of_ble_eq_true rfl) rfl rfl rfl (fun r5 h6 hP => ?_)
      exact zV_ireturn dX0_names_39 rfl rfl rfl ⟨rfl, hP⟩
  · have hP := zif_p hP c
    refine zV_aload_n dX0_names_12 rfl ?_
    refine zV_sipush dX0_names_13 ⟨by decide, by decide, by decide⟩ ?_
    refine zV_cVk (As := [zI (-1001)]) (rest := []) dX0_names_16 sa_14 (W_C_refused _ _ _ hP) mi_X0_refused ml_X0_124 (by decide) (Nat.le_of_ble_eq_true rfl) rfl rfl rfl (fun r7 h8 hP => ?_)
    exact zV_ireturn dX0_names_19 rfl rfl rfl ⟨rfl, hP⟩
def P_C_isPaper (a1 : Int) (h : zH) (Q : Int → zH → Prop) : Prop :=
P_C_isIn a1 0 39 h (fun r1 h2 =>
(r1 = 0 ∨ r1 = 1) ∧ Q r1 h2)
theorem W_C_isPaper (a1 : Int) (h : zH) (Q : Int → zH → Prop) (hP : P_C_isPaper a1 h Q) : zC true zy_X0_isPaper 2 [zI a1] h (zQ0 Q) := by
  unfold P_C_isPaper at hP
  refine zC.of (by decide) (Nat.le_of_ble_eq_true rfl) ?_
  show zV true zy_X0_isPaper 2 0 [zI a1] [] h (zQ0 Q)
  refine zV_iload_n dX0_isPaper_0 rfl ?_
  refine zV_i2l dX0_isPaper_1 ?_
  refine zV_lconst (x := 0) dX0_isPaper_2 rfl ?_
  refine zV_ldc2c (x := 39) dX0_isPaper_3 (by decide) q695 ⟨by decide, by decide⟩ ?_
  refine zV_cSk (As := [zJ a1, zJ 0, zJ 39]) (rest := []) dX0_isPaper_6 (W_C_isIn _ _ _ _ _ hP) mi_X0_isIn ml_X0_109 (by decide) (Nat.le_of_ble_eq_true rfl) rfl rfl rfl (fun r1 h2 hP => ?_)
  exact zV_ireturn dX0_isPaper_9 rfl rfl (z01 hP.1) ⟨rfl, hP.2⟩
def P_C_row (a1 : Int) (a2 : Int) (h : zH) (Q : Int → zH → Prop) : Prop :=
P_C_isPaper a1 h (fun r1 h2 =>
if r1 = 0 then
(P_C_refused (-1001) h2 (fun r3 h4 =>
Q r3 h4))
else
(if a2 ≤ 12 then
((0 ≤ a2 ∧ a2 ≤ 60000) ∧
∀ h5 : zH, h5 = zal h2 50 a2 a2 →
(0 ≤ a1 ∧ a1 < 40) ∧
(zt h5 (zn h2) = 50) ∧
∀ h6 : zH, h6 = zw h5 16 a1 (zn h2) →
Q a2 h6)
else
(P_C_refused (-1001) h2 (fun r7 h8 =>
Q r7 h8))))
theorem W_C_row (a1 : Int) (a2 : Int) (h : zH) (Q : Int → zH → Prop) (hP : P_C_row a1 a2 h Q) : zC true zy_X0_row 3 [zR 14, zI a1, zI a2] h (zQ0 Q) := by
  unfold P_C_row at hP
  refine zC.of (by decide) (Nat.le_of_ble_eq_true rfl) ?_
  show zV true zy_X0_row 3 0 [zR 14, zI a1, zI a2, zU] [] h (zQ0 Q)
  refine zV_iload_n dX0_row_0 rfl ?_
  refine zV_cSk (As := [zI a1]) (rest := []) dX0_row_1 (W_C_isPaper _ _ _ hP) mi_X0_isPaper ml_X0_132 (by decide) (Nat.le_of_ble_eq_true rfl) rfl rfl rfl (fun r1 h2 hP => ?_)
  refine zV_if_eq (tgt := 13) dX0_row_4 (by decide) (fun c => ?_) (fun c => ?_)
  · have hP := zif_p hP c
    refine zV_aload_n dX0_row_13 rfl ?_
    refine zV_sipush dX0_row_14 ⟨by decide, by decide, by decide⟩ ?_
    refine zV_cVk (As := [zI (-1001)]) (rest := []) dX0_row_17 sa_14 (W_C_refused _ _ _ hP) mi_X0_refused ml_X0_124 (by decide) (Nat.le_of_ble_eq_true rfl) rfl rfl rfl (fun r3 h4 hP => ?_)
    exact zV_ireturn dX0_row_20 rfl rfl rfl ⟨rfl, hP⟩
  · have hP := zif_n hP c
    refine zV_iload_n dX0_row_7 rfl ?_
    refine zV_bipush dX0_row_8 ⟨by decide, by decide, by decide⟩ ?_
    refine zV_icmp_le (tgt := 21) dX0_row_10 (by decide) (fun c => ?_) (fun c => ?_)
    · have hP := zif_p hP c
      refine zV_aload_n dX0_row_21 rfl ?_
      refine zV_sg dX0_row_22 fm_14_4 sa_14 (by decide) fl_X0_17_0 rfl ?_
      refine zV_iload_n dX0_row_25 rfl ?_
      refine zV_iload_n dX0_row_26 rfl ?_
      obtain ⟨ob, hP⟩ := hP
      refine zV_nai dX0_row_27 ob (fun h5 e_h5 => ?_)
      have hP := hP h5 e_h5
      obtain ⟨ob, obf, hP⟩ := hP
      refine zV_aas dX0_row_29 sa_16 ob (Or.inr (Or.inl ⟨rfl, obf⟩)) (fun h6 e_h6 => ?_)
      have hP := hP h6 e_h6
      refine zV_iload_n dX0_row_30 rfl ?_
      exact zV_ireturn dX0_row_31 rfl rfl rfl ⟨rfl, hP⟩
    · have hP := zif_n hP c
      refine zV_aload_n dX0_row_13 rfl ?_
      refine zV_sipush dX0_row_14 ⟨by decide, by decide, by decide⟩ ?_
      refine zV_cVk (As := [zI (-1001)]) (rest := []) dX0_row_17 sa_14 (W_C_refused _ _ _ hP) mi_X0_refused ml_X0_124 (by decide) (Nat.le_of_ble_eq_true rfl) rfl rfl rfl (fun r7 h8 hP => ?_)
      exact zV_ireturn dX0_row_20 rfl rfl rfl ⟨rfl, hP⟩
def P_C_drop (a1 : Int) (h : zH) (Q : Int → zH → Prop) : Prop :=
P_C_isPaper a1 h (fun r1 h2 =>
if r1 = 0 then
(P_C_refused (-1001) h2 (fun r4 h5 =>
Q r4 h5))
else
((0 ≤ a1 ∧ a1 < 40) ∧
∀ h3 : zH, h3 = zw h2 16 a1 0 →
Q 1 h3))
theorem W_C_drop (a1 : Int) (h : zH) (Q : Int → zH → Prop) (hP : P_C_drop a1 h Q) : zC true zy_X0_drop 3 [zR 14, zI a1] h (zQ0 Q) := by
  unfold P_C_drop at hP
  refine zC.of (by decide) (Nat.le_of_ble_eq_true rfl) ?_
  show zV true zy_X0_drop 3 0 [zR 14, zI a1] [] h (zQ0 Q)
  refine zV_iload_n dX0_drop_0 rfl ?_
  refine zV_cSk (As := [zI a1]) (rest := []) dX0_drop_1 (W_C_isPaper _ _ _ hP) mi_X0_isPaper ml_X0_132 (by decide) (Nat.le_of_ble_eq_true rfl) rfl rfl rfl (fun r1 h2 hP => ?_)
  refine zV_if_ne (tgt := 15) dX0_drop_4 (by decide) (fun c => ?_) (fun c => ?_)
  · have hP := zif_n hP c
    refine zV_aload_n dX0_drop_15 rfl ?_
    refine zV_sg dX0_drop_16 fm_14_4 sa_14 (by decide) fl_X0_17_0 rfl ?_
    refine zV_iload_n dX0_drop_19 rfl ?_
    refine zV_null dX0_drop_20 ?_
    obtain ⟨ob, hP⟩ := hP
    refine zV_aan dX0_drop_21 sa_16 ob (fun h3 e_h3 => ?_)
    have hP := hP h3 e_h3
    refine zV_iconst dX0_drop_22 ⟨by decide, by decide⟩ ?_
    exact zV_ireturn dX0_drop_23 rfl rfl rfl ⟨rfl, hP⟩
  · have hP := zif_p hP c
    refine zV_aload_n dX0_drop_7 rfl ?_
    refine zV_sipush dX0_drop_8 ⟨by decide, by decide, by decide⟩ ?_
    refine zV_cVk (As := [zI (-1001)]) (rest := []) dX0_drop_11 sa_14 (W_C_refused _ _ _ hP) mi_X0_refused ml_X0_124 (by decide) (Nat.le_of_ble_eq_true rfl) rfl rfl rfl (fun r4 h5 hP => ?_)
    exact zV_ireturn dX0_drop_14 rfl rfl rfl ⟨rfl, hP⟩
def P_C_put (a1 : Int) (a2 : Int) (a3 : Int) (h : zH) (Q : Int → zH → Prop) : Prop :=
P_C_isPaper a1 h (fun r1 h2 =>
if r1 = 0 then
(P_C_refused (-1001) h2 (fun r4 h5 =>
Q r4 h5))
else
((0 ≤ a1 ∧ a1 < 40) ∧
(zt h2 (zd h2 16 a1) = 50 ∧ 0 ≤ a2 ∧ a2 < zl h2 (zd h2 16 a1)) ∧
∀ h3 : zH, h3 = zw h2 (zd h2 16 a1) a2 a3 →
Q 1 h3))
theorem W_C_put (a1 : Int) (a2 : Int) (a3 : Int) (h : zH) (Q : Int → zH → Prop) (hP : P_C_put a1 a2 a3 h Q) : zC true zy_X0_put 3 [zR 14, zI a1, zI a2, zI a3] h (zQ0 Q) := by
  unfold P_C_put at hP
  refine zC.of (by decide) (Nat.le_of_ble_eq_true rfl) ?_
  show zV true zy_X0_put 3 0 [zR 14, zI a1, zI a2, zI a3, zU] [] h (zQ0 Q)
  refine zV_iload_n dX0_put_0 rfl ?_
  refine zV_cSk (As := [zI a1]) (rest := []) dX0_put_1 (W_C_isPaper _ _ _ hP) mi_X0_isPaper ml_X0_132 (by decide) (Nat.le_of_ble_eq_true rfl) rfl rfl rfl (fun r1 h2 hP => ?_)
  refine zV_if_ne (tgt := 15) dX0_put_4 (by decide) (fun c => ?_) (fun c => ?_)
  · have hP := zif_n hP c
    refine zV_aload_n dX0_put_15 rfl ?_
    refine zV_sg dX0_put_16 fm_14_4 sa_14 (by decide) fl_X0_17_0 rfl ?_
    refine zV_iload_n dX0_put_19 rfl ?_
    obtain ⟨ob, hP⟩ := hP
    refine zV_aa dX0_put_20 sa_16 (by decide) ob ?_
    refine zV_iload_n dX0_put_21 rfl ?_
    refine zV_iload_n dX0_put_22 rfl ?_
    obtain ⟨ob, hP⟩ := hP
    refine zV_iasD dX0_put_23 ob (fun h3 e_h3 => ?_)
    have hP := hP h3 e_h3
    refine zV_iconst dX0_put_24 ⟨by decide, by decide⟩ ?_
    exact zV_ireturn dX0_put_25 rfl rfl rfl ⟨rfl, hP⟩
  · have hP := zif_p hP c
    refine zV_aload_n dX0_put_7 rfl ?_
    refine zV_sipush dX0_put_8 ⟨by decide, by decide, by decide⟩ ?_
    refine zV_cVk (As := [zI (-1001)]) (rest := []) dX0_put_11 sa_14 (W_C_refused _ _ _ hP) mi_X0_refused ml_X0_124 (by decide) (Nat.le_of_ble_eq_true rfl) rfl rfl rfl (fun r4 h5 hP => ?_)
    exact zV_ireturn dX0_put_14 rfl rfl rfl ⟨rfl, hP⟩
def P_C_get (a1 : Int) (a2 : Int) (h : zH) (Q : Int → zH → Prop) : Prop :=
P_C_isPaper a1 h (fun r1 h2 =>
if r1 = 0 then
(P_C_refused (-1001) h2 (fun r3 h4 =>
Q (w64 (10000000000 * r3)) h4))
else
((if a2 = (-1) then (0 ≤ a1 ∧ a1 < 40) ∧ (zt h2 (zd h2 16 a1) = 50) ∧ True else (0 ≤ a1 ∧ a1 < 40) ∧ (zt h2 (zd h2 16 a1) = 50 ∧ 0 ≤ a2 ∧ a2 < zl h2 (zd h2 16 a1)) ∧ True) ∧
Q (if a2 = (-1) then zl h2 (zd h2 16 a1) else zd h2 (zd h2 16 a1) a2) h2))
theorem W_C_get (a1 : Int) (a2 : Int) (h : zH) (Q : Int → zH → Prop) (hP : P_C_get a1 a2 h Q) : zC true zy_X0_get 3 [zR 14, zI a1, zI a2] h (zQ0 Q) := by
  unfold P_C_get at hP
  refine zC.of (by decide) (Nat.le_of_ble_eq_true rfl) ?_
  show zV true zy_X0_get 3 0 [zR 14, zI a1, zI a2, zU] [] h (zQ0 Q)
  refine zV_iload_n dX0_get_0 rfl ?_
  refine zV_cSk (As := [zI a1]) (rest := []) dX0_get_1 (W_C_isPaper _ _ _ hP) mi_X0_isPaper ml_X0_132 (by decide) (Nat.le_of_ble_eq_true rfl) rfl rfl rfl (fun r1 h2 hP => ?_)
  refine zV_if_ne (tgt := 20) dX0_get_4 (by decide) (fun c => ?_) (fun c => ?_)
  · have hP := zif_n hP c
    refine zV_iload_n dX0_get_20 rfl ?_
    refine zV_iconst dX0_get_21 ⟨by decide, by decide⟩ ?_
    obtain ⟨hO, hP⟩ := hP
    have K : zV true zy_X0_get 3 45 [zU, zU, zU, zU] [zJ (if a2 = (-1) then zl h2 (zd h2 16 a1) else zd h2 (zd h2 16 a1) a2)] h2 (zQ0 Q) := by
      exact zV_lreturn dX0_get_45 rfl ⟨rfl, hP⟩
    clear hP
    refine zV_icmp_ne (tgt := 36) dX0_get_22 (by decide) (fun c => ?_) (fun c => ?_)
    · try simp only [if_neg c] at K
      have hO := zif_n hO c
      refine zV_aload_n dX0_get_36 rfl ?_
      refine zV_sg dX0_get_37 fm_14_4 sa_14 (by decide) fl_X0_17_0 rfl ?_
      refine zV_iload_n dX0_get_40 rfl ?_
      obtain ⟨ob, hO⟩ := hO
      refine zV_aa dX0_get_41 sa_16 (by decide) ob ?_
      refine zV_iload_n dX0_get_42 rfl ?_
      obtain ⟨ob, hO⟩ := hO
      refine zV_iaD dX0_get_43 ob ?_
      refine zV_i2l dX0_get_44 ?_
      refine zV_mask [false, false, false, false] rfl ?_
      exact K
    · try simp only [if_pos c] at K
      have hO := zif_p hO c
      refine zV_aload_n dX0_get_25 rfl ?_
      refine zV_sg dX0_get_26 fm_14_4 sa_14 (by decide) fl_X0_17_0 rfl ?_
      refine zV_iload_n dX0_get_29 rfl ?_
      obtain ⟨ob, hO⟩ := hO
      refine zV_aa dX0_get_30 sa_16 (by decide) ob ?_
      obtain ⟨ob, hO⟩ := hO
      refine zV_alD dX0_get_31 (Or.inl ob) ?_
      refine zV_i2l dX0_get_32 ?_
      refine zV_goto (tgt := 45) dX0_get_33 (by decide) ?_
      refine zV_mask [false, false, false, false] rfl ?_
      exact K
  · have hP := zif_p hP c
    refine zV_ldc2c (x := 10000000000) dX0_get_7 (by decide) q752 ⟨by decide, by decide⟩ ?_
    refine zV_aload_n dX0_get_10 rfl ?_
    refine zV_sipush dX0_get_11 ⟨by decide, by decide, by decide⟩ ?_
    refine zV_cVk (As := [zI (-1001)]) (rest := [zJ 10000000000]) dX0_get_14 sa_14 (W_C_refused _ _ _ hP) mi_X0_refused ml_X0_124 (by decide) (Nat.le_of_ble_eq_true rfl) rfl rfl rfl (fun r3 h4 hP => ?_)
    refine zV_i2l dX0_get_17 ?_
    refine zV_lmul dX0_get_18 ?_
    exact zV_lreturn dX0_get_19 rfl ⟨rfl, hP⟩
def P_C_copy (a1 : Int) (a2 : Int) (a3 : Int) (a4 : Int) (a5 : Int) (h : zH) (Q : Int → zH → Prop) : Prop :=
P_C_isPaper a1 h (fun r1 h2 =>
if r1 = 0 then
(P_C_refused (-1001) h2 (fun r3 h4 =>
Q r3 h4))
else
(P_C_isPaper a3 h2 (fun r5 h6 =>
if r5 = 0 then
(P_C_refused (-1001) h6 (fun r8 h9 =>
Q r8 h9))
else
((0 ≤ a1 ∧ a1 < 40) ∧
(0 ≤ a3 ∧ a3 < 40) ∧
(zt h6 (zd h6 16 a1) = 50 ∧ zt h6 (zd h6 16 a3) = 50 ∧ 0 ≤ a2 ∧ 0 ≤ a4 ∧ 0 ≤ a5 ∧ a2 + a5 ≤ zl h6 (zd h6 16 a1) ∧ a4 + a5 ≤ zl h6 (zd h6 16 a3)) ∧
∀ h7 : zH, h7 = zcp h6 (zd h6 16 a1) a2 (zd h6 16 a3) a4 a5 →
Q a5 h7))))
theorem W_C_copy (a1 : Int) (a2 : Int) (a3 : Int) (a4 : Int) (a5 : Int) (h : zH) (Q : Int → zH → Prop) (hP : P_C_copy a1 a2 a3 a4 a5 h Q) : zC true zy_X0_copy 3 [zR 14, zI a1, zI a2, zI a3, zI a4, zI a5] h (zQ0 Q) := by
  unfold P_C_copy at hP
  refine zC.of (by decide) (Nat.le_of_ble_eq_true rfl) ?_
  show zV true zy_X0_copy 3 0 [zR 14, zI a1, zI a2, zI a3, zI a4, zI a5, zU] [] h (zQ0 Q)
  refine zV_iload_n dX0_copy_0 rfl ?_
  refine zV_cSk (As := [zI a1]) (rest := []) dX0_copy_1 (W_C_isPaper _ _ _ hP) mi_X0_isPaper ml_X0_132 (by decide) (Nat.le_of_ble_eq_true rfl) rfl rfl rfl (fun r1 h2 hP => ?_)
  refine zV_if_eq (tgt := 14) dX0_copy_4 (by decide) (fun c => ?_) (fun c => ?_)
  · have hP := zif_p hP c
    refine zV_aload_n dX0_copy_14 rfl ?_
    refine zV_sipush dX0_copy_15 ⟨by decide, by decide, by decide⟩ ?_
    refine zV_cVk (As := [zI (-1001)]) (rest := []) dX0_copy_18 sa_14 (W_C_refused _ _ _ hP) mi_X0_refused ml_X0_124 (by decide) (Nat.le_of_ble_eq_true rfl) rfl rfl rfl (fun r3 h4 hP => ?_)
    exact zV_ireturn dX0_copy_21 rfl rfl rfl ⟨rfl, hP⟩
  · have hP := zif_n hP c
    refine zV_iload_n dX0_copy_7 rfl ?_
    refine zV_cSk (As := [zI a3]) (rest := []) dX0_copy_8 (W_C_isPaper _ _ _ hP) mi_X0_isPaper ml_X0_132 (by decide) (Nat.le_of_ble_eq_true rfl) rfl rfl rfl (fun r5 h6 hP => ?_)
    refine zV_if_ne (tgt := 22) dX0_copy_11 (by decide) (fun c => ?_) (fun c => ?_)
    · have hP := zif_n hP c
      refine zV_aload_n dX0_copy_22 rfl ?_
      refine zV_sg dX0_copy_23 fm_14_4 sa_14 (by decide) fl_X0_17_0 rfl ?_
      refine zV_iload_n dX0_copy_26 rfl ?_
      obtain ⟨ob, hP⟩ := hP
      refine zV_aa dX0_copy_27 sa_16 (by decide) ob ?_
      refine zV_iload_n dX0_copy_28 rfl ?_
      refine zV_aload_n dX0_copy_29 rfl ?_
      refine zV_sg dX0_copy_30 fm_14_4 sa_14 (by decide) fl_X0_17_0 rfl ?_
      refine zV_iload_n dX0_copy_33 rfl ?_
      obtain ⟨ob, hP⟩ := hP
      refine zV_aa dX0_copy_34 sa_16 (by decide) ob ?_
      refine zV_iload dX0_copy_35 rfl ?_
      refine zV_iload dX0_copy_37 rfl ?_
      obtain ⟨ob, hP⟩ := hP
      refine zV_cpi dX0_copy_39 q757 ob (Nat.le_of_ble_eq_true rfl) (by decide) (fun h7 e_h7 => ?_)
      have hP := hP h7 e_h7
      refine zV_iload dX0_copy_42 rfl ?_
      exact zV_ireturn dX0_copy_44 rfl rfl rfl ⟨rfl, hP⟩
    · have hP := zif_p hP c
      refine zV_aload_n dX0_copy_14 rfl ?_
      refine zV_sipush dX0_copy_15 ⟨by decide, by decide, by decide⟩ ?_
      refine zV_cVk (As := [zI (-1001)]) (rest := []) dX0_copy_18 sa_14 (W_C_refused _ _ _ hP) mi_X0_refused ml_X0_124 (by decide) (Nat.le_of_ble_eq_true rfl) rfl rfl rfl (fun r8 h9 hP => ?_)
      exact zV_ireturn dX0_copy_21 rfl rfl rfl ⟨rfl, hP⟩
def P_C_cut (a1 : Int) (a2 : Int) (h : zH) (Q : Int → zH → Prop) : Prop :=
P_C_isPaper a1 h (fun r1 h2 =>
if r1 = 0 then
(P_C_refused (-1001) h2 (fun r3 h4 =>
Q r3 h4))
else
(if a2 ≤ 12 then
((0 ≤ a2 ∧ a2 ≤ 60000) ∧
∀ h5 : zH, h5 = zal h2 50 a2 a2 →
∀ x3_6 : Int, x3_6 = (zn h2) →
(0 ≤ a1 ∧ a1 < 40) ∧
(zt h5 (zd h5 16 a1) = 50 ∧ zt h5 x3_6 = 50 ∧ (0 : Int) ≤ 0 ∧ (0 : Int) ≤ 0 ∧ 0 ≤ a2 ∧ 0 + a2 ≤ zl h5 (zd h5 16 a1) ∧ 0 + a2 ≤ zl h5 x3_6) ∧
∀ h7 : zH, h7 = zcp h5 (zd h5 16 a1) 0 x3_6 0 a2 →
(0 ≤ a1 ∧ a1 < 40) ∧
(zt h7 x3_6 = 50) ∧
∀ h8 : zH, h8 = zw h7 16 a1 x3_6 →
Q a2 h8)
else
(P_C_refused (-1001) h2 (fun r9 h10 =>
Q r9 h10))))
theorem W_C_cut (a1 : Int) (a2 : Int) (h : zH) (Q : Int → zH → Prop) (hP : P_C_cut a1 a2 h Q) : zC true zy_X0_cut 3 [zR 14, zI a1, zI a2] h (zQ0 Q) := by
  unfold P_C_cut at hP
  refine zC.of (by decide) (Nat.le_of_ble_eq_true rfl) ?_
  show zV true zy_X0_cut 3 0 [zR 14, zI a1, zI a2, zU] [] h (zQ0 Q)
  refine zV_iload_n dX0_cut_0 rfl ?_
  refine zV_cSk (As := [zI a1]) (rest := []) dX0_cut_1 (W_C_isPaper _ _ _ hP) mi_X0_isPaper ml_X0_132 (by decide) (Nat.le_of_ble_eq_true rfl) rfl rfl rfl (fun r1 h2 hP => ?_)
  refine zV_if_eq (tgt := 13) dX0_cut_4 (by decide) (fun c => ?_) (fun c => ?_)
  · have hP := zif_p hP c
    refine zV_aload_n dX0_cut_13 rfl ?_
    refine zV_sipush dX0_cut_14 ⟨by decide, by decide, by decide⟩ ?_
    refine zV_cVk (As := [zI (-1001)]) (rest := []) dX0_cut_17 sa_14 (W_C_refused _ _ _ hP) mi_X0_refused ml_X0_124 (by decide) (Nat.le_of_ble_eq_true rfl) rfl rfl rfl (fun r3 h4 hP => ?_)
    exact zV_ireturn dX0_cut_20 rfl rfl rfl ⟨rfl, hP⟩
  · have hP := zif_n hP c
    refine zV_iload_n dX0_cut_7 rfl ?_
    refine zV_bipush dX0_cut_8 ⟨by decide, by decide, by decide⟩ ?_
    refine zV_icmp_le (tgt := 21) dX0_cut_10 (by decide) (fun c => ?_) (fun c => ?_)
    · have hP := zif_p hP c
      refine zV_iload_n dX0_cut_21 rfl ?_
      obtain ⟨ob, hP⟩ := hP
      refine zV_nai dX0_cut_22 ob (fun h5 e_h5 => ?_)
      have hP := hP h5 e_h5
      refine zV_top (fun x3_6 e_x3_6 => ?_)
      have hP := hP x3_6 e_x3_6
      refine zV_astore_n (ls' := [zR 14, zI a1, zI a2, zR x3_6]) dX0_cut_24 rfl (Nat.le_of_ble_eq_true rfl) rfl rfl ?_
      refine zV_aload_n dX0_cut_25 rfl ?_
      refine zV_sg dX0_cut_26 fm_14_4 sa_14 (by decide) fl_X0_17_0 rfl ?_
      refine zV_iload_n dX0_cut_29 rfl ?_
      obtain ⟨ob, hP⟩ := hP
      refine zV_aa dX0_cut_30 sa_16 (by decide) ob ?_
      refine zV_iconst dX0_cut_31 ⟨by decide, by decide⟩ ?_
      refine zV_aload_n dX0_cut_32 rfl ?_
      refine zV_iconst dX0_cut_33 ⟨by decide, by decide⟩ ?_
      refine zV_iload_n dX0_cut_34 rfl ?_
      obtain ⟨ob, hP⟩ := hP
      refine zV_cpi dX0_cut_35 q757 ob (Nat.le_of_ble_eq_true rfl) (by decide) (fun h7 e_h7 => ?_)
      have hP := hP h7 e_h7
      refine zV_aload_n dX0_cut_38 rfl ?_
      refine zV_sg dX0_cut_39 fm_14_4 sa_14 (by decide) fl_X0_17_0 rfl ?_
      refine zV_iload_n dX0_cut_42 rfl ?_
      refine zV_aload_n dX0_cut_43 rfl ?_
      obtain ⟨ob, obf, hP⟩ := hP
      refine zV_aas dX0_cut_44 sa_16 ob (Or.inr (Or.inl ⟨rfl, obf⟩)) (fun h8 e_h8 => ?_)
      have hP := hP h8 e_h8
      refine zV_iload_n dX0_cut_45 rfl ?_
      exact zV_ireturn dX0_cut_46 rfl rfl rfl ⟨rfl, hP⟩
    · have hP := zif_n hP c
      refine zV_aload_n dX0_cut_13 rfl ?_
      refine zV_sipush dX0_cut_14 ⟨by decide, by decide, by decide⟩ ?_
      refine zV_cVk (As := [zI (-1001)]) (rest := []) dX0_cut_17 sa_14 (W_C_refused _ _ _ hP) mi_X0_refused ml_X0_124 (by decide) (Nat.le_of_ble_eq_true rfl) rfl rfl rfl (fun r9 h10 hP => ?_)
      exact zV_ireturn dX0_cut_20 rfl rfl rfl ⟨rfl, hP⟩
def P_C_feed_L44 (y1 : Int) (Q : Int → zH → Prop) : Nat → Int → zH → Prop
| 0, _, _ => False
| n44 + 1, y4, h =>
if y4 < 0 then
(Q (zd h 14 6) h)
else
(∀ h4 : zH, h4 = zw h 14 6 (w32 ((zd h 14 6) + 1)) →
(0 ≤ zd h 14 6 ∧ zd h 14 6 < 60) ∧
∀ h5 : zH, h5 = zw h4 17 (zd h 14 6) (zbyte (zi2b (w32 (zlshr y1 (w32 (8 * y4)))))) →
∀ x4_6 : Int, x4_6 = w32 (y4 + (-1)) →
P_C_feed_L44 y1 Q n44 x4_6 h5)
theorem W_C_feed_L44 (y1 : Int) (Q : Int → zH → Prop) : ∀ (n44 : Nat) (y4 : Int) (h : zH), P_C_feed_L44 y1 Q n44 y4 h → zV true zy_X0_feed 2 44 [zR 14, zJ y1, zU, zU, zI y4] [] h (zQ0 Q) := by
  intro n44
  induction n44 with
  | zero => intro y4 h hP; exact absurd hP id
  | succ n44 ih =>
    intro y4 h hP
    unfold P_C_feed_L44 at hP
    refine zV_iload dX0_feed_44 rfl ?_
    refine zV_if_lt (tgt := 80) dX0_feed_46 (by decide) (fun c => ?_) (fun c => ?_)
    · have hP := zif_p hP c
      refine zV_aload_n dX0_feed_80 rfl ?_
      refine zV_gf dX0_feed_81 sa_14 (by decide) fl_X0_152_0 rfl (ki := 6) rfl ?_
      exact zV_ireturn dX0_feed_84 rfl rfl rfl ⟨rfl, hP⟩
    · have hP := zif_n hP c
      refine zV_aload_n dX0_feed_49 rfl ?_
      refine zV_sg dX0_feed_50 fm_14_5 sa_14 (by decide) fl_X0_21_0 rfl ?_
      refine zV_aload_n dX0_feed_53 rfl ?_
      refine zV_dup dX0_feed_54 (Nat.ne_of_beq_eq_false rfl) ?_
      refine zV_gf dX0_feed_55 sa_14 (by decide) fl_X0_152_0 rfl (ki := 6) rfl ?_
      refine zV_dup_x1 dX0_feed_58 (Nat.ne_of_beq_eq_false rfl) (Nat.ne_of_beq_eq_false rfl) ?_
      refine zV_iconst dX0_feed_59 ⟨by decide, by decide⟩ ?_
      refine zV_iadd dX0_feed_60 ?_
      refine zV_pf dX0_feed_61 sa_14 (by decide) fl_X0_152_0 rfl rfl trivial (ki := 6) rfl (fun h4 e_h4 => ?_)
      have hP := hP h4 e_h4
      refine zV_lload_n dX0_feed_64 rfl ?_
      refine zV_bipush dX0_feed_65 ⟨by decide, by decide, by decide⟩ ?_
      refine zV_iload dX0_feed_67 rfl ?_
      refine zV_imul dX0_feed_69 ?_
      refine zV_lshr dX0_feed_70 ?_
      refine zV_l2i dX0_feed_71 ?_
      refine zV_i2b dX0_feed_72 ?_
      obtain ⟨ob, hP⟩ := hP
      refine zV_bas dX0_feed_73 sa_17 ob (fun h5 e_h5 => ?_)
      have hP := hP h5 e_h5
      refine zV_inc (ls' := fun z => [zR 14, zJ y1, zU, zU, zI z]) dX0_feed_74 (Nat.le_of_ble_eq_true rfl) rfl rfl (fun _ => rfl) (fun x4_6 e_x4_6 => ?_)
      have hP := hP x4_6 e_x4_6
      refine zV_goto (tgt := 44) dX0_feed_77 (by decide) ?_
      exact ih _ _ hP
def P_C_feed (a1 : Int) (a2 : Int) (h : zH) (Q : Int → zH → Prop) : Prop :=
P_C_isIn a2 1 8 h (fun r1 h2 =>
if r1 = 0 then
(P_C_refused (-1001) h2 (fun r9 h10 =>
Q r9 h10))
else
(if w32 ((zd h2 14 6) + a2) ≤ 60 then
(∀ x4_3 : Int, x4_3 = (w32 (a2 - 1)) →
∃ n44, P_C_feed_L44 a1 Q n44 x4_3 h2)
else
(P_C_refused (-1003) h2 (fun r7 h8 =>
Q r7 h8))))
theorem W_C_feed (a1 : Int) (a2 : Int) (h : zH) (Q : Int → zH → Prop) (hP : P_C_feed a1 a2 h Q) : zC true zy_X0_feed 2 [zR 14, zJ a1, zI a2] h (zQ0 Q) := by
  unfold P_C_feed at hP
  refine zC.of (by decide) (Nat.le_of_ble_eq_true rfl) ?_
  show zV true zy_X0_feed 2 0 [zR 14, zJ a1, zU, zI a2, zU] [] h (zQ0 Q)
  refine zV_iload_n dX0_feed_0 rfl ?_
  refine zV_i2l dX0_feed_1 ?_
  refine zV_lconst (x := 1) dX0_feed_2 rfl ?_
  refine zV_ldc2c (x := 8) dX0_feed_3 (by decide) q768 ⟨by decide, by decide⟩ ?_
  refine zV_cSk (As := [zJ a2, zJ 1, zJ 8]) (rest := []) dX0_feed_6 (W_C_isIn _ _ _ _ _ hP) mi_X0_isIn ml_X0_109 (by decide) (Nat.le_of_ble_eq_true rfl) rfl rfl rfl (fun r1 h2 hP => ?_)
  refine zV_if_ne (tgt := 20) dX0_feed_9 (by decide) (fun c => ?_) (fun c => ?_)
  · have hP := zif_n hP c
    refine zV_aload_n dX0_feed_20 rfl ?_
    refine zV_gf dX0_feed_21 sa_14 (by decide) fl_X0_152_0 rfl (ki := 6) rfl ?_
    refine zV_iload_n dX0_feed_24 rfl ?_
    refine zV_iadd dX0_feed_25 ?_
    refine zV_bipush dX0_feed_26 ⟨by decide, by decide, by decide⟩ ?_
    refine zV_icmp_le (tgt := 39) dX0_feed_28 (by decide) (fun c => ?_) (fun c => ?_)
    · have hP := zif_p hP c
      refine zV_iload_n dX0_feed_39 rfl ?_
      refine zV_iconst dX0_feed_40 ⟨by decide, by decide⟩ ?_
      refine zV_isub dX0_feed_41 ?_
      refine zV_top (fun x4_3 e_x4_3 => ?_)
      have hP := hP x4_3 e_x4_3
      refine zV_istore (ls' := [zR 14, zJ a1, zU, zI a2, zI x4_3]) dX0_feed_42 (Nat.le_of_ble_eq_true rfl) rfl rfl ?_
      obtain ⟨n44, hP⟩ := hP
      refine zV_mask [true, true, true, false, true] (ls' := [zR 14, zJ a1, zU, zU, zI x4_3]) rfl ?_
      refine W_C_feed_L44 _ _ n44 _ _ hP
    · have hP := zif_n hP c
      refine zV_aload_n dX0_feed_31 rfl ?_
      refine zV_sipush dX0_feed_32 ⟨by decide, by decide, by decide⟩ ?_
      refine zV_cVk (As := [zI (-1003)]) (rest := []) dX0_feed_35 sa_14 (W_C_refused _ _ _ hP) mi_X0_refused ml_X0_124 (by decide) (Nat.le_of_ble_eq_true rfl) rfl rfl rfl (fun r7 h8 hP => ?_)
      exact zV_ireturn dX0_feed_38 rfl rfl rfl ⟨rfl, hP⟩
  · have hP := zif_p hP c
    refine zV_aload_n dX0_feed_12 rfl ?_
    refine zV_sipush dX0_feed_13 ⟨by decide, by decide, by decide⟩ ?_
    refine zV_cVk (As := [zI (-1001)]) (rest := []) dX0_feed_16 sa_14 (W_C_refused _ _ _ hP) mi_X0_refused ml_X0_124 (by decide) (Nat.le_of_ble_eq_true rfl) rfl rfl rfl (fun r9 h10 hP => ?_)
    exact zV_ireturn dX0_feed_19 rfl rfl rfl ⟨rfl, hP⟩
def P_C_wipe (h : zH) (Q : Int → zH → Prop) : Prop :=
∀ x1_1 : Int, x1_1 = (zd h 14 6) →
∀ h2 : zH, h2 = zw h 14 6 0 →
Q x1_1 h2
theorem W_C_wipe (h : zH) (Q : Int → zH → Prop) (hP : P_C_wipe  h Q) : zC true zy_X0_wipe 1 [zR 14] h (zQ0 Q) := by
  unfold P_C_wipe at hP
  refine zC.of (by decide) (Nat.le_of_ble_eq_true rfl) ?_
  show zV true zy_X0_wipe 1 0 [zR 14, zU] [] h (zQ0 Q)
  refine zV_aload_n dX0_wipe_0 rfl ?_
  refine zV_gf dX0_wipe_1 sa_14 (by decide) fl_X0_152_0 rfl (ki := 6) rfl ?_
  refine zV_top (fun x1_1 e_x1_1 => ?_)
  have hP := hP x1_1 e_x1_1
  refine zV_istore_n (ls' := [zR 14, zI x1_1]) dX0_wipe_4 rfl (Nat.le_of_ble_eq_true rfl) rfl rfl ?_
  refine zV_aload_n dX0_wipe_5 rfl ?_
  refine zV_iconst dX0_wipe_6 ⟨by decide, by decide⟩ ?_
  refine zV_pf dX0_wipe_7 sa_14 (by decide) fl_X0_152_0 rfl rfl trivial (ki := 6) rfl (fun h2 e_h2 => ?_)
  have hP := hP h2 e_h2
  refine zV_iload_n dX0_wipe_10 rfl ?_
  exact zV_ireturn dX0_wipe_11 rfl rfl rfl ⟨rfl, hP⟩
def P_C_trace (a1 : Int) (h : zH) (Q : Int → zH → Prop) : Prop :=
P_C_isIn a1 0 (w32 ((zmin (zd h 14 8) 100) - 1)) h (fun r1 h2 =>
(if r1 = 0 then True else (0 ≤ Int.tmod (w32 ((w32 ((zd h2 14 8) - 1)) - a1)) 100 ∧ Int.tmod (w32 ((w32 ((zd h2 14 8) - 1)) - a1)) 100 < 100) ∧ True) ∧
Q (if r1 = 0 then (-1005) else zd h2 18 (Int.tmod (w32 ((w32 ((zd h2 14 8) - 1)) - a1)) 100)) h2)
theorem W_C_trace (a1 : Int) (h : zH) (Q : Int → zH → Prop) (hP : P_C_trace a1 h Q) : zC true zy_X0_trace 2 [zR 14, zI a1] h (zQ0 Q) := by
  unfold P_C_trace at hP
  refine zC.of (by decide) (Nat.le_of_ble_eq_true rfl) ?_
  show zV true zy_X0_trace 2 0 [zR 14, zI a1] [] h (zQ0 Q)
  refine zV_iload_n dX0_trace_0 rfl ?_
  refine zV_i2l dX0_trace_1 ?_
  refine zV_lconst (x := 0) dX0_trace_2 rfl ?_
  refine zV_aload_n dX0_trace_3 rfl ?_
  refine zV_gf dX0_trace_4 sa_14 (by decide) fl_X0_155_0 rfl (ki := 8) rfl ?_
  refine zV_bipush dX0_trace_7 ⟨by decide, by decide, by decide⟩ ?_
  refine zV_mmin dX0_trace_9 q777 q778 q171 q779 (Nat.le_of_ble_eq_true rfl) (by decide) ?_
  refine zV_iconst dX0_trace_12 ⟨by decide, by decide⟩ ?_
  refine zV_isub dX0_trace_13 ?_
  refine zV_i2l dX0_trace_14 ?_
  refine zV_cSk (As := [zJ a1, zJ 0, zJ (w32 ((zmin (zd h 14 8) 100) - 1))]) (rest := []) dX0_trace_15 (W_C_isIn _ _ _ _ _ hP) mi_X0_isIn ml_X0_109 (by decide) (Nat.le_of_ble_eq_true rfl) rfl rfl rfl (fun r1 h2 hP => ?_)
  obtain ⟨hO, hP⟩ := hP
  have K : zV true zy_X0_trace 2 43 [zU, zU] [zI (if r1 = 0 then (-1005) else zd h2 18 (Int.tmod (w32 ((w32 ((zd h2 14 8) - 1)) - a1)) 100))] h2 (zQ0 Q) := by
    exact zV_ireturn dX0_trace_43 rfl rfl rfl ⟨rfl, hP⟩
  clear hP
  refine zV_if_eq (tgt := 40) dX0_trace_18 (by decide) (fun c => ?_) (fun c => ?_)
  · try simp only [if_pos c] at K
    have hO := zif_p hO c
    refine zV_sipush dX0_trace_40 ⟨by decide, by decide, by decide⟩ ?_
    refine zV_mask [false, false] rfl ?_
    exact K
  · try simp only [if_neg c] at K
    have hO := zif_n hO c
    refine zV_aload_n dX0_trace_21 rfl ?_
    refine zV_sg dX0_trace_22 fm_14_7 sa_14 (by decide) fl_X0_25_0 rfl ?_
    refine zV_aload_n dX0_trace_25 rfl ?_
    refine zV_gf dX0_trace_26 sa_14 (by decide) fl_X0_155_0 rfl (ki := 8) rfl ?_
    refine zV_iconst dX0_trace_29 ⟨by decide, by decide⟩ ?_
    refine zV_isub dX0_trace_30 ?_
    refine zV_iload_n dX0_trace_31 rfl ?_
    refine zV_isub dX0_trace_32 ?_
    refine zV_bipush dX0_trace_33 ⟨by decide, by decide, by decide⟩ ?_
    refine zV_irem dX0_trace_35 (by decide) ?_
    obtain ⟨ob, hO⟩ := hO
    refine zV_ia dX0_trace_36 sa_18 ob ?_
    refine zV_goto (tgt := 43) dX0_trace_37 (by decide) ?_
    refine zV_mask [false, false] rfl ?_
    exact K
def P_C_out (a1 : Int) (h : zH) (Q : Int → zH → Prop) : Prop :=
P_C_isIn a1 0 (w32 ((zd h 14 10) - 1)) h (fun r1 h2 =>
(if r1 = 0 then True else (0 ≤ a1 ∧ a1 < 14000) ∧ True) ∧
Q (if r1 = 0 then (-1005) else zand (zd h2 19 a1) 255) h2)
theorem W_C_out (a1 : Int) (h : zH) (Q : Int → zH → Prop) (hP : P_C_out a1 h Q) : zC true zy_X0_out 2 [zR 14, zI a1] h (zQ0 Q) := by
  unfold P_C_out at hP
  refine zC.of (by decide) (Nat.le_of_ble_eq_true rfl) ?_
  show zV true zy_X0_out 2 0 [zR 14, zI a1] [] h (zQ0 Q)
  refine zV_iload_n dX0_out_0 rfl ?_
  refine zV_i2l dX0_out_1 ?_
  refine zV_lconst (x := 0) dX0_out_2 rfl ?_
  refine zV_aload_n dX0_out_3 rfl ?_
  refine zV_gf dX0_out_4 sa_14 (by decide) fl_X0_162_0 rfl (ki := 10) rfl ?_
  refine zV_iconst dX0_out_7 ⟨by decide, by decide⟩ ?_
  refine zV_isub dX0_out_8 ?_
  refine zV_i2l dX0_out_9 ?_
  refine zV_cSk (As := [zJ a1, zJ 0, zJ (w32 ((zd h 14 10) - 1))]) (rest := []) dX0_out_10 (W_C_isIn _ _ _ _ _ hP) mi_X0_isIn ml_X0_109 (by decide) (Nat.le_of_ble_eq_true rfl) rfl rfl rfl (fun r1 h2 hP => ?_)
  obtain ⟨hO, hP⟩ := hP
  have K : zV true zy_X0_out 2 32 [zU, zU] [zI (if r1 = 0 then (-1005) else zand (zd h2 19 a1) 255)] h2 (zQ0 Q) := by
    exact zV_ireturn dX0_out_32 rfl rfl rfl ⟨rfl, hP⟩
  clear hP
  refine zV_if_eq (tgt := 29) dX0_out_13 (by decide) (fun c => ?_) (fun c => ?_)
  · try simp only [if_pos c] at K
    have hO := zif_p hO c
    refine zV_sipush dX0_out_29 ⟨by decide, by decide, by decide⟩ ?_
    refine zV_mask [false, false] rfl ?_
    exact K
  · try simp only [if_neg c] at K
    have hO := zif_n hO c
    refine zV_aload_n dX0_out_16 rfl ?_
    refine zV_sg dX0_out_17 fm_14_9 sa_14 (by decide) fl_X0_28_0 rfl ?_
    refine zV_iload_n dX0_out_20 rfl ?_
    obtain ⟨ob, hO⟩ := hO
    refine zV_ba dX0_out_21 sa_19 ob ?_
    refine zV_sipush dX0_out_22 ⟨by decide, by decide, by decide⟩ ?_
    refine zV_iand dX0_out_25 ?_
    refine zV_goto (tgt := 32) dX0_out_26 (by decide) ?_
    refine zV_mask [false, false] rfl ?_
    exact K
def P_C_itemOf (a1 : Int) (h : zH) (Q : Int → zH → Prop) : Prop :=
(0 ≤ w32 ((zabs a1) - 1) ∧ w32 ((zabs a1) - 1) < 300) ∧
∀ x2_1 : Int, x2_1 = (zd h 15 (w32 ((zabs a1) - 1))) →
(if 0 ≤ a1 then (zt h x2_1 = 4) ∧ True else (zt h x2_1 = 4) ∧ True) ∧
Q (if 0 ≤ a1 then zd h x2_1 0 else w32 (-(zd h x2_1 0))) h
theorem W_C_itemOf (a1 : Int) (h : zH) (Q : Int → zH → Prop) (hP : P_C_itemOf a1 h Q) : zC true zy_X0_itemOf 2 [zR 14, zI a1] h (zQ0 Q) := by
  unfold P_C_itemOf at hP
  refine zC.of (by decide) (Nat.le_of_ble_eq_true rfl) ?_
  show zV true zy_X0_itemOf 2 0 [zR 14, zI a1, zU] [] h (zQ0 Q)
  refine zV_aload_n dX0_itemOf_0 rfl ?_
  refine zV_sg dX0_itemOf_1 fm_14_1 sa_14 (by decide) fl_X0_11_0 rfl ?_
  refine zV_iload_n dX0_itemOf_4 rfl ?_
  refine zV_mabs dX0_itemOf_5 q805 q806 q171 q807 (Nat.le_of_ble_eq_true rfl) (by decide) ?_
  refine zV_iconst dX0_itemOf_8 ⟨by decide, by decide⟩ ?_
  refine zV_isub dX0_itemOf_9 ?_
  obtain ⟨ob, hP⟩ := hP
  refine zV_aa dX0_itemOf_10 sa_15 (by decide) ob ?_
  refine zV_top (fun x2_1 e_x2_1 => ?_)
  have hP := hP x2_1 e_x2_1
  refine zV_astore_n (ls' := [zR 14, zI a1, zR x2_1]) dX0_itemOf_11 rfl (Nat.le_of_ble_eq_true rfl) rfl rfl ?_
  refine zV_iload_n dX0_itemOf_12 rfl ?_
  obtain ⟨hO, hP⟩ := hP
  have K : zV true zy_X0_itemOf 2 28 [zU, zU, zU] [zI (if 0 ≤ a1 then zd h x2_1 0 else w32 (-(zd h x2_1 0)))] h (zQ0 Q) := by
    exact zV_ireturn dX0_itemOf_28 rfl rfl rfl ⟨rfl, hP⟩
  clear hP
  refine zV_if_ge (tgt := 24) dX0_itemOf_13 (by decide) (fun c => ?_) (fun c => ?_)
  · try simp only [if_pos c] at K
    have hO := zif_p hO c
    refine zV_aload_n dX0_itemOf_24 rfl ?_
    obtain ⟨ob, hO⟩ := hO
    refine zV_gD dX0_itemOf_25 ob (by decide) fl_X0_119_4 rfl (ki := 0) rfl ?_
    refine zV_mask [false, false, false] rfl ?_
    exact K
  · try simp only [if_neg c] at K
    have hO := zif_n hO c
    refine zV_aload_n dX0_itemOf_16 rfl ?_
    obtain ⟨ob, hO⟩ := hO
    refine zV_gD dX0_itemOf_17 ob (by decide) fl_X0_119_4 rfl (ki := 0) rfl ?_
    refine zV_ineg dX0_itemOf_20 ?_
    refine zV_goto (tgt := 28) dX0_itemOf_21 (by decide) ?_
    refine zV_mask [false, false, false] rfl ?_
    exact K
def P_C_itemsOf_L15 (y2 : Int) (y3 : Int) (Q : Int → zH → Prop) : Nat → Int → zH → Prop
| 0, _, _ => False
| n15 + 1, y4, h =>
(zt h y2 = 50) ∧
if zl h y2 ≤ y4 then
(Q y3 h)
else
((zt h y2 = 50 ∧ 0 ≤ y4 ∧ y4 < zl h y2) ∧
P_C_itemOf (zd h y2 y4) h (fun r4 h5 =>
(zt h5 y3 = 50 ∧ 0 ≤ y4 ∧ y4 < zl h5 y3) ∧
∀ h6 : zH, h6 = zw h5 y3 y4 r4 →
∀ x4_7 : Int, x4_7 = w32 (y4 + 1) →
P_C_itemsOf_L15 y2 y3 Q n15 x4_7 h6))
theorem W_C_itemsOf_L15 (y2 : Int) (y3 : Int) (Q : Int → zH → Prop) : ∀ (n15 : Nat) (y4 : Int) (h : zH), P_C_itemsOf_L15 y2 y3 Q n15 y4 h → zV true zy_X0_itemsOf 3 15 [zR 14, zU, zR y2, zR y3, zI y4] [] h (zQ0 Q) := by
  intro n15
  induction n15 with
  | zero => intro y4 h hP; exact absurd hP id
  | succ n15 ih =>
    intro y4 h hP
    unfold P_C_itemsOf_L15 at hP
    refine zV_iload dX0_itemsOf_15 rfl ?_
    refine zV_aload_n dX0_itemsOf_17 rfl ?_
    obtain ⟨ob, hP⟩ := hP
    refine zV_alD dX0_itemsOf_18 (Or.inl ob) ?_
    refine zV_icmp_ge (tgt := 40) dX0_itemsOf_19 (by decide) (fun c => ?_) (fun c => ?_)
    · have hP := zif_p hP c
      refine zV_aload_n dX0_itemsOf_40 rfl ?_
      exact zV_areturn dX0_itemsOf_41 rfl rfl (Or.inr ⟨_, rfl⟩) ⟨rfl, hP⟩
    · have hP := zif_n hP c
      refine zV_aload_n dX0_itemsOf_22 rfl ?_
      refine zV_iload dX0_itemsOf_23 rfl ?_
      refine zV_aload_n dX0_itemsOf_25 rfl ?_
      refine zV_aload_n dX0_itemsOf_26 rfl ?_
      refine zV_iload dX0_itemsOf_27 rfl ?_
      obtain ⟨ob, hP⟩ := hP
      refine zV_iaD dX0_itemsOf_29 ob ?_
      refine zV_cVk (As := [zI (zd h y2 y4)]) (rest := [zI y4, zR y3]) dX0_itemsOf_30 sa_14 (W_C_itemOf _ _ _ hP) mi_X0_itemOf ml_X0_211 (by decide) (Nat.le_of_ble_eq_true rfl) rfl rfl rfl (fun r4 h5 hP => ?_)
      obtain ⟨ob, hP⟩ := hP
      refine zV_iasD dX0_itemsOf_33 ob (fun h6 e_h6 => ?_)
      have hP := hP h6 e_h6
      refine zV_inc (ls' := fun z => [zR 14, zU, zR y2, zR y3, zI z]) dX0_itemsOf_34 (Nat.le_of_ble_eq_true rfl) rfl rfl (fun _ => rfl) (fun x4_7 e_x4_7 => ?_)
      have hP := hP x4_7 e_x4_7
      refine zV_goto (tgt := 15) dX0_itemsOf_37 (by decide) ?_
      exact ih _ _ hP
def P_C_itemsOf (a1 : Int) (h : zH) (Q : Int → zH → Prop) : Prop :=
(0 ≤ a1 ∧ a1 < 40) ∧
∀ x2_1 : Int, x2_1 = (zd h 16 a1) →
(zt h x2_1 = 50) ∧
(0 ≤ zl h x2_1 ∧ zl h x2_1 ≤ 60000) ∧
∀ h2 : zH, h2 = zal h 50 (zl h x2_1) (zl h x2_1) →
∀ x3_3 : Int, x3_3 = (zn h) →
∃ n15, P_C_itemsOf_L15 x2_1 x3_3 Q n15 0 h2
theorem W_C_itemsOf (a1 : Int) (h : zH) (Q : Int → zH → Prop) (hP : P_C_itemsOf a1 h Q) : zC true zy_X0_itemsOf 3 [zR 14, zI a1] h (zQ0 Q) := by
  unfold P_C_itemsOf at hP
  refine zC.of (by decide) (Nat.le_of_ble_eq_true rfl) ?_
  show zV true zy_X0_itemsOf 3 0 [zR 14, zI a1, zU, zU, zU] [] h (zQ0 Q)
  refine zV_aload_n dX0_itemsOf_0 rfl ?_
  refine zV_sg dX0_itemsOf_1 fm_14_4 sa_14 (by decide) fl_X0_17_0 rfl ?_
  refine zV_iload_n dX0_itemsOf_4 rfl ?_
  obtain ⟨ob, hP⟩ := hP
  refine zV_aa dX0_itemsOf_5 sa_16 (by decide) ob ?_
  refine zV_top (fun x2_1 e_x2_1 => ?_)
  have hP := hP x2_1 e_x2_1
  refine zV_astore_n (ls' := [zR 14, zI a1, zR x2_1, zU, zU]) dX0_itemsOf_6 rfl (Nat.le_of_ble_eq_true rfl) rfl rfl ?_
  refine zV_aload_n dX0_itemsOf_7 rfl ?_
  obtain ⟨ob, hP⟩ := hP
  refine zV_alD dX0_itemsOf_8 (Or.inl ob) ?_
  obtain ⟨ob, hP⟩ := hP
  refine zV_nai dX0_itemsOf_9 ob (fun h2 e_h2 => ?_)
  have hP := hP h2 e_h2
  refine zV_top (fun x3_3 e_x3_3 => ?_)
  have hP := hP x3_3 e_x3_3
  refine zV_astore_n (ls' := [zR 14, zI a1, zR x2_1, zR x3_3, zU]) dX0_itemsOf_11 rfl (Nat.le_of_ble_eq_true rfl) rfl rfl ?_
  refine zV_iconst dX0_itemsOf_12 ⟨by decide, by decide⟩ ?_
  refine zV_istore (ls' := [zR 14, zI a1, zR x2_1, zR x3_3, zI 0]) dX0_itemsOf_13 (Nat.le_of_ble_eq_true rfl) rfl rfl ?_
  obtain ⟨n15, hP⟩ := hP
  refine zV_mask [true, false, true, true, true] (ls' := [zR 14, zU, zR x2_1, zR x3_3, zI 0]) rfl ?_
  refine W_C_itemsOf_L15 _ _ _ n15 _ _ hP
def P_C_made (a1 : Int) (a2 : Int) (a3 : Int) (a4 : Int) (h : zH) (Q : Int → zH → Prop) : Prop :=
P_C_itemsOf a2 h (fun r1 h2 =>
if a1 = 0 then
(∀ h3 : zH, h3 = zal h2 5 0 6 →
(zt h3 (zn h2) = 5 ∨ zt h3 (zn h2) = 6 ∨ zt h3 (zn h2) = 7 ∨ zt h3 (zn h2) = 12) ∧
P_Cl_init (zn h2) 0 r1 h3 (fun r4 h5 =>
Q (zn h2) h5))
else
(if a1 = 1 then
(∀ h6 : zH, h6 = zal h2 6 0 8 →
(zt h6 (zn h2) = 6 ∨ zt h6 (zn h2) = 7) ∧
P_Am_init (zn h2) 1 r1 a3 h6 (fun r7 h8 =>
Q (zn h2) h8))
else
(if a1 = 2 then
(∀ h9 : zH, h9 = zal h2 7 0 9 →
(zt h9 (zn h2) = 7) ∧
P_Gr_init (zn h2) r1 a3 h9 (fun r10 h11 =>
Q (zn h2) h11))
else
(∀ h12 : zH, h12 = zal h2 8 0 7 →
(zt h12 (zn h2) = 8) ∧
P_Pa_init (zn h2) r1 a4 h12 (fun r13 h14 =>
Q (zn h2) h14)))))
theorem W_C_made (a1 : Int) (a2 : Int) (a3 : Int) (a4 : Int) (h : zH) (Q : Int → zH → Prop) (hP : P_C_made a1 a2 a3 a4 h Q) : zC true zy_X0_made 6 [zR 14, zI a1, zI a2, zI a3, zI a4] h (zQ0 Q) := by
  unfold P_C_made at hP
  refine zC.of (by decide) (Nat.le_of_ble_eq_true rfl) ?_
  show zV true zy_X0_made 6 0 [zR 14, zI a1, zI a2, zI a3, zI a4, zU] [] h (zQ0 Q)
  refine zV_aload_n dX0_made_0 rfl ?_
  refine zV_iload_n dX0_made_1 rfl ?_
  refine zV_cVk (As := [zI a2]) (rest := []) dX0_made_2 sa_14 (W_C_itemsOf _ _ _ hP) mi_X0_itemsOf ml_X0_214 (by decide) (Nat.le_of_ble_eq_true rfl) rfl rfl rfl (fun r1 h2 hP => ?_)
  refine zV_astore (ls' := [zR 14, zI a1, zI a2, zI a3, zI a4, zR r1]) dX0_made_5 (Nat.le_of_ble_eq_true rfl) rfl rfl ?_
  refine zV_iload_n dX0_made_7 rfl ?_
  by_cases c : a1 = 0
  · have hP := zif_p hP c
    refine zV_ts (tgt := 36) dX0_made_8 0 c ⟨by decide, by decide⟩ rfl (by decide) ?_
    refine zV_newX (t := 5) (N := 6) dX0_made_36 (by decide) rfl nw_X0_218 (fun h3 e_h3 => ?_)
    have hP := hP h3 e_h3
    refine zV_dup dX0_made_39 (Nat.ne_of_beq_eq_false rfl) ?_
    refine zV_aload_n dX0_made_40 rfl ?_
    refine zV_iconst dX0_made_41 ⟨by decide, by decide⟩ ?_
    refine zV_aload dX0_made_42 rfl ?_
    obtain ⟨ob, hP⟩ := hP
    refine zV_cIM (As := [zR 14, zI 0, zR r1]) (rest := [zR (zn h2)]) [5, 6, 7, 12] (by decide) dX0_made_44 (by rcases ob with o | o | o | o <;> exact ⟨_, by decide, o⟩) (W_Cl_init _ _ _ _ _ hP) mc_X6_init ml_X0_220 (by decide) (Nat.le_of_ble_eq_true rfl) rfl (fun r4 h5 hP => ?_)
    exact zV_areturn dX0_made_47 rfl rfl (Or.inl ⟨_, rfl⟩) ⟨rfl, hP⟩
  · have hP := zif_n hP c
    have n0 := c
    by_cases c : a1 = 1
    · have hP := zif_p hP c
      refine zV_ts (tgt := 48) dX0_made_8 1 c ⟨by decide, by decide⟩ rfl (by decide) ?_
      refine zV_newX (t := 6) (N := 8) dX0_made_48 (by decide) rfl nw_X0_223 (fun h6 e_h6 => ?_)
      have hP := hP h6 e_h6
      refine zV_dup dX0_made_51 (Nat.ne_of_beq_eq_false rfl) ?_
      refine zV_aload_n dX0_made_52 rfl ?_
      refine zV_iconst dX0_made_53 ⟨by decide, by decide⟩ ?_
      refine zV_aload dX0_made_54 rfl ?_
      refine zV_iload_n dX0_made_56 rfl ?_
      obtain ⟨ob, hP⟩ := hP
      refine zV_cIM (As := [zR 14, zI 1, zR r1, zI a3]) (rest := [zR (zn h2)]) [6, 7] (by decide) dX0_made_57 (by rcases ob with o | o <;> exact ⟨_, by decide, o⟩) (W_Am_init _ _ _ _ _ _ hP) mc_X7_init ml_X0_225 (by decide) (Nat.le_of_ble_eq_true rfl) rfl (fun r7 h8 hP => ?_)
      exact zV_areturn dX0_made_60 rfl rfl (Or.inl ⟨_, rfl⟩) ⟨rfl, hP⟩
    · have hP := zif_n hP c
      have n1 := c
      by_cases c : a1 = 2
      · have hP := zif_p hP c
        refine zV_ts (tgt := 61) dX0_made_8 2 c ⟨by decide, by decide⟩ rfl (by decide) ?_
        refine zV_newX (t := 7) (N := 9) dX0_made_61 (by decide) rfl nw_X0_228 (fun h9 e_h9 => ?_)
        have hP := hP h9 e_h9
        refine zV_dup dX0_made_64 (Nat.ne_of_beq_eq_false rfl) ?_
        refine zV_aload_n dX0_made_65 rfl ?_
        refine zV_aload dX0_made_66 rfl ?_
        refine zV_iload_n dX0_made_68 rfl ?_
        obtain ⟨ob, hP⟩ := hP
        refine zV_cID (As := [zR 14, zR r1, zI a3]) (rest := [zR (zn h2)]) dX0_made_69 ob ⟨by decide, by decide⟩ (W_Gr_init _ _ _ _ _ hP) mc_X8_init ml_X0_230 (by decide) (Nat.le_of_ble_eq_true rfl) rfl (fun r10 h11 hP => ?_)
        exact zV_areturn dX0_made_72 rfl rfl (Or.inl ⟨_, rfl⟩) ⟨rfl, hP⟩
      · have hP := zif_n hP c
        have n2 := c
        refine zV_tsd (tgt := 73) dX0_made_8 (by omega) (by decide) ?_
        refine zV_newX (t := 8) (N := 7) dX0_made_73 (by decide) rfl nw_X0_233 (fun h12 e_h12 => ?_)
        have hP := hP h12 e_h12
        refine zV_dup dX0_made_76 (Nat.ne_of_beq_eq_false rfl) ?_
        refine zV_aload_n dX0_made_77 rfl ?_
        refine zV_aload dX0_made_78 rfl ?_
        refine zV_iload dX0_made_80 rfl ?_
        obtain ⟨ob, hP⟩ := hP
        refine zV_cID (As := [zR 14, zR r1, zI a4]) (rest := [zR (zn h2)]) dX0_made_82 ob ⟨by decide, by decide⟩ (W_Pa_init _ _ _ _ _ hP) mc_X9_init ml_X0_235 (by decide) (Nat.le_of_ble_eq_true rfl) rfl (fun r13 h14 hP => ?_)
        exact zV_areturn dX0_made_85 rfl rfl (Or.inl ⟨_, rfl⟩) ⟨rfl, hP⟩
def P_C_beginPlan (h : zH) (Q : Int → zH → Prop) : Prop :=
∀ h1 : zH, h1 = zw h 14 13 0 →
∀ h2 : zH, h2 = zw h1 14 14 0 →
∀ h3 : zH, h3 = zw h2 14 15 (zd h2 14 2) →
Q 0 h3
theorem W_C_beginPlan (h : zH) (Q : Int → zH → Prop) (hP : P_C_beginPlan  h Q) : zC true zy_X0_beginPlan 1 [zR 14] h (zQ0 Q) := by
  unfold P_C_beginPlan at hP
  refine zC.of (by decide) (Nat.le_of_ble_eq_true rfl) ?_
  show zV true zy_X0_beginPlan 1 0 [zR 14] [] h (zQ0 Q)
  refine zV_aload_n dX0_beginPlan_0 rfl ?_
  refine zV_iconst dX0_beginPlan_1 ⟨by decide, by decide⟩ ?_
  refine zV_pf dX0_beginPlan_2 sa_14 (by decide) fl_X0_178_0 rfl rfl trivial (ki := 13) rfl (fun h1 e_h1 => ?_)
  have hP := hP h1 e_h1
  refine zV_aload_n dX0_beginPlan_5 rfl ?_
  refine zV_iconst dX0_beginPlan_6 ⟨by decide, by decide⟩ ?_
  refine zV_pf dX0_beginPlan_7 sa_14 (by decide) fl_X0_181_0 rfl rfl trivial (ki := 14) rfl (fun h2 e_h2 => ?_)
  have hP := hP h2 e_h2
  refine zV_aload_n dX0_beginPlan_10 rfl ?_
  refine zV_aload_n dX0_beginPlan_11 rfl ?_
  refine zV_gf dX0_beginPlan_12 sa_14 (by decide) fl_X0_100_0 rfl (ki := 2) rfl ?_
  refine zV_pf dX0_beginPlan_15 sa_14 (by decide) fl_X0_184_0 rfl rfl trivial (ki := 15) rfl (fun h3 e_h3 => ?_)
  have hP := hP h3 e_h3
  exact zV_return dX0_beginPlan_18 rfl ⟨rfl, hP⟩
def P_C_laid_L103 (y1 : Int) (y2 : Int) (Q : Int → zH → Prop) (k131 : zH → Prop) : Nat → Int → zH → Prop
| 0, _, _ => False
| n103 + 1, y3, h =>
if zd h 14 14 ≤ y3 then
(k131 h)
else
((0 ≤ y3 ∧ y3 < 6000) ∧
(0 ≤ w32 (y2 + y3) ∧ w32 (y2 + y3) < 2500) ∧
∀ h12 : zH, h12 = zw h 22 (w32 (y2 + y3)) (zd h 20 y3) →
∀ x3_13 : Int, x3_13 = w32 (y3 + 1) →
P_C_laid_L103 y1 y2 Q k131 n103 x3_13 h12)
theorem W_C_laid_L103 (y1 : Int) (y2 : Int) (Q : Int → zH → Prop) (k131 : zH → Prop) (H131 : ∀ (h' : zH), k131 h' → zV true zy_X0_laid 4 131 [zR 14, zR y1, zI y2, zU] [] h' (zQ0 Q)) : ∀ (n103 : Nat) (y3 : Int) (h : zH), P_C_laid_L103 y1 y2 Q k131 n103 y3 h → zV true zy_X0_laid 4 103 [zR 14, zR y1, zI y2, zI y3] [] h (zQ0 Q) := by
  intro n103
  induction n103 with
  | zero => intro y3 h hP; exact absurd hP id
  | succ n103 ih =>
    intro y3 h hP
    unfold P_C_laid_L103 at hP
    refine zV_iload_n dX0_laid_103 rfl ?_
    refine zV_aload_n dX0_laid_104 rfl ?_
    refine zV_gf dX0_laid_105 sa_14 (by decide) fl_X0_181_0 rfl (ki := 14) rfl ?_
    refine zV_icmp_ge (tgt := 131) dX0_laid_108 (by decide) (fun c => ?_) (fun c => ?_)
    · have hP := zif_p hP c
      refine zV_mask [true, true, true, false] (ls' := [zR 14, zR y1, zI y2, zU]) rfl ?_
      exact H131 _ hP
    · have hP := zif_n hP c
      refine zV_aload_n dX0_laid_111 rfl ?_
      refine zV_sg dX0_laid_112 fm_14_16 sa_14 (by decide) fl_X0_37_0 rfl ?_
      refine zV_iload_n dX0_laid_115 rfl ?_
      refine zV_iload_n dX0_laid_116 rfl ?_
      refine zV_iadd dX0_laid_117 ?_
      refine zV_aload_n dX0_laid_118 rfl ?_
      refine zV_sg dX0_laid_119 fm_14_11 sa_14 (by decide) fl_X0_31_0 rfl ?_
      refine zV_iload_n dX0_laid_122 rfl ?_
      obtain ⟨ob, hP⟩ := hP
      refine zV_ia dX0_laid_123 sa_20 ob ?_
      obtain ⟨ob, hP⟩ := hP
      refine zV_ias dX0_laid_124 sa_22 ob (fun h12 e_h12 => ?_)
      have hP := hP h12 e_h12
      refine zV_inc (ls' := fun z => [zR 14, zR y1, zI y2, zI z]) dX0_laid_125 (Nat.le_of_ble_eq_true rfl) rfl rfl (fun _ => rfl) (fun x3_13 e_x3_13 => ?_)
      have hP := hP x3_13 e_x3_13
      refine zV_goto (tgt := 103) dX0_laid_128 (by decide) ?_
      exact ih _ _ hP
def P_C_laid_L133 (y1 : Int) (y2 : Int) (Q : Int → zH → Prop) (k174 : zH → Prop) : Nat → Int → zH → Prop
| 0, _, _ => False
| n133 + 1, y3, h =>
if zd h 14 13 ≤ y3 then
(k174 h)
else
(∀ h15 : zH, h15 = zw h 14 18 (w32 ((zd h 14 18) + 1)) →
(0 ≤ y3 ∧ y3 < 700) ∧
(0 ≤ zd h15 14 18 ∧ zd h15 14 18 < 501) ∧
∀ h16 : zH, h16 = zw h15 23 (zd h15 14 18) (w32 (y2 + (zd h15 21 y3))) →
∀ x3_17 : Int, x3_17 = w32 (y3 + 1) →
P_C_laid_L133 y1 y2 Q k174 n133 x3_17 h16)
theorem W_C_laid_L133 (y1 : Int) (y2 : Int) (Q : Int → zH → Prop) (k174 : zH → Prop) (H174 : ∀ (h' : zH), k174 h' → zV true zy_X0_laid 4 174 [zR 14, zR y1, zU, zU] [] h' (zQ0 Q)) : ∀ (n133 : Nat) (y3 : Int) (h : zH), P_C_laid_L133 y1 y2 Q k174 n133 y3 h → zV true zy_X0_laid 4 133 [zR 14, zR y1, zI y2, zI y3] [] h (zQ0 Q) := by
  intro n133
  induction n133 with
  | zero => intro y3 h hP; exact absurd hP id
  | succ n133 ih =>
    intro y3 h hP
    unfold P_C_laid_L133 at hP
    refine zV_iload_n dX0_laid_133 rfl ?_
    refine zV_aload_n dX0_laid_134 rfl ?_
    refine zV_gf dX0_laid_135 sa_14 (by decide) fl_X0_178_0 rfl (ki := 13) rfl ?_
    refine zV_icmp_ge (tgt := 174) dX0_laid_138 (by decide) (fun c => ?_) (fun c => ?_)
    · have hP := zif_p hP c
      refine zV_mask [true, true, false, false] (ls' := [zR 14, zR y1, zU, zU]) rfl ?_
      exact H174 _ hP
    · have hP := zif_n hP c
      refine zV_aload_n dX0_laid_141 rfl ?_
      refine zV_dup dX0_laid_142 (Nat.ne_of_beq_eq_false rfl) ?_
      refine zV_gf dX0_laid_143 sa_14 (by decide) fl_X0_202_0 rfl (ki := 18) rfl ?_
      refine zV_iconst dX0_laid_146 ⟨by decide, by decide⟩ ?_
      refine zV_iadd dX0_laid_147 ?_
      refine zV_pf dX0_laid_148 sa_14 (by decide) fl_X0_202_0 rfl rfl trivial (ki := 18) rfl (fun h15 e_h15 => ?_)
      have hP := hP h15 e_h15
      refine zV_aload_n dX0_laid_151 rfl ?_
      refine zV_sg dX0_laid_152 fm_14_17 sa_14 (by decide) fl_X0_40_0 rfl ?_
      refine zV_aload_n dX0_laid_155 rfl ?_
      refine zV_gf dX0_laid_156 sa_14 (by decide) fl_X0_202_0 rfl (ki := 18) rfl ?_
      refine zV_iload_n dX0_laid_159 rfl ?_
      refine zV_aload_n dX0_laid_160 rfl ?_
      refine zV_sg dX0_laid_161 fm_14_12 sa_14 (by decide) fl_X0_34_0 rfl ?_
      refine zV_iload_n dX0_laid_164 rfl ?_
      obtain ⟨ob, hP⟩ := hP
      refine zV_ia dX0_laid_165 sa_21 ob ?_
      refine zV_iadd dX0_laid_166 ?_
      obtain ⟨ob, hP⟩ := hP
      refine zV_ias dX0_laid_167 sa_23 ob (fun h16 e_h16 => ?_)
      have hP := hP h16 e_h16
      refine zV_inc (ls' := fun z => [zR 14, zR y1, zI y2, zI z]) dX0_laid_168 (Nat.le_of_ble_eq_true rfl) rfl rfl (fun _ => rfl) (fun x3_17 e_x3_17 => ?_)
      have hP := hP x3_17 e_x3_17
      refine zV_goto (tgt := 133) dX0_laid_171 (by decide) ?_
      exact ih _ _ hP
def P_C_laid (a1 : Int) (h : zH) (Q : Int → zH → Prop) : Prop :=
if zd h 14 20 = 60 then
(P_C_refused (-1003) h (fun r1 h2 =>
Q r1 h2))
else
(if 300 < zd h 14 15 then
(P_C_refused (-1003) h (fun r3 h4 =>
Q r3 h4))
else
(if 500 < w32 ((zd h 14 18) + (zd h 14 13)) then
(P_C_refused (-1003) h (fun r5 h6 =>
Q r5 h6))
else
((0 ≤ zd h 14 18 ∧ zd h 14 18 < 501) ∧
if w32 ((zd h 23 (zd h 14 18)) + (zd h 14 14)) ≤ 2500 then
((zt h a1 = 5 ∨ zt h a1 = 6 ∨ zt h a1 = 7 ∨ zt h a1 = 8 ∨ zt h a1 = 12) ∧
∀ h7 : zH, h7 = zw h a1 2 (zd h 14 18) →
(zt h7 a1 = 5 ∨ zt h7 a1 = 6 ∨ zt h7 a1 = 7 ∨ zt h7 a1 = 8 ∨ zt h7 a1 = 12) ∧
∀ h8 : zH, h8 = zw h7 a1 3 (zd h7 14 13) →
P_C_moreNames (w32 ((zd h8 14 15) - (zd h8 14 2))) h8 (fun r9 h10 =>
(0 ≤ zd h10 14 18 ∧ zd h10 14 18 < 501) ∧
∀ x2_11 : Int, x2_11 = (zd h10 23 (zd h10 14 18)) →
∃ n103, P_C_laid_L103 a1 x2_11 Q (fun h14 =>
∃ n133, P_C_laid_L133 a1 x2_11 Q (fun h18 =>
(0 ≤ zd h18 14 20 ∧ zd h18 14 20 < 60) ∧
(zt h18 a1 = 5 ∨ zt h18 a1 = 6 ∨ zt h18 a1 = 7 ∨ zt h18 a1 = 8 ∨ zt h18 a1 = 12) ∧
∀ h19 : zH, h19 = zw h18 24 (zd h18 14 20) a1 →
∀ h20 : zH, h20 = zw h19 14 20 (w32 ((zd h19 14 20) + 1)) →
Q (w32 ((zd h20 14 20) - 1)) h20) n133 0 h14) n103 0 h10))
else
(P_C_refused (-1003) h (fun r21 h22 =>
Q r21 h22)))))
theorem W_C_laid (a1 : Int) (h : zH) (Q : Int → zH → Prop) (hP : P_C_laid a1 h Q) : zC true zy_X0_laid 4 [zR 14, zR a1] h (zQ0 Q) := by
  unfold P_C_laid at hP
  refine zC.of (by decide) (Nat.le_of_ble_eq_true rfl) ?_
  show zV true zy_X0_laid 4 0 [zR 14, zR a1, zU, zU] [] h (zQ0 Q)
  refine zV_aload_n dX0_laid_0 rfl ?_
  refine zV_gf dX0_laid_1 sa_14 (by decide) fl_X0_199_0 rfl (ki := 20) rfl ?_
  refine zV_bipush dX0_laid_4 ⟨by decide, by decide, by decide⟩ ?_
  refine zV_icmp_eq (tgt := 54) dX0_laid_6 (by decide) (fun c => ?_) (fun c => ?_)
  · have hP := zif_p hP c
    refine zV_aload_n dX0_laid_54 rfl ?_
    refine zV_sipush dX0_laid_55 ⟨by decide, by decide, by decide⟩ ?_
    refine zV_cVk (As := [zI (-1003)]) (rest := []) dX0_laid_58 sa_14 (W_C_refused _ _ _ hP) mi_X0_refused ml_X0_124 (by decide) (Nat.le_of_ble_eq_true rfl) rfl rfl rfl (fun r1 h2 hP => ?_)
    exact zV_ireturn dX0_laid_61 rfl rfl rfl ⟨rfl, hP⟩
  · have hP := zif_n hP c
    refine zV_aload_n dX0_laid_9 rfl ?_
    refine zV_gf dX0_laid_10 sa_14 (by decide) fl_X0_184_0 rfl (ki := 15) rfl ?_
    refine zV_sipush dX0_laid_13 ⟨by decide, by decide, by decide⟩ ?_
    refine zV_icmp_gt (tgt := 54) dX0_laid_16 (by decide) (fun c => ?_) (fun c => ?_)
    · have hP := zif_p hP c
      refine zV_aload_n dX0_laid_54 rfl ?_
      refine zV_sipush dX0_laid_55 ⟨by decide, by decide, by decide⟩ ?_
      refine zV_cVk (As := [zI (-1003)]) (rest := []) dX0_laid_58 sa_14 (W_C_refused _ _ _ hP) mi_X0_refused ml_X0_124 (by decide) (Nat.le_of_ble_eq_true rfl) rfl rfl rfl (fun r3 h4 hP => ?_)
      exact zV_ireturn dX0_laid_61 rfl rfl rfl ⟨rfl, hP⟩
    · have hP := zif_n hP c
      refine zV_aload_n dX0_laid_19 rfl ?_
      refine zV_gf dX0_laid_20 sa_14 (by decide) fl_X0_202_0 rfl (ki := 18) rfl ?_
      refine zV_aload_n dX0_laid_23 rfl ?_
      refine zV_gf dX0_laid_24 sa_14 (by decide) fl_X0_178_0 rfl (ki := 13) rfl ?_
      refine zV_iadd dX0_laid_27 ?_
      refine zV_sipush dX0_laid_28 ⟨by decide, by decide, by decide⟩ ?_
      refine zV_icmp_gt (tgt := 54) dX0_laid_31 (by decide) (fun c => ?_) (fun c => ?_)
      · have hP := zif_p hP c
        refine zV_aload_n dX0_laid_54 rfl ?_
        refine zV_sipush dX0_laid_55 ⟨by decide, by decide, by decide⟩ ?_
        refine zV_cVk (As := [zI (-1003)]) (rest := []) dX0_laid_58 sa_14 (W_C_refused _ _ _ hP) mi_X0_refused ml_X0_124 (by decide) (Nat.le_of_ble_eq_true rfl) rfl rfl rfl (fun r5 h6 hP => ?_)
        exact zV_ireturn dX0_laid_61 rfl rfl rfl ⟨rfl, hP⟩
      · have hP := zif_n hP c
        refine zV_aload_n dX0_laid_34 rfl ?_
        refine zV_sg dX0_laid_35 fm_14_17 sa_14 (by decide) fl_X0_40_0 rfl ?_
        refine zV_aload_n dX0_laid_38 rfl ?_
        refine zV_gf dX0_laid_39 sa_14 (by decide) fl_X0_202_0 rfl (ki := 18) rfl ?_
        obtain ⟨ob, hP⟩ := hP
        refine zV_ia dX0_laid_42 sa_23 ob ?_
        refine zV_aload_n dX0_laid_43 rfl ?_
        refine zV_gf dX0_laid_44 sa_14 (by decide) fl_X0_181_0 rfl (ki := 14) rfl ?_
        refine zV_iadd dX0_laid_47 ?_
        refine zV_sipush dX0_laid_48 ⟨by decide, by decide, by decide⟩ ?_
        refine zV_icmp_le (tgt := 62) dX0_laid_51 (by decide) (fun c => ?_) (fun c => ?_)
        · have hP := zif_p hP c
          refine zV_aload_n dX0_laid_62 rfl ?_
          refine zV_aload_n dX0_laid_63 rfl ?_
          refine zV_gf dX0_laid_64 sa_14 (by decide) fl_X0_202_0 rfl (ki := 18) rfl ?_
          obtain ⟨ob, hP⟩ := hP
          refine zV_pM (κ := 0) [5, 6, 7, 8, 12] dX0_laid_67 (by rcases ob with o | o | o | o | o <;> exact ⟨_, by decide, o⟩) ?_ (ki := 2) rfl (fun h7 e_h7 => ?_)
          · intro t ht
            simp only [List.mem_cons, List.not_mem_nil, or_false] at ht
            rcases ht with rfl | rfl | rfl | rfl | rfl
            · exact ⟨by decide, by decide, fl_X0_205_5, rfl, Or.inl rfl, trivial⟩
            · exact ⟨by decide, by decide, fl_X0_205_6, rfl, Or.inl rfl, trivial⟩
            · exact ⟨by decide, by decide, fl_X0_205_7, rfl, Or.inl rfl, trivial⟩
            · exact ⟨by decide, by decide, fl_X0_205_8, rfl, Or.inl rfl, trivial⟩
            · exact ⟨by decide, by decide, fl_X0_205_12, rfl, Or.inl rfl, trivial⟩
          have hP := hP h7 e_h7
          refine zV_aload_n dX0_laid_70 rfl ?_
          refine zV_aload_n dX0_laid_71 rfl ?_
          refine zV_gf dX0_laid_72 sa_14 (by decide) fl_X0_178_0 rfl (ki := 13) rfl ?_
          obtain ⟨ob, hP⟩ := hP
          refine zV_pM (κ := 0) [5, 6, 7, 8, 12] dX0_laid_75 (by rcases ob with o | o | o | o | o <;> exact ⟨_, by decide, o⟩) ?_ (ki := 3) rfl (fun h8 e_h8 => ?_)
          · intro t ht
            simp only [List.mem_cons, List.not_mem_nil, or_false] at ht
            rcases ht with rfl | rfl | rfl | rfl | rfl
            · exact ⟨by decide, by decide, fl_X0_208_5, rfl, Or.inl rfl, trivial⟩
            · exact ⟨by decide, by decide, fl_X0_208_6, rfl, Or.inl rfl, trivial⟩
            · exact ⟨by decide, by decide, fl_X0_208_7, rfl, Or.inl rfl, trivial⟩
            · exact ⟨by decide, by decide, fl_X0_208_8, rfl, Or.inl rfl, trivial⟩
            · exact ⟨by decide, by decide, fl_X0_208_12, rfl, Or.inl rfl, trivial⟩
          have hP := hP h8 e_h8
          refine zV_aload_n dX0_laid_78 rfl ?_
          refine zV_aload_n dX0_laid_79 rfl ?_
          refine zV_gf dX0_laid_80 sa_14 (by decide) fl_X0_184_0 rfl (ki := 15) rfl ?_
          refine zV_aload_n dX0_laid_83 rfl ?_
          refine zV_gf dX0_laid_84 sa_14 (by decide) fl_X0_100_0 rfl (ki := 2) rfl ?_
          refine zV_isub dX0_laid_87 ?_
          refine zV_cVv (As := [zI (w32 ((zd h8 14 15) - (zd h8 14 2)))]) (rest := []) dX0_laid_88 sa_14 (W_C_moreNames _ _ _ hP) mi_X0_moreNames ml_X0_127 (by decide) (Nat.le_of_ble_eq_true rfl) rfl rfl (fun r9 h10 hP => ?_)
          refine zV_aload_n dX0_laid_91 rfl ?_
          refine zV_sg dX0_laid_92 fm_14_17 sa_14 (by decide) fl_X0_40_0 rfl ?_
          refine zV_aload_n dX0_laid_95 rfl ?_
          refine zV_gf dX0_laid_96 sa_14 (by decide) fl_X0_202_0 rfl (ki := 18) rfl ?_
          obtain ⟨ob, hP⟩ := hP
          refine zV_ia dX0_laid_99 sa_23 ob ?_
          refine zV_top (fun x2_11 e_x2_11 => ?_)
          have hP := hP x2_11 e_x2_11
          refine zV_istore_n (ls' := [zR 14, zR a1, zI x2_11, zU]) dX0_laid_100 rfl (Nat.le_of_ble_eq_true rfl) rfl rfl ?_
          refine zV_iconst dX0_laid_101 ⟨by decide, by decide⟩ ?_
          refine zV_istore_n (ls' := [zR 14, zR a1, zI x2_11, zI 0]) dX0_laid_102 rfl (Nat.le_of_ble_eq_true rfl) rfl rfl ?_
          obtain ⟨n103, hP⟩ := hP
          refine W_C_laid_L103 _ _ _ _ (fun h14 hP => ?_) n103 _ _ hP
          refine zV_iconst dX0_laid_131 ⟨by decide, by decide⟩ ?_
          refine zV_istore_n (ls' := [zR 14, zR a1, zI x2_11, zI 0]) dX0_laid_132 rfl (Nat.le_of_ble_eq_true rfl) rfl rfl ?_
          obtain ⟨n133, hP⟩ := hP
          refine W_C_laid_L133 _ _ _ _ (fun h18 hP => ?_) n133 _ _ hP
          refine zV_aload_n dX0_laid_174 rfl ?_
          refine zV_sg dX0_laid_175 fm_14_19 sa_14 (by decide) fl_X0_45_0 rfl ?_
          refine zV_aload_n dX0_laid_178 rfl ?_
          refine zV_gf dX0_laid_179 sa_14 (by decide) fl_X0_199_0 rfl (ki := 20) rfl ?_
          refine zV_aload_n dX0_laid_182 rfl ?_
          obtain ⟨ob, obf, hP⟩ := hP
          refine zV_aas dX0_laid_183 sa_24 ob (Or.inr (Or.inr (Or.inr ⟨rfl, obf⟩))) (fun h19 e_h19 => ?_)
          have hP := hP h19 e_h19
          refine zV_aload_n dX0_laid_184 rfl ?_
          refine zV_dup dX0_laid_185 (Nat.ne_of_beq_eq_false rfl) ?_
          refine zV_gf dX0_laid_186 sa_14 (by decide) fl_X0_199_0 rfl (ki := 20) rfl ?_
          refine zV_iconst dX0_laid_189 ⟨by decide, by decide⟩ ?_
          refine zV_iadd dX0_laid_190 ?_
          refine zV_pf dX0_laid_191 sa_14 (by decide) fl_X0_199_0 rfl rfl trivial (ki := 20) rfl (fun h20 e_h20 => ?_)
          have hP := hP h20 e_h20
          refine zV_aload_n dX0_laid_194 rfl ?_
          refine zV_gf dX0_laid_195 sa_14 (by decide) fl_X0_199_0 rfl (ki := 20) rfl ?_
          refine zV_iconst dX0_laid_198 ⟨by decide, by decide⟩ ?_
          refine zV_isub dX0_laid_199 ?_
          exact zV_ireturn dX0_laid_200 rfl rfl rfl ⟨rfl, hP⟩
        · have hP := zif_n hP c
          refine zV_aload_n dX0_laid_54 rfl ?_
          refine zV_sipush dX0_laid_55 ⟨by decide, by decide, by decide⟩ ?_
          refine zV_cVk (As := [zI (-1003)]) (rest := []) dX0_laid_58 sa_14 (W_C_refused _ _ _ hP) mi_X0_refused ml_X0_124 (by decide) (Nat.le_of_ble_eq_true rfl) rfl rfl rfl (fun r21 h22 hP => ?_)
          exact zV_ireturn dX0_laid_61 rfl rfl rfl ⟨rfl, hP⟩
def P_Rd_init (a0 : Int) (a1 : Int) (h : zH) (Q : Int → zH → Prop) : Prop :=
(zt h a0 = 9) ∧
∀ h1 : zH, h1 = zal h 50 60 60 →
(zt h1 a0 = 9) ∧
∀ h2 : zH, h2 = zw h1 a0 4 (zn h) →
(zt h2 a0 = 9) ∧
∀ h3 : zH, h3 = zw h2 a0 0 a1 →
Q 0 h3
theorem W_Rd_init (a0 : Int) (a1 : Int) (h : zH) (Q : Int → zH → Prop) (hP : P_Rd_init a0 a1 h Q) : zC true zy_X10_init 2 [zR a0, zR a1] h (zQ0 Q) := by
  unfold P_Rd_init at hP
  refine zC.of (by decide) (Nat.le_of_ble_eq_true rfl) ?_
  show zV true zy_X10_init 2 0 [zR a0, zR a1] [] h (zQ0 Q)
  refine zV_aload_n dX10_init_0 rfl ?_
  obtain ⟨ob, hP⟩ := hP
  refine zV_oiD dX10_init_1 ob ⟨by decide, by decide⟩ q1034 q193 q194 (by decide) (Nat.le_of_ble_eq_true rfl) ?_
  refine zV_aload_n dX10_init_4 rfl ?_
  refine zV_bipush dX10_init_5 ⟨by decide, by decide, by decide⟩ ?_
  refine zV_nai dX10_init_7 (by decide) (fun h1 e_h1 => ?_)
  have hP := hP h1 e_h1
  obtain ⟨obt, hP⟩ := hP
  refine zV_pD dX10_init_9 obt (by decide) fl_X10_9_9 (Or.inr (by decide)) (Or.inr ⟨rfl, rfl, rfl⟩) rfl trivial (ki := 4) rfl (fun h2 e_h2 => ?_)
  have hP := hP h2 e_h2
  refine zV_aload_n dX10_init_12 rfl ?_
  refine zV_aload_n dX10_init_13 rfl ?_
  obtain ⟨obt, hP⟩ := hP
  refine zV_pD dX10_init_14 obt (by decide) fl_X10_15_9 (Or.inr (by decide)) (Or.inr ⟨rfl, rfl, rfl⟩) rfl trivial (ki := 0) rfl (fun h3 e_h3 => ?_)
  have hP := hP h3 e_h3
  exact zV_return dX10_init_17 rfl ⟨rfl, hP⟩
def P_Rd_here (a0 : Int) (h : zH) (Q : Int → zH → Prop) : Prop :=
(zt h a0 = 9) ∧
(zt h a0 = 9) ∧
(zt h (zd h a0 0) = 51) ∧
(if zl h (zd h a0 0) ≤ zd h a0 1 then True else (zt h a0 = 9) ∧ (zt h a0 = 9) ∧ (zt h (zd h a0 0) = 51 ∧ 0 ≤ zd h a0 1 ∧ zd h a0 1 < zl h (zd h a0 0)) ∧ True) ∧
Q (if zl h (zd h a0 0) ≤ zd h a0 1 then 0 else zd h (zd h a0 0) (zd h a0 1)) h
theorem W_Rd_here (a0 : Int) (h : zH) (Q : Int → zH → Prop) (hP : P_Rd_here a0 h Q) : zC true zy_X10_here 1 [zR a0] h (zQ0 Q) := by
  unfold P_Rd_here at hP
  refine zC.of (by decide) (Nat.le_of_ble_eq_true rfl) ?_
  show zV true zy_X10_here 1 0 [zR a0] [] h (zQ0 Q)
  refine zV_aload_n dX10_here_0 rfl ?_
  obtain ⟨ob, hP⟩ := hP
  refine zV_gD dX10_here_1 ob (by decide) fl_X10_19_9 rfl (ki := 1) rfl ?_
  refine zV_aload_n dX10_here_4 rfl ?_
  obtain ⟨ob, hP⟩ := hP
  refine zV_gD dX10_here_5 ob (by decide) fl_X10_15_9 rfl (ki := 0) rfl ?_
  obtain ⟨ob, hP⟩ := hP
  refine zV_alD dX10_here_8 (Or.inr (Or.inl ob)) ?_
  obtain ⟨hO, hP⟩ := hP
  have K : zV true zy_X10_here 1 25 [zU] [zI (if zl h (zd h a0 0) ≤ zd h a0 1 then 0 else zd h (zd h a0 0) (zd h a0 1))] h (zQ0 Q) := by
    exact zV_ireturn dX10_here_25 rfl rfl rfl ⟨rfl, hP⟩
  clear hP
  refine zV_icmp_ge (tgt := 24) dX10_here_9 (by decide) (fun c => ?_) (fun c => ?_)
  · try simp only [if_pos c] at K
    have hO := zif_p hO c
    refine zV_iconst dX10_here_24 ⟨by decide, by decide⟩ ?_
    refine zV_mask [false] rfl ?_
    exact K
  · try simp only [if_neg c] at K
    have hO := zif_n hO c
    refine zV_aload_n dX10_here_12 rfl ?_
    obtain ⟨ob, hO⟩ := hO
    refine zV_gD dX10_here_13 ob (by decide) fl_X10_15_9 rfl (ki := 0) rfl ?_
    refine zV_aload_n dX10_here_16 rfl ?_
    obtain ⟨ob, hO⟩ := hO
    refine zV_gD dX10_here_17 ob (by decide) fl_X10_19_9 rfl (ki := 1) rfl ?_
    obtain ⟨ob, hO⟩ := hO
    refine zV_zaD dX10_here_20 ⟨Or.inl ob.1, ob.2⟩ ?_
    refine zV_goto (tgt := 25) dX10_here_21 (by decide) ?_
    refine zV_mask [false] rfl ?_
    exact K
def P_Rd_isDigit (a0 : Int) (h : zH) (Q : Int → zH → Prop) : Prop :=
(zt h a0 = 9) ∧
(zt h a0 = 9) ∧
(zt h (zd h a0 0) = 51) ∧
(if zl h (zd h a0 0) ≤ zd h a0 1 then True else (zt h a0 = 9) ∧ (zt h a0 = 9) ∧ (zt h (zd h a0 0) = 51 ∧ 0 ≤ zd h a0 1 ∧ zd h a0 1 < zl h (zd h a0 0)) ∧ (if zd h (zd h a0 0) (zd h a0 1) < 48 then True else (zt h a0 = 9) ∧ (zt h a0 = 9) ∧ (zt h (zd h a0 0) = 51 ∧ 0 ≤ zd h a0 1 ∧ zd h a0 1 < zl h (zd h a0 0)) ∧ True)) ∧
Q (if zl h (zd h a0 0) ≤ zd h a0 1 then 0 else if zd h (zd h a0 0) (zd h a0 1) < 48 then 0 else if 57 < zd h (zd h a0 0) (zd h a0 1) then 0 else 1) h
theorem W_Rd_isDigit (a0 : Int) (h : zH) (Q : Int → zH → Prop) (hP : P_Rd_isDigit a0 h Q) : zC true zy_X10_isDigit 1 [zR a0] h (zQ0 Q) := by
  unfold P_Rd_isDigit at hP
  refine zC.of (by decide) (Nat.le_of_ble_eq_true rfl) ?_
  show zV true zy_X10_isDigit 1 0 [zR a0] [] h (zQ0 Q)
  refine zV_aload_n dX10_isDigit_0 rfl ?_
  obtain ⟨ob, hP⟩ := hP
  refine zV_gD dX10_isDigit_1 ob (by decide) fl_X10_19_9 rfl (ki := 1) rfl ?_
  refine zV_aload_n dX10_isDigit_4 rfl ?_
  obtain ⟨ob, hP⟩ := hP
  refine zV_gD dX10_isDigit_5 ob (by decide) fl_X10_15_9 rfl (ki := 0) rfl ?_
  obtain ⟨ob, hP⟩ := hP
  refine zV_alD dX10_isDigit_8 (Or.inr (Or.inl ob)) ?_
  obtain ⟨hO, hP⟩ := hP
  have K : zV true zy_X10_isDigit 1 45 [zU] [zI (if zl h (zd h a0 0) ≤ zd h a0 1 then 0 else if zd h (zd h a0 0) (zd h a0 1) < 48 then 0 else if 57 < zd h (zd h a0 0) (zd h a0 1) then 0 else 1)] h (zQ0 Q) := by
    exact zV_ireturn dX10_isDigit_45 rfl rfl (z01 (z01_if z0 (z01_if z0 (z01_if z0 z1)))) ⟨rfl, hP⟩
  clear hP
  refine zV_icmp_ge (tgt := 44) dX10_isDigit_9 (by decide) (fun c => ?_) (fun c => ?_)
  · try simp only [if_pos c] at K
    have hO := zif_p hO c
    refine zV_iconst dX10_isDigit_44 ⟨by decide, by decide⟩ ?_
    refine zV_mask [false] rfl ?_
    exact K
  · try simp only [if_neg c] at K
    have hO := zif_n hO c
    refine zV_aload_n dX10_isDigit_12 rfl ?_
    obtain ⟨ob, hO⟩ := hO
    refine zV_gD dX10_isDigit_13 ob (by decide) fl_X10_15_9 rfl (ki := 0) rfl ?_
    refine zV_aload_n dX10_isDigit_16 rfl ?_
    obtain ⟨ob, hO⟩ := hO
    refine zV_gD dX10_isDigit_17 ob (by decide) fl_X10_19_9 rfl (ki := 1) rfl ?_
    obtain ⟨ob, hO⟩ := hO
    refine zV_zaD dX10_isDigit_20 ⟨Or.inl ob.1, ob.2⟩ ?_
    refine zV_bipush dX10_isDigit_21 ⟨by decide, by decide, by decide⟩ ?_
    refine zV_icmp_lt (tgt := 44) dX10_isDigit_23 (by decide) (fun c => ?_) (fun c => ?_)
    · try simp only [if_pos c] at K
      have hO := zif_p hO c
      refine zV_iconst dX10_isDigit_44 ⟨by decide, by decide⟩ ?_
      refine zV_mask [false] rfl ?_
      exact K
    · try simp only [if_neg c] at K
      have hO := zif_n hO c
      refine zV_aload_n dX10_isDigit_26 rfl ?_
      obtain ⟨ob, hO⟩ := hO
      refine zV_gD dX10_isDigit_27 ob (by decide) fl_X10_15_9 rfl (ki := 0) rfl ?_
      refine zV_aload_n dX10_isDigit_30 rfl ?_
      obtain ⟨ob, hO⟩ := hO
      refine zV_gD dX10_isDigit_31 ob (by decide) fl_X10_19_9 rfl (ki := 1) rfl ?_
      obtain ⟨ob, hO⟩ := hO
      refine zV_zaD dX10_isDigit_34 ⟨Or.inl ob.1, ob.2⟩ ?_
      refine zV_bipush dX10_isDigit_35 ⟨by decide, by decide, by decide⟩ ?_
      refine zV_icmp_gt (tgt := 44) dX10_isDigit_37 (by decide) (fun c => ?_) (fun c => ?_)
      · try simp only [if_pos c] at K
        refine zV_iconst dX10_isDigit_44 ⟨by decide, by decide⟩ ?_
        refine zV_mask [false] rfl ?_
        exact K
      · try simp only [if_neg c] at K
        refine zV_iconst dX10_isDigit_40 ⟨by decide, by decide⟩ ?_
        refine zV_goto (tgt := 45) dX10_isDigit_41 (by decide) ?_
        refine zV_mask [false] rfl ?_
        exact K
def P_C_isRule (a1 : Int) (h : zH) (Q : Int → zH → Prop) : Prop :=
P_C_isIn a1 0 (w32 ((zd h 14 20) - 1)) h (fun r1 h2 =>
(r1 = 0 ∨ r1 = 1) ∧ Q r1 h2)
theorem W_C_isRule (a1 : Int) (h : zH) (Q : Int → zH → Prop) (hP : P_C_isRule a1 h Q) : zC true zy_X0_isRule 2 [zR 14, zI a1] h (zQ0 Q) := by
  unfold P_C_isRule at hP
  refine zC.of (by decide) (Nat.le_of_ble_eq_true rfl) ?_
  show zV true zy_X0_isRule 2 0 [zR 14, zI a1] [] h (zQ0 Q)
  refine zV_iload_n dX0_isRule_0 rfl ?_
  refine zV_i2l dX0_isRule_1 ?_
  refine zV_lconst (x := 0) dX0_isRule_2 rfl ?_
  refine zV_aload_n dX0_isRule_3 rfl ?_
  refine zV_gf dX0_isRule_4 sa_14 (by decide) fl_X0_199_0 rfl (ki := 20) rfl ?_
  refine zV_iconst dX0_isRule_7 ⟨by decide, by decide⟩ ?_
  refine zV_isub dX0_isRule_8 ?_
  refine zV_i2l dX0_isRule_9 ?_
  refine zV_cSk (As := [zJ a1, zJ 0, zJ (w32 ((zd h 14 20) - 1))]) (rest := []) dX0_isRule_10 (W_C_isIn _ _ _ _ _ hP) mi_X0_isIn ml_X0_109 (by decide) (Nat.le_of_ble_eq_true rfl) rfl rfl rfl (fun r1 h2 hP => ?_)
  exact zV_ireturn dX0_isRule_13 rfl rfl (z01 hP.1) ⟨rfl, hP.2⟩
def P_C_kind (a1 : Int) (h : zH) (Q : Int → zH → Prop) : Prop :=
P_C_isRule a1 h (fun r1 h2 =>
if r1 = 0 then
(P_C_refused (-1001) h2 (fun r3 h4 =>
Q r3 h4))
else
((0 ≤ a1 ∧ a1 < 60) ∧
(zt h2 (zd h2 24 a1) = 5 ∨ zt h2 (zd h2 24 a1) = 6 ∨ zt h2 (zd h2 24 a1) = 7 ∨ zt h2 (zd h2 24 a1) = 8 ∨ zt h2 (zd h2 24 a1) = 12) ∧
Q (zd h2 (zd h2 24 a1) 0) h2))
theorem W_C_kind (a1 : Int) (h : zH) (Q : Int → zH → Prop) (hP : P_C_kind a1 h Q) : zC true zy_X0_kind 3 [zR 14, zI a1] h (zQ0 Q) := by
  unfold P_C_kind at hP
  refine zC.of (by decide) (Nat.le_of_ble_eq_true rfl) ?_
  show zV true zy_X0_kind 3 0 [zR 14, zI a1] [] h (zQ0 Q)
  refine zV_aload_n dX0_kind_0 rfl ?_
  refine zV_iload_n dX0_kind_1 rfl ?_
  refine zV_cVk (As := [zI a1]) (rest := []) dX0_kind_2 sa_14 (W_C_isRule _ _ _ hP) mi_X0_isRule ml_X0_282 (by decide) (Nat.le_of_ble_eq_true rfl) rfl rfl rfl (fun r1 h2 hP => ?_)
  refine zV_if_eq (tgt := 20) dX0_kind_5 (by decide) (fun c => ?_) (fun c => ?_)
  · have hP := zif_p hP c
    refine zV_aload_n dX0_kind_20 rfl ?_
    refine zV_sipush dX0_kind_21 ⟨by decide, by decide, by decide⟩ ?_
    refine zV_cVk (As := [zI (-1001)]) (rest := []) dX0_kind_24 sa_14 (W_C_refused _ _ _ hP) mi_X0_refused ml_X0_124 (by decide) (Nat.le_of_ble_eq_true rfl) rfl rfl rfl (fun r3 h4 hP => ?_)
    exact zV_ireturn dX0_kind_27 rfl rfl rfl ⟨rfl, hP⟩
  · have hP := zif_n hP c
    refine zV_aload_n dX0_kind_8 rfl ?_
    refine zV_sg dX0_kind_9 fm_14_19 sa_14 (by decide) fl_X0_45_0 rfl ?_
    refine zV_iload_n dX0_kind_12 rfl ?_
    obtain ⟨ob, hP⟩ := hP
    refine zV_aa dX0_kind_13 sa_24 (by decide) ob ?_
    obtain ⟨ob, hP⟩ := hP
    refine zV_gM [5, 6, 7, 8, 12] dX0_kind_14 (by rcases ob with o | o | o | o | o <;> exact ⟨_, by decide, o⟩) gm_X0_285 (ki := 0) rfl ?_
    refine zV_goto (tgt := 27) dX0_kind_17 (by decide) ?_
    exact zV_ireturn dX0_kind_27 rfl rfl rfl ⟨rfl, hP⟩
def P_C_item (a1 : Int) (a2 : Int) (h : zH) (Q : Int → zH → Prop) : Prop :=
P_C_isRule a1 h (fun r1 h2 =>
if r1 = 0 then
(P_C_refused (-1001) h2 (fun r6 h7 =>
Q r6 h7))
else
((0 ≤ a1 ∧ a1 < 60) ∧
(zt h2 (zd h2 24 a1) = 5 ∨ zt h2 (zd h2 24 a1) = 6 ∨ zt h2 (zd h2 24 a1) = 7 ∨ zt h2 (zd h2 24 a1) = 8 ∨ zt h2 (zd h2 24 a1) = 12) ∧
∀ x3_3 : Int, x3_3 = (zd h2 (zd h2 24 a1) 1) →
if a2 = (-1) then
((zt h2 x3_3 = 50) ∧
Q (zl h2 x3_3) h2)
else
((zt h2 x3_3 = 50) ∧
P_C_isIn a2 0 (w32 ((zl h2 x3_3) - 1)) h2 (fun r4 h5 =>
(if r4 = 0 then True else (zt h5 x3_3 = 50 ∧ 0 ≤ a2 ∧ a2 < zl h5 x3_3) ∧ True) ∧
Q (if r4 = 0 then (-1005) else zd h5 x3_3 a2) h5))))
theorem W_C_item (a1 : Int) (a2 : Int) (h : zH) (Q : Int → zH → Prop) (hP : P_C_item a1 a2 h Q) : zC true zy_X0_item 3 [zR 14, zI a1, zI a2] h (zQ0 Q) := by
  unfold P_C_item at hP
  refine zC.of (by decide) (Nat.le_of_ble_eq_true rfl) ?_
  show zV true zy_X0_item 3 0 [zR 14, zI a1, zI a2, zU] [] h (zQ0 Q)
  refine zV_aload_n dX0_item_0 rfl ?_
  refine zV_iload_n dX0_item_1 rfl ?_
  refine zV_cVk (As := [zI a1]) (rest := []) dX0_item_2 sa_14 (W_C_isRule _ _ _ hP) mi_X0_isRule ml_X0_282 (by decide) (Nat.le_of_ble_eq_true rfl) rfl rfl rfl (fun r1 h2 hP => ?_)
  refine zV_if_ne (tgt := 16) dX0_item_5 (by decide) (fun c => ?_) (fun c => ?_)
  · have hP := zif_n hP c
    refine zV_aload_n dX0_item_16 rfl ?_
    refine zV_sg dX0_item_17 fm_14_19 sa_14 (by decide) fl_X0_45_0 rfl ?_
    refine zV_iload_n dX0_item_20 rfl ?_
    obtain ⟨ob, hP⟩ := hP
    refine zV_aa dX0_item_21 sa_24 (by decide) ob ?_
    obtain ⟨ob, hP⟩ := hP
    refine zV_gM [5, 6, 7, 8, 12] dX0_item_22 (by rcases ob with o | o | o | o | o <;> exact ⟨_, by decide, o⟩) gm_X0_296 (ki := 1) rfl ?_
    refine zV_top (fun x3_3 e_x3_3 => ?_)
    have hP := hP x3_3 e_x3_3
    refine zV_astore_n (ls' := [zR 14, zI a1, zI a2, zR x3_3]) dX0_item_25 rfl (Nat.le_of_ble_eq_true rfl) rfl rfl ?_
    refine zV_iload_n dX0_item_26 rfl ?_
    refine zV_iconst dX0_item_27 ⟨by decide, by decide⟩ ?_
    refine zV_icmp_ne (tgt := 36) dX0_item_28 (by decide) (fun c => ?_) (fun c => ?_)
    · have hP := zif_n hP c
      refine zV_iload_n dX0_item_36 rfl ?_
      refine zV_i2l dX0_item_37 ?_
      refine zV_lconst (x := 0) dX0_item_38 rfl ?_
      refine zV_aload_n dX0_item_39 rfl ?_
      obtain ⟨ob, hP⟩ := hP
      refine zV_alD dX0_item_40 (Or.inl ob) ?_
      refine zV_iconst dX0_item_41 ⟨by decide, by decide⟩ ?_
      refine zV_isub dX0_item_42 ?_
      refine zV_i2l dX0_item_43 ?_
      refine zV_cSk (As := [zJ a2, zJ 0, zJ (w32 ((zl h2 x3_3) - 1))]) (rest := []) dX0_item_44 (W_C_isIn _ _ _ _ _ hP) mi_X0_isIn ml_X0_109 (by decide) (Nat.le_of_ble_eq_true rfl) rfl rfl rfl (fun r4 h5 hP => ?_)
      obtain ⟨hO, hP⟩ := hP
      have K : zV true zy_X0_item 3 59 [zU, zU, zU, zU] [zI (if r4 = 0 then (-1005) else zd h5 x3_3 a2)] h5 (zQ0 Q) := by
        exact zV_ireturn dX0_item_59 rfl rfl rfl ⟨rfl, hP⟩
      clear hP
      refine zV_if_eq (tgt := 56) dX0_item_47 (by decide) (fun c => ?_) (fun c => ?_)
      · try simp only [if_pos c] at K
        have hO := zif_p hO c
        refine zV_sipush dX0_item_56 ⟨by decide, by decide, by decide⟩ ?_
        refine zV_mask [false, false, false, false] rfl ?_
        exact K
      · try simp only [if_neg c] at K
        have hO := zif_n hO c
        refine zV_aload_n dX0_item_50 rfl ?_
        refine zV_iload_n dX0_item_51 rfl ?_
        obtain ⟨ob, hO⟩ := hO
        refine zV_iaD dX0_item_52 ob ?_
        refine zV_goto (tgt := 59) dX0_item_53 (by decide) ?_
        refine zV_mask [false, false, false, false] rfl ?_
        exact K
    · have hP := zif_p hP c
      refine zV_aload_n dX0_item_31 rfl ?_
      obtain ⟨ob, hP⟩ := hP
      refine zV_alD dX0_item_32 (Or.inl ob) ?_
      refine zV_goto (tgt := 59) dX0_item_33 (by decide) ?_
      exact zV_ireturn dX0_item_59 rfl rfl rfl ⟨rfl, hP⟩
  · have hP := zif_p hP c
    refine zV_aload_n dX0_item_8 rfl ?_
    refine zV_sipush dX0_item_9 ⟨by decide, by decide, by decide⟩ ?_
    refine zV_cVk (As := [zI (-1001)]) (rest := []) dX0_item_12 sa_14 (W_C_refused _ _ _ hP) mi_X0_refused ml_X0_124 (by decide) (Nat.le_of_ble_eq_true rfl) rfl rfl rfl (fun r6 h7 hP => ?_)
    exact zV_ireturn dX0_item_15 rfl rfl rfl ⟨rfl, hP⟩
def P_C_rows (a1 : Int) (a2 : Int) (h : zH) (Q : Int → zH → Prop) : Prop :=
P_C_isRule a1 h (fun r1 h2 =>
if r1 = 0 then
(P_C_refused (-1001) h2 (fun r5 h6 =>
Q r5 h6))
else
((0 ≤ a1 ∧ a1 < 60) ∧
(zt h2 (zd h2 24 a1) = 5 ∨ zt h2 (zd h2 24 a1) = 6 ∨ zt h2 (zd h2 24 a1) = 7 ∨ zt h2 (zd h2 24 a1) = 8 ∨ zt h2 (zd h2 24 a1) = 12) ∧
P_C_isIn a2 0 (w32 ((zd h2 (zd h2 24 a1) 3) - 1)) h2 (fun r3 h4 =>
(if r3 = 0 then True else (0 ≤ a1 ∧ a1 < 60) ∧ (zt h4 (zd h4 24 a1) = 5 ∨ zt h4 (zd h4 24 a1) = 6 ∨ zt h4 (zd h4 24 a1) = 7 ∨ zt h4 (zd h4 24 a1) = 8 ∨ zt h4 (zd h4 24 a1) = 12) ∧ True) ∧
Q (if r3 = 0 then (-1005) else w32 ((zd h4 (zd h4 24 a1) 2) + a2)) h4)))
theorem W_C_rows (a1 : Int) (a2 : Int) (h : zH) (Q : Int → zH → Prop) (hP : P_C_rows a1 a2 h Q) : zC true zy_X0_rows 3 [zR 14, zI a1, zI a2] h (zQ0 Q) := by
  unfold P_C_rows at hP
  refine zC.of (by decide) (Nat.le_of_ble_eq_true rfl) ?_
  show zV true zy_X0_rows 3 0 [zR 14, zI a1, zI a2] [] h (zQ0 Q)
  refine zV_aload_n dX0_rows_0 rfl ?_
  refine zV_iload_n dX0_rows_1 rfl ?_
  refine zV_cVk (As := [zI a1]) (rest := []) dX0_rows_2 sa_14 (W_C_isRule _ _ _ hP) mi_X0_isRule ml_X0_282 (by decide) (Nat.le_of_ble_eq_true rfl) rfl rfl rfl (fun r1 h2 hP => ?_)
  refine zV_if_ne (tgt := 16) dX0_rows_5 (by decide) (fun c => ?_) (fun c => ?_)
  · have hP := zif_n hP c
    refine zV_iload_n dX0_rows_16 rfl ?_
    refine zV_i2l dX0_rows_17 ?_
    refine zV_lconst (x := 0) dX0_rows_18 rfl ?_
    refine zV_aload_n dX0_rows_19 rfl ?_
    refine zV_sg dX0_rows_20 fm_14_19 sa_14 (by decide) fl_X0_45_0 rfl ?_
    refine zV_iload_n dX0_rows_23 rfl ?_
    obtain ⟨ob, hP⟩ := hP
    refine zV_aa dX0_rows_24 sa_24 (by decide) ob ?_
    obtain ⟨ob, hP⟩ := hP
    refine zV_gM [5, 6, 7, 8, 12] dX0_rows_25 (by rcases ob with o | o | o | o | o <;> exact ⟨_, by decide, o⟩) gm_X0_208 (ki := 3) rfl ?_
    refine zV_iconst dX0_rows_28 ⟨by decide, by decide⟩ ?_
    refine zV_isub dX0_rows_29 ?_
    refine zV_i2l dX0_rows_30 ?_
    refine zV_cSk (As := [zJ a2, zJ 0, zJ (w32 ((zd h2 (zd h2 24 a1) 3) - 1))]) (rest := []) dX0_rows_31 (W_C_isIn _ _ _ _ _ hP) mi_X0_isIn ml_X0_109 (by decide) (Nat.le_of_ble_eq_true rfl) rfl rfl rfl (fun r3 h4 hP => ?_)
    obtain ⟨hO, hP⟩ := hP
    have K : zV true zy_X0_rows 3 54 [zU, zU, zU] [zI (if r3 = 0 then (-1005) else w32 ((zd h4 (zd h4 24 a1) 2) + a2))] h4 (zQ0 Q) := by
      exact zV_ireturn dX0_rows_54 rfl rfl rfl ⟨rfl, hP⟩
    clear hP
    refine zV_if_eq (tgt := 51) dX0_rows_34 (by decide) (fun c => ?_) (fun c => ?_)
    · try simp only [if_pos c] at K
      have hO := zif_p hO c
      refine zV_sipush dX0_rows_51 ⟨by decide, by decide, by decide⟩ ?_
      refine zV_mask [false, false, false] rfl ?_
      exact K
    · try simp only [if_neg c] at K
      have hO := zif_n hO c
      refine zV_aload_n dX0_rows_37 rfl ?_
      refine zV_sg dX0_rows_38 fm_14_19 sa_14 (by decide) fl_X0_45_0 rfl ?_
      refine zV_iload_n dX0_rows_41 rfl ?_
      obtain ⟨ob, hO⟩ := hO
      refine zV_aa dX0_rows_42 sa_24 (by decide) ob ?_
      obtain ⟨ob, hO⟩ := hO
      refine zV_gM [5, 6, 7, 8, 12] dX0_rows_43 (by rcases ob with o | o | o | o | o <;> exact ⟨_, by decide, o⟩) gm_X0_205 (ki := 2) rfl ?_
      refine zV_iload_n dX0_rows_46 rfl ?_
      refine zV_iadd dX0_rows_47 ?_
      refine zV_goto (tgt := 54) dX0_rows_48 (by decide) ?_
      refine zV_mask [false, false, false] rfl ?_
      exact K
  · have hP := zif_p hP c
    refine zV_aload_n dX0_rows_8 rfl ?_
    refine zV_sipush dX0_rows_9 ⟨by decide, by decide, by decide⟩ ?_
    refine zV_cVk (As := [zI (-1001)]) (rest := []) dX0_rows_12 sa_14 (W_C_refused _ _ _ hP) mi_X0_refused ml_X0_124 (by decide) (Nat.le_of_ble_eq_true rfl) rfl rfl rfl (fun r5 h6 hP => ?_)
    exact zV_ireturn dX0_rows_15 rfl rfl rfl ⟨rfl, hP⟩
def P_C_export_L22 (y1 : Int) (Q : Int → zH → Prop) (k56 : zH → Prop) : Nat → Int → zH → Prop
| 0, _, _ => False
| n22 + 1, y2, h =>
(0 ≤ w32 (y1 + 1) ∧ w32 (y1 + 1) < 501) ∧
if zd h 23 (w32 (y1 + 1)) ≤ y2 then
(k56 h)
else
((0 ≤ y2 ∧ y2 < 2500) ∧
P_C_sayNumber (zd h 22 y2) h (fun r3 h4 =>
P_C_say_2 32 h4 (fun r5 h6 =>
∀ x2_7 : Int, x2_7 = w32 (y2 + 1) →
P_C_export_L22 y1 Q k56 n22 x2_7 h6)))
theorem W_C_export_L22 (y1 : Int) (Q : Int → zH → Prop) (k56 : zH → Prop) (H56 : ∀ (h' : zH), k56 h' → zV true zy_X0_export 3 56 [zR 14, zI y1, zU] [] h' (zQ0 Q)) : ∀ (n22 : Nat) (y2 : Int) (h : zH), P_C_export_L22 y1 Q k56 n22 y2 h → zV true zy_X0_export 3 22 [zR 14, zI y1, zI y2] [] h (zQ0 Q) := by
  intro n22
  induction n22 with
  | zero => intro y2 h hP; exact absurd hP id
  | succ n22 ih =>
    intro y2 h hP
    unfold P_C_export_L22 at hP
    refine zV_iload_n dX0_export_22 rfl ?_
    refine zV_aload_n dX0_export_23 rfl ?_
    refine zV_sg dX0_export_24 fm_14_17 sa_14 (by decide) fl_X0_40_0 rfl ?_
    refine zV_iload_n dX0_export_27 rfl ?_
    refine zV_iconst dX0_export_28 ⟨by decide, by decide⟩ ?_
    refine zV_iadd dX0_export_29 ?_
    obtain ⟨ob, hP⟩ := hP
    refine zV_ia dX0_export_30 sa_23 ob ?_
    refine zV_icmp_ge (tgt := 56) dX0_export_31 (by decide) (fun c => ?_) (fun c => ?_)
    · have hP := zif_p hP c
      refine zV_mask [true, true, false] (ls' := [zR 14, zI y1, zU]) rfl ?_
      exact H56 _ hP
    · have hP := zif_n hP c
      refine zV_aload_n dX0_export_34 rfl ?_
      refine zV_aload_n dX0_export_35 rfl ?_
      refine zV_sg dX0_export_36 fm_14_16 sa_14 (by decide) fl_X0_37_0 rfl ?_
      refine zV_iload_n dX0_export_39 rfl ?_
      obtain ⟨ob, hP⟩ := hP
      refine zV_ia dX0_export_40 sa_22 ob ?_
      refine zV_cVv (As := [zI (zd h 22 y2)]) (rest := []) dX0_export_41 sa_14 (W_C_sayNumber _ _ _ hP) mi_X0_sayNumber ml_X0_321 (by decide) (Nat.le_of_ble_eq_true rfl) rfl rfl (fun r3 h4 hP => ?_)
      refine zV_aload_n dX0_export_44 rfl ?_
      refine zV_bipush dX0_export_45 ⟨by decide, by decide, by decide⟩ ?_
      refine zV_cVv (As := [zI 32]) (rest := []) dX0_export_47 sa_14 (W_C_say_2 _ _ _ hP) mi_X0_say_2 ml_X0_175 (by decide) (Nat.le_of_ble_eq_true rfl) rfl rfl (fun r5 h6 hP => ?_)
      refine zV_inc (ls' := fun z => [zR 14, zI y1, zI z]) dX0_export_50 (Nat.le_of_ble_eq_true rfl) rfl rfl (fun _ => rfl) (fun x2_7 e_x2_7 => ?_)
      have hP := hP x2_7 e_x2_7
      refine zV_goto (tgt := 22) dX0_export_53 (by decide) ?_
      exact ih _ _ hP
def P_C_export_L7 (Q : Int → zH → Prop) : Nat → Int → zH → Prop
| 0, _, _ => False
| n7 + 1, y1, h =>
if zd h 14 18 ≤ y1 then
(Q (zd h 14 10) h)
else
((0 ≤ y1 ∧ y1 < 501) ∧
∀ x2_2 : Int, x2_2 = (zd h 23 y1) →
∃ n22, P_C_export_L22 y1 Q (fun h8 =>
P_C_say_2 48 h8 (fun r9 h10 =>
P_C_say_2 10 h10 (fun r11 h12 =>
∀ x1_13 : Int, x1_13 = w32 (y1 + 1) →
P_C_export_L7 Q n7 x1_13 h12))) n22 x2_2 h)
theorem W_C_export_L7 (Q : Int → zH → Prop) : ∀ (n7 : Nat) (y1 : Int) (h : zH), P_C_export_L7 Q n7 y1 h → zV true zy_X0_export 3 7 [zR 14, zI y1, zU] [] h (zQ0 Q) := by
  intro n7
  induction n7 with
  | zero => intro y1 h hP; exact absurd hP id
  | succ n7 ih =>
    intro y1 h hP
    unfold P_C_export_L7 at hP
    refine zV_iload_n dX0_export_7 rfl ?_
    refine zV_aload_n dX0_export_8 rfl ?_
    refine zV_gf dX0_export_9 sa_14 (by decide) fl_X0_202_0 rfl (ki := 18) rfl ?_
    refine zV_icmp_ge (tgt := 74) dX0_export_12 (by decide) (fun c => ?_) (fun c => ?_)
    · have hP := zif_p hP c
      refine zV_aload_n dX0_export_74 rfl ?_
      refine zV_gf dX0_export_75 sa_14 (by decide) fl_X0_162_0 rfl (ki := 10) rfl ?_
      exact zV_ireturn dX0_export_78 rfl rfl rfl ⟨rfl, hP⟩
    · have hP := zif_n hP c
      refine zV_aload_n dX0_export_15 rfl ?_
      refine zV_sg dX0_export_16 fm_14_17 sa_14 (by decide) fl_X0_40_0 rfl ?_
      refine zV_iload_n dX0_export_19 rfl ?_
      obtain ⟨ob, hP⟩ := hP
      refine zV_ia dX0_export_20 sa_23 ob ?_
      refine zV_top (fun x2_2 e_x2_2 => ?_)
      have hP := hP x2_2 e_x2_2
      refine zV_istore_n (ls' := [zR 14, zI y1, zI x2_2]) dX0_export_21 rfl (Nat.le_of_ble_eq_true rfl) rfl rfl ?_
      obtain ⟨n22, hP⟩ := hP
      refine W_C_export_L22 _ _ _ (fun h8 hP => ?_) n22 _ _ hP
      refine zV_aload_n dX0_export_56 rfl ?_
      refine zV_bipush dX0_export_57 ⟨by decide, by decide, by decide⟩ ?_
      refine zV_cVv (As := [zI 48]) (rest := []) dX0_export_59 sa_14 (W_C_say_2 _ _ _ hP) mi_X0_say_2 ml_X0_175 (by decide) (Nat.le_of_ble_eq_true rfl) rfl rfl (fun r9 h10 hP => ?_)
      refine zV_aload_n dX0_export_62 rfl ?_
      refine zV_bipush dX0_export_63 ⟨by decide, by decide, by decide⟩ ?_
      refine zV_cVv (As := [zI 10]) (rest := []) dX0_export_65 sa_14 (W_C_say_2 _ _ _ hP) mi_X0_say_2 ml_X0_175 (by decide) (Nat.le_of_ble_eq_true rfl) rfl rfl (fun r11 h12 hP => ?_)
      refine zV_inc (ls' := fun z => [zR 14, zI z, zU]) dX0_export_68 (Nat.le_of_ble_eq_true rfl) rfl rfl (fun _ => rfl) (fun x1_13 e_x1_13 => ?_)
      have hP := hP x1_13 e_x1_13
      refine zV_goto (tgt := 7) dX0_export_71 (by decide) ?_
      exact ih _ _ hP
def P_C_export (h : zH) (Q : Int → zH → Prop) : Prop :=
∀ h1 : zH, h1 = zw h 14 10 0 →
∃ n7, P_C_export_L7 Q n7 0 h1
theorem W_C_export (h : zH) (Q : Int → zH → Prop) (hP : P_C_export  h Q) : zC true zy_X0_export 3 [zR 14] h (zQ0 Q) := by
  unfold P_C_export at hP
  refine zC.of (by decide) (Nat.le_of_ble_eq_true rfl) ?_
  show zV true zy_X0_export 3 0 [zR 14, zU, zU] [] h (zQ0 Q)
  refine zV_aload_n dX0_export_0 rfl ?_
  refine zV_iconst dX0_export_1 ⟨by decide, by decide⟩ ?_
  refine zV_pf dX0_export_2 sa_14 (by decide) fl_X0_162_0 rfl rfl trivial (ki := 10) rfl (fun h1 e_h1 => ?_)
  have hP := hP h1 e_h1
  refine zV_iconst dX0_export_5 ⟨by decide, by decide⟩ ?_
  refine zV_istore_n (ls' := [zR 14, zI 0, zU]) dX0_export_6 rfl (Nat.le_of_ble_eq_true rfl) rfl rfl ?_
  obtain ⟨n7, hP⟩ := hP
  refine W_C_export_L7 _ n7 _ _ hP
def P_C_assume_J37 (y2 : Int) (y4 : Int) (s0 : Int) (s1 : Int) (h : zH) (Q : Int → zH → Prop) (k11 : Int → Int → zH → Prop) : Prop :=
∀ x3_3 : Int, x3_3 = (zor s1 s0) →
∀ x4_4 : Int, x4_4 = w32 (y4 + 1) →
k11 x3_3 x4_4 h
theorem W_C_assume_J37 (y2 : Int) (y4 : Int) (s0 : Int) (s1 : Int) (h : zH) (Q : Int → zH → Prop) (k11 : Int → Int → zH → Prop) (H11 : ∀ (v3 v4 : Int) (h' : zH), k11 v3 v4 h' → zV true zy_X0_assume 3 11 [zR 14, zU, zI y2, zI v3, zI v4] [] h' (zQ0 Q)) (hP : P_C_assume_J37 y2 y4 s0 s1 h Q k11) : zV true zy_X0_assume 3 37 [zR 14, zU, zI y2, zU, zI y4] [zI s0, zI s1] h (zQ0 Q) := by
  unfold P_C_assume_J37 at hP
  refine zV_ior dX0_assume_37 ?_
  refine zV_top (fun x3_3 e_x3_3 => ?_)
  have hP := hP x3_3 e_x3_3
  refine zV_istore_n (ls' := [zR 14, zU, zI y2, zI x3_3, zI y4]) dX0_assume_38 rfl (Nat.le_of_ble_eq_true rfl) rfl rfl ?_
  refine zV_inc (ls' := fun z => [zR 14, zU, zI y2, zI x3_3, zI z]) dX0_assume_39 (Nat.le_of_ble_eq_true rfl) rfl rfl (fun _ => rfl) (fun x4_4 e_x4_4 => ?_)
  have hP := hP x4_4 e_x4_4
  refine zV_goto (tgt := 11) dX0_assume_42 (by decide) ?_
  exact H11 _ _ _ hP
def P_C_assume_L11 (y2 : Int) (Q : Int → zH → Prop) (k45 : Int → zH → Prop) : Nat → Int → Int → zH → Prop
| 0, _, _, _ => False
| n11 + 1, y3, y4, h =>
if zd h 14 25 ≤ y4 then
(k45 y3 h)
else
((0 ≤ y4 ∧ y4 < 20) ∧
P_C_assume_J37 y2 y4 (if zd h 93 y4 = y2 then 1 else 0) y3 h Q (P_C_assume_L11 y2 Q k45 n11))
theorem W_C_assume_L11 (y2 : Int) (Q : Int → zH → Prop) (k45 : Int → zH → Prop) (H45 : ∀ (v3 : Int) (h' : zH), k45 v3 h' → zV true zy_X0_assume 3 45 [zR 14, zU, zI y2, zI v3, zU] [] h' (zQ0 Q)) : ∀ (n11 : Nat) (y3 y4 : Int) (h : zH), P_C_assume_L11 y2 Q k45 n11 y3 y4 h → zV true zy_X0_assume 3 11 [zR 14, zU, zI y2, zI y3, zI y4] [] h (zQ0 Q) := by
  intro n11
  induction n11 with
  | zero => intro y3 y4 h hP; exact absurd hP id
  | succ n11 ih =>
    intro y3 y4 h hP
    unfold P_C_assume_L11 at hP
    refine zV_iload dX0_assume_11 rfl ?_
    refine zV_aload_n dX0_assume_13 rfl ?_
    refine zV_gf dX0_assume_14 sa_14 (by decide) fl_X0_324_0 rfl (ki := 25) rfl ?_
    refine zV_icmp_ge (tgt := 45) dX0_assume_17 (by decide) (fun c => ?_) (fun c => ?_)
    · have hP := zif_p hP c
      refine zV_mask [true, true, true, true, false] (ls' := [zR 14, zU, zI y2, zI y3, zU]) rfl ?_
      exact H45 _ _ hP
    · have hP := zif_n hP c
      refine zV_iload_n dX0_assume_20 rfl ?_
      refine zV_aload_n dX0_assume_21 rfl ?_
      refine zV_sg dX0_assume_22 fm_14_24 sa_14 (by decide) fl_X0_68_0 rfl ?_
      refine zV_iload dX0_assume_25 rfl ?_
      obtain ⟨ob, hP⟩ := hP
      refine zV_ia dX0_assume_27 sa_93 ob ?_
      refine zV_iload_n dX0_assume_28 rfl ?_
      have K : zV true zy_X0_assume 3 37 [zR 14, zU, zI y2, zU, zI y4] [zI (if zd h 93 y4 = y2 then 1 else 0), zI y3] h (zQ0 Q) := by
        exact W_C_assume_J37 _ _ _ _ _ _ _ ih hP
      clear hP
      refine zV_icmp_ne (tgt := 36) dX0_assume_29 (by decide) (fun c => ?_) (fun c => ?_)
      · try simp only [if_neg c] at K
        refine zV_iconst dX0_assume_36 ⟨by decide, by decide⟩ ?_
        refine zV_mask [true, false, true, false, true] rfl ?_
        exact K
      · try simp only [if_pos c] at K
        refine zV_iconst dX0_assume_32 ⟨by decide, by decide⟩ ?_
        refine zV_goto (tgt := 37) dX0_assume_33 (by decide) ?_
        refine zV_mask [true, false, true, false, true] rfl ?_
        exact K
def P_C_assume (a1 : Int) (h : zH) (Q : Int → zH → Prop) : Prop :=
P_C_itemOf a1 h (fun r1 h2 =>
∃ n11, P_C_assume_L11 r1 Q (fun u3_45 h5 =>
if u3_45 = 0 then
(if zd h5 14 25 = 20 then
(P_C_refused (-1003) h5 (fun r9 h10 =>
Q r9 h10))
else
(∀ h6 : zH, h6 = zw h5 14 25 (w32 ((zd h5 14 25) + 1)) →
(0 ≤ zd h5 14 25 ∧ zd h5 14 25 < 20) ∧
∀ h7 : zH, h7 = zw h6 93 (zd h5 14 25) r1 →
∀ h8 : zH, h8 = zw h7 14 3 (w32 ((zd h7 14 3) + 1)) →
Q (zd h8 14 25) h8))
else
(P_C_refused (-1002) h5 (fun r11 h12 =>
Q r11 h12))) n11 0 0 h2)
theorem W_C_assume (a1 : Int) (h : zH) (Q : Int → zH → Prop) (hP : P_C_assume a1 h Q) : zC true zy_X0_assume 3 [zR 14, zI a1] h (zQ0 Q) := by
  unfold P_C_assume at hP
  refine zC.of (by decide) (Nat.le_of_ble_eq_true rfl) ?_
  show zV true zy_X0_assume 3 0 [zR 14, zI a1, zU, zU, zU] [] h (zQ0 Q)
  refine zV_aload_n dX0_assume_0 rfl ?_
  refine zV_iload_n dX0_assume_1 rfl ?_
  refine zV_cVk (As := [zI a1]) (rest := []) dX0_assume_2 sa_14 (W_C_itemOf _ _ _ hP) mi_X0_itemOf ml_X0_211 (by decide) (Nat.le_of_ble_eq_true rfl) rfl rfl rfl (fun r1 h2 hP => ?_)
  refine zV_istore_n (ls' := [zR 14, zI a1, zI r1, zU, zU]) dX0_assume_5 rfl (Nat.le_of_ble_eq_true rfl) rfl rfl ?_
  refine zV_iconst dX0_assume_6 ⟨by decide, by decide⟩ ?_
  refine zV_istore_n (ls' := [zR 14, zI a1, zI r1, zI 0, zU]) dX0_assume_7 rfl (Nat.le_of_ble_eq_true rfl) rfl rfl ?_
  refine zV_iconst dX0_assume_8 ⟨by decide, by decide⟩ ?_
  refine zV_istore (ls' := [zR 14, zI a1, zI r1, zI 0, zI 0]) dX0_assume_9 (Nat.le_of_ble_eq_true rfl) rfl rfl ?_
  obtain ⟨n11, hP⟩ := hP
  refine zV_mask [true, false, true, true, true] (ls' := [zR 14, zU, zI r1, zI 0, zI 0]) rfl ?_
  refine W_C_assume_L11 _ _ _ (fun u3_45 h5 hP => ?_) n11 _ _ _ hP
  refine zV_iload_n dX0_assume_45 rfl ?_
  refine zV_if_eq (tgt := 57) dX0_assume_46 (by decide) (fun c => ?_) (fun c => ?_)
  · have hP := zif_p hP c
    refine zV_aload_n dX0_assume_57 rfl ?_
    refine zV_gf dX0_assume_58 sa_14 (by decide) fl_X0_324_0 rfl (ki := 25) rfl ?_
    refine zV_bipush dX0_assume_61 ⟨by decide, by decide, by decide⟩ ?_
    refine zV_icmp_ne (tgt := 74) dX0_assume_63 (by decide) (fun c => ?_) (fun c => ?_)
    · have hP := zif_n hP c
      refine zV_aload_n dX0_assume_74 rfl ?_
      refine zV_sg dX0_assume_75 fm_14_24 sa_14 (by decide) fl_X0_68_0 rfl ?_
      refine zV_aload_n dX0_assume_78 rfl ?_
      refine zV_dup dX0_assume_79 (Nat.ne_of_beq_eq_false rfl) ?_
      refine zV_gf dX0_assume_80 sa_14 (by decide) fl_X0_324_0 rfl (ki := 25) rfl ?_
      refine zV_dup_x1 dX0_assume_83 (Nat.ne_of_beq_eq_false rfl) (Nat.ne_of_beq_eq_false rfl) ?_
      refine zV_iconst dX0_assume_84 ⟨by decide, by decide⟩ ?_
      refine zV_iadd dX0_assume_85 ?_
      refine zV_pf dX0_assume_86 sa_14 (by decide) fl_X0_324_0 rfl rfl trivial (ki := 25) rfl (fun h6 e_h6 => ?_)
      have hP := hP h6 e_h6
      refine zV_iload_n dX0_assume_89 rfl ?_
      obtain ⟨ob, hP⟩ := hP
      refine zV_ias dX0_assume_90 sa_93 ob (fun h7 e_h7 => ?_)
      have hP := hP h7 e_h7
      refine zV_aload_n dX0_assume_91 rfl ?_
      refine zV_dup dX0_assume_92 (Nat.ne_of_beq_eq_false rfl) ?_
      refine zV_gf dX0_assume_93 sa_14 (by decide) fl_X0_106_0 rfl (ki := 3) rfl ?_
      refine zV_iconst dX0_assume_96 ⟨by decide, by decide⟩ ?_
      refine zV_iadd dX0_assume_97 ?_
      refine zV_pf dX0_assume_98 sa_14 (by decide) fl_X0_106_0 rfl rfl trivial (ki := 3) rfl (fun h8 e_h8 => ?_)
      have hP := hP h8 e_h8
      refine zV_aload_n dX0_assume_101 rfl ?_
      refine zV_gf dX0_assume_102 sa_14 (by decide) fl_X0_324_0 rfl (ki := 25) rfl ?_
      exact zV_ireturn dX0_assume_105 rfl rfl rfl ⟨rfl, hP⟩
    · have hP := zif_p hP c
      refine zV_aload_n dX0_assume_66 rfl ?_
      refine zV_sipush dX0_assume_67 ⟨by decide, by decide, by decide⟩ ?_
      refine zV_cVk (As := [zI (-1003)]) (rest := []) dX0_assume_70 sa_14 (W_C_refused _ _ _ hP) mi_X0_refused ml_X0_124 (by decide) (Nat.le_of_ble_eq_true rfl) rfl rfl rfl (fun r9 h10 hP => ?_)
      exact zV_ireturn dX0_assume_73 rfl rfl rfl ⟨rfl, hP⟩
  · have hP := zif_n hP c
    refine zV_aload_n dX0_assume_49 rfl ?_
    refine zV_sipush dX0_assume_50 ⟨by decide, by decide, by decide⟩ ?_
    refine zV_cVk (As := [zI (-1002)]) (rest := []) dX0_assume_53 sa_14 (W_C_refused _ _ _ hP) mi_X0_refused ml_X0_124 (by decide) (Nat.le_of_ble_eq_true rfl) rfl rfl rfl (fun r11 h12 hP => ?_)
    exact zV_ireturn dX0_assume_56 rfl rfl rfl ⟨rfl, hP⟩
def P_C_free (h : zH) (Q : Int → zH → Prop) : Prop :=
∀ x1_1 : Int, x1_1 = (zd h 14 25) →
∀ h2 : zH, h2 = zw h 14 25 0 →
∀ h3 : zH, h3 = zw h2 14 3 (w32 ((zd h2 14 3) + 1)) →
Q x1_1 h3
theorem W_C_free (h : zH) (Q : Int → zH → Prop) (hP : P_C_free  h Q) : zC true zy_X0_free 1 [zR 14] h (zQ0 Q) := by
  unfold P_C_free at hP
  refine zC.of (by decide) (Nat.le_of_ble_eq_true rfl) ?_
  show zV true zy_X0_free 1 0 [zR 14, zU] [] h (zQ0 Q)
  refine zV_aload_n dX0_free_0 rfl ?_
  refine zV_gf dX0_free_1 sa_14 (by decide) fl_X0_324_0 rfl (ki := 25) rfl ?_
  refine zV_top (fun x1_1 e_x1_1 => ?_)
  have hP := hP x1_1 e_x1_1
  refine zV_istore_n (ls' := [zR 14, zI x1_1]) dX0_free_4 rfl (Nat.le_of_ble_eq_true rfl) rfl rfl ?_
  refine zV_aload_n dX0_free_5 rfl ?_
  refine zV_iconst dX0_free_6 ⟨by decide, by decide⟩ ?_
  refine zV_pf dX0_free_7 sa_14 (by decide) fl_X0_324_0 rfl rfl trivial (ki := 25) rfl (fun h2 e_h2 => ?_)
  have hP := hP h2 e_h2
  refine zV_aload_n dX0_free_10 rfl ?_
  refine zV_dup dX0_free_11 (Nat.ne_of_beq_eq_false rfl) ?_
  refine zV_gf dX0_free_12 sa_14 (by decide) fl_X0_106_0 rfl (ki := 3) rfl ?_
  refine zV_iconst dX0_free_15 ⟨by decide, by decide⟩ ?_
  refine zV_iadd dX0_free_16 ?_
  refine zV_pf dX0_free_17 sa_14 (by decide) fl_X0_106_0 rfl rfl trivial (ki := 3) rfl (fun h3 e_h3 => ?_)
  have hP := hP h3 e_h3
  refine zV_iload_n dX0_free_20 rfl ?_
  exact zV_ireturn dX0_free_21 rfl rfl rfl ⟨rfl, hP⟩
def P_C_isName (a1 : Int) (h : zH) (Q : Int → zH → Prop) : Prop :=
P_C_isIn a1 1 (zd h 14 2) h (fun r1 h2 =>
(r1 = 0 ∨ r1 = 1) ∧ Q r1 h2)
theorem W_C_isName (a1 : Int) (h : zH) (Q : Int → zH → Prop) (hP : P_C_isName a1 h Q) : zC true zy_X0_isName 2 [zR 14, zI a1] h (zQ0 Q) := by
  unfold P_C_isName at hP
  refine zC.of (by decide) (Nat.le_of_ble_eq_true rfl) ?_
  show zV true zy_X0_isName 2 0 [zR 14, zI a1] [] h (zQ0 Q)
  refine zV_iload_n dX0_isName_0 rfl ?_
  refine zV_i2l dX0_isName_1 ?_
  refine zV_lconst (x := 1) dX0_isName_2 rfl ?_
  refine zV_aload_n dX0_isName_3 rfl ?_
  refine zV_gf dX0_isName_4 sa_14 (by decide) fl_X0_100_0 rfl (ki := 2) rfl ?_
  refine zV_i2l dX0_isName_7 ?_
  refine zV_cSk (As := [zJ a1, zJ 1, zJ (zd h 14 2)]) (rest := []) dX0_isName_8 (W_C_isIn _ _ _ _ _ hP) mi_X0_isIn ml_X0_109 (by decide) (Nat.le_of_ble_eq_true rfl) rfl rfl rfl (fun r1 h2 hP => ?_)
  exact zV_ireturn dX0_isName_11 rfl rfl (z01 hP.1) ⟨rfl, hP.2⟩
def P_C_weight (a1 : Int) (a2 : Int) (h : zH) (Q : Int → zH → Prop) : Prop :=
P_C_isName a1 h (fun r1 h2 =>
if r1 = 0 then
(P_C_refused (-1001) h2 (fun r3 h4 =>
Q r3 h4))
else
(P_C_isIn a2 0 1000 h2 (fun r5 h6 =>
if r5 = 0 then
(P_C_refused (-1001) h6 (fun r10 h11 =>
Q r10 h11))
else
((0 ≤ w32 (a1 - 1) ∧ w32 (a1 - 1) < 300) ∧
(zt h6 (zd h6 15 (w32 (a1 - 1))) = 4) ∧
∀ x3_7 : Int, x3_7 = (zd h6 (zd h6 15 (w32 (a1 - 1))) 1) →
(0 ≤ w32 (a1 - 1) ∧ w32 (a1 - 1) < 300) ∧
(zt h6 (zd h6 15 (w32 (a1 - 1))) = 4) ∧
∀ h8 : zH, h8 = zw h6 (zd h6 15 (w32 (a1 - 1))) 1 a2 →
∀ h9 : zH, h9 = zw h8 14 3 (w32 ((zd h8 14 3) + 1)) →
Q x3_7 h9))))
theorem W_C_weight (a1 : Int) (a2 : Int) (h : zH) (Q : Int → zH → Prop) (hP : P_C_weight a1 a2 h Q) : zC true zy_X0_weight 3 [zR 14, zI a1, zI a2] h (zQ0 Q) := by
  unfold P_C_weight at hP
  refine zC.of (by decide) (Nat.le_of_ble_eq_true rfl) ?_
  show zV true zy_X0_weight 3 0 [zR 14, zI a1, zI a2, zU] [] h (zQ0 Q)
  refine zV_aload_n dX0_weight_0 rfl ?_
  refine zV_iload_n dX0_weight_1 rfl ?_
  refine zV_cVk (As := [zI a1]) (rest := []) dX0_weight_2 sa_14 (W_C_isName _ _ _ hP) mi_X0_isName ml_X0_327 (by decide) (Nat.le_of_ble_eq_true rfl) rfl rfl rfl (fun r1 h2 hP => ?_)
  refine zV_if_eq (tgt := 20) dX0_weight_5 (by decide) (fun c => ?_) (fun c => ?_)
  · have hP := zif_p hP c
    refine zV_aload_n dX0_weight_20 rfl ?_
    refine zV_sipush dX0_weight_21 ⟨by decide, by decide, by decide⟩ ?_
    refine zV_cVk (As := [zI (-1001)]) (rest := []) dX0_weight_24 sa_14 (W_C_refused _ _ _ hP) mi_X0_refused ml_X0_124 (by decide) (Nat.le_of_ble_eq_true rfl) rfl rfl rfl (fun r3 h4 hP => ?_)
    exact zV_ireturn dX0_weight_27 rfl rfl rfl ⟨rfl, hP⟩
  · have hP := zif_n hP c
    refine zV_iload_n dX0_weight_8 rfl ?_
    refine zV_i2l dX0_weight_9 ?_
    refine zV_lconst (x := 0) dX0_weight_10 rfl ?_
    refine zV_ldc2c (x := 1000) dX0_weight_11 (by decide) q1501 ⟨by decide, by decide⟩ ?_
    refine zV_cSk (As := [zJ a2, zJ 0, zJ 1000]) (rest := []) dX0_weight_14 (W_C_isIn _ _ _ _ _ hP) mi_X0_isIn ml_X0_109 (by decide) (Nat.le_of_ble_eq_true rfl) rfl rfl rfl (fun r5 h6 hP => ?_)
    refine zV_if_ne (tgt := 28) dX0_weight_17 (by decide) (fun c => ?_) (fun c => ?_)
    · have hP := zif_n hP c
      refine zV_aload_n dX0_weight_28 rfl ?_
      refine zV_sg dX0_weight_29 fm_14_1 sa_14 (by decide) fl_X0_11_0 rfl ?_
      refine zV_iload_n dX0_weight_32 rfl ?_
      refine zV_iconst dX0_weight_33 ⟨by decide, by decide⟩ ?_
      refine zV_isub dX0_weight_34 ?_
      obtain ⟨ob, hP⟩ := hP
      refine zV_aa dX0_weight_35 sa_15 (by decide) ob ?_
      obtain ⟨ob, hP⟩ := hP
      refine zV_gD dX0_weight_36 ob (by decide) fl_X0_332_4 rfl (ki := 1) rfl ?_
      refine zV_top (fun x3_7 e_x3_7 => ?_)
      have hP := hP x3_7 e_x3_7
      refine zV_istore_n (ls' := [zR 14, zI a1, zI a2, zI x3_7]) dX0_weight_39 rfl (Nat.le_of_ble_eq_true rfl) rfl rfl ?_
      refine zV_aload_n dX0_weight_40 rfl ?_
      refine zV_sg dX0_weight_41 fm_14_1 sa_14 (by decide) fl_X0_11_0 rfl ?_
      refine zV_iload_n dX0_weight_44 rfl ?_
      refine zV_iconst dX0_weight_45 ⟨by decide, by decide⟩ ?_
      refine zV_isub dX0_weight_46 ?_
      obtain ⟨ob, hP⟩ := hP
      refine zV_aa dX0_weight_47 sa_15 (by decide) ob ?_
      refine zV_iload_n dX0_weight_48 rfl ?_
      obtain ⟨obt, hP⟩ := hP
      refine zV_pD dX0_weight_49 obt (by decide) fl_X0_332_4 (Or.inl rfl) (Or.inl rfl) rfl trivial (ki := 1) rfl (fun h8 e_h8 => ?_)
      have hP := hP h8 e_h8
      refine zV_aload_n dX0_weight_52 rfl ?_
      refine zV_dup dX0_weight_53 (Nat.ne_of_beq_eq_false rfl) ?_
      refine zV_gf dX0_weight_54 sa_14 (by decide) fl_X0_106_0 rfl (ki := 3) rfl ?_
      refine zV_iconst dX0_weight_57 ⟨by decide, by decide⟩ ?_
      refine zV_iadd dX0_weight_58 ?_
      refine zV_pf dX0_weight_59 sa_14 (by decide) fl_X0_106_0 rfl rfl trivial (ki := 3) rfl (fun h9 e_h9 => ?_)
      have hP := hP h9 e_h9
      refine zV_iload_n dX0_weight_62 rfl ?_
      exact zV_ireturn dX0_weight_63 rfl rfl rfl ⟨rfl, hP⟩
    · have hP := zif_p hP c
      refine zV_aload_n dX0_weight_20 rfl ?_
      refine zV_sipush dX0_weight_21 ⟨by decide, by decide, by decide⟩ ?_
      refine zV_cVk (As := [zI (-1001)]) (rest := []) dX0_weight_24 sa_14 (W_C_refused _ _ _ hP) mi_X0_refused ml_X0_124 (by decide) (Nat.le_of_ble_eq_true rfl) rfl rfl rfl (fun r10 h11 hP => ?_)
      exact zV_ireturn dX0_weight_27 rfl rfl rfl ⟨rfl, hP⟩
def P_C_weighs (a1 : Int) (h : zH) (Q : Int → zH → Prop) : Prop :=
P_C_isName a1 h (fun r1 h2 =>
if r1 = 0 then
(P_C_refused (-1001) h2 (fun r3 h4 =>
Q r3 h4))
else
((if zd h2 25 11 < a1 then True else (0 ≤ a1 ∧ a1 < 301) ∧ True) ∧
Q (if zd h2 25 11 < a1 then 0 else zd h2 40 a1) h2))
theorem W_C_weighs (a1 : Int) (h : zH) (Q : Int → zH → Prop) (hP : P_C_weighs a1 h Q) : zC true zy_X0_weighs 3 [zR 14, zI a1] h (zQ0 Q) := by
  unfold P_C_weighs at hP
  refine zC.of (by decide) (Nat.le_of_ble_eq_true rfl) ?_
  show zV true zy_X0_weighs 3 0 [zR 14, zI a1] [] h (zQ0 Q)
  refine zV_aload_n dX0_weighs_0 rfl ?_
  refine zV_iload_n dX0_weighs_1 rfl ?_
  refine zV_cVk (As := [zI a1]) (rest := []) dX0_weighs_2 sa_14 (W_C_isName _ _ _ hP) mi_X0_isName ml_X0_327 (by decide) (Nat.le_of_ble_eq_true rfl) rfl rfl rfl (fun r1 h2 hP => ?_)
  refine zV_if_ne (tgt := 17) dX0_weighs_5 (by decide) (fun c => ?_) (fun c => ?_)
  · have hP := zif_n hP c
    refine zV_iload_n dX0_weighs_17 rfl ?_
    refine zV_aload_n dX0_weighs_18 rfl ?_
    refine zV_sg dX0_weighs_19 fm_14_21 sa_14 (by decide) fl_X0_54_0 rfl ?_
    refine zV_gf dX0_weighs_22 sa_25 (by decide) fl_X0_335_1 rfl (ki := 11) rfl ?_
    obtain ⟨hO, hP⟩ := hP
    have K : zV true zy_X0_weighs 3 41 [zU, zU] [zJ (if zd h2 25 11 < a1 then 0 else zd h2 40 a1)] h2 (zQ0 Q) := by
      exact zV_lreturn dX0_weighs_41 rfl ⟨rfl, hP⟩
    clear hP
    refine zV_icmp_gt (tgt := 40) dX0_weighs_25 (by decide) (fun c => ?_) (fun c => ?_)
    · try simp only [if_pos c] at K
      have hO := zif_p hO c
      refine zV_lconst (x := 0) dX0_weighs_40 rfl ?_
      refine zV_mask [false, false] rfl ?_
      exact K
    · try simp only [if_neg c] at K
      have hO := zif_n hO c
      refine zV_aload_n dX0_weighs_28 rfl ?_
      refine zV_sg dX0_weighs_29 fm_14_21 sa_14 (by decide) fl_X0_54_0 rfl ?_
      refine zV_sg dX0_weighs_32 fm_25_16 sa_25 (by decide) fl_X0_338_1 rfl ?_
      refine zV_iload_n dX0_weighs_35 rfl ?_
      obtain ⟨ob, hO⟩ := hO
      refine zV_la dX0_weighs_36 sa_40 ob ?_
      refine zV_goto (tgt := 41) dX0_weighs_37 (by decide) ?_
      refine zV_mask [false, false] rfl ?_
      exact K
  · have hP := zif_p hP c
    refine zV_aload_n dX0_weighs_8 rfl ?_
    refine zV_sipush dX0_weighs_9 ⟨by decide, by decide, by decide⟩ ?_
    refine zV_cVk (As := [zI (-1001)]) (rest := []) dX0_weighs_12 sa_14 (W_C_refused _ _ _ hP) mi_X0_refused ml_X0_124 (by decide) (Nat.le_of_ble_eq_true rfl) rfl rfl rfl (fun r3 h4 hP => ?_)
    refine zV_i2l dX0_weighs_15 ?_
    exact zV_lreturn dX0_weighs_16 rfl ⟨rfl, hP⟩
def P_C_begin (a1 : Int) (h : zH) (Q : Int → zH → Prop) : Prop :=
P_C_isIn a1 0 100 h (fun r1 h2 =>
if r1 = 0 then
(P_C_refused (-1001) h2 (fun r6 h7 =>
Q r6 h7))
else
(∀ x2_3 : Int, x2_3 = (zd h2 14 26) →
∀ h4 : zH, h4 = zw h2 14 26 a1 →
∀ h5 : zH, h5 = zw h4 14 3 (w32 ((zd h4 14 3) + 1)) →
Q x2_3 h5))
theorem W_C_begin (a1 : Int) (h : zH) (Q : Int → zH → Prop) (hP : P_C_begin a1 h Q) : zC true zy_X0_begin 2 [zR 14, zI a1] h (zQ0 Q) := by
  unfold P_C_begin at hP
  refine zC.of (by decide) (Nat.le_of_ble_eq_true rfl) ?_
  show zV true zy_X0_begin 2 0 [zR 14, zI a1, zU] [] h (zQ0 Q)
  refine zV_iload_n dX0_begin_0 rfl ?_
  refine zV_i2l dX0_begin_1 ?_
  refine zV_lconst (x := 0) dX0_begin_2 rfl ?_
  refine zV_ldc2c (x := 100) dX0_begin_3 (by decide) q1510 ⟨by decide, by decide⟩ ?_
  refine zV_cSk (As := [zJ a1, zJ 0, zJ 100]) (rest := []) dX0_begin_6 (W_C_isIn _ _ _ _ _ hP) mi_X0_isIn ml_X0_109 (by decide) (Nat.le_of_ble_eq_true rfl) rfl rfl rfl (fun r1 h2 hP => ?_)
  refine zV_if_ne (tgt := 20) dX0_begin_9 (by decide) (fun c => ?_) (fun c => ?_)
  · have hP := zif_n hP c
    refine zV_aload_n dX0_begin_20 rfl ?_
    refine zV_gf dX0_begin_21 sa_14 (by decide) fl_X0_344_0 rfl (ki := 26) rfl ?_
    refine zV_top (fun x2_3 e_x2_3 => ?_)
    have hP := hP x2_3 e_x2_3
    refine zV_istore_n (ls' := [zR 14, zI a1, zI x2_3]) dX0_begin_24 rfl (Nat.le_of_ble_eq_true rfl) rfl rfl ?_
    refine zV_aload_n dX0_begin_25 rfl ?_
    refine zV_iload_n dX0_begin_26 rfl ?_
    refine zV_pf dX0_begin_27 sa_14 (by decide) fl_X0_344_0 rfl rfl trivial (ki := 26) rfl (fun h4 e_h4 => ?_)
    have hP := hP h4 e_h4
    refine zV_aload_n dX0_begin_30 rfl ?_
    refine zV_dup dX0_begin_31 (Nat.ne_of_beq_eq_false rfl) ?_
    refine zV_gf dX0_begin_32 sa_14 (by decide) fl_X0_106_0 rfl (ki := 3) rfl ?_
    refine zV_iconst dX0_begin_35 ⟨by decide, by decide⟩ ?_
    refine zV_iadd dX0_begin_36 ?_
    refine zV_pf dX0_begin_37 sa_14 (by decide) fl_X0_106_0 rfl rfl trivial (ki := 3) rfl (fun h5 e_h5 => ?_)
    have hP := hP h5 e_h5
    refine zV_iload_n dX0_begin_40 rfl ?_
    exact zV_ireturn dX0_begin_41 rfl rfl rfl ⟨rfl, hP⟩
  · have hP := zif_p hP c
    refine zV_aload_n dX0_begin_12 rfl ?_
    refine zV_sipush dX0_begin_13 ⟨by decide, by decide, by decide⟩ ?_
    refine zV_cVk (As := [zI (-1001)]) (rest := []) dX0_begin_16 sa_14 (W_C_refused _ _ _ hP) mi_X0_refused ml_X0_124 (by decide) (Nat.le_of_ble_eq_true rfl) rfl rfl rfl (fun r6 h7 hP => ?_)
    exact zV_ireturn dX0_begin_19 rfl rfl rfl ⟨rfl, hP⟩
def P_C_forget (a1 : Int) (h : zH) (Q : Int → zH → Prop) : Prop :=
P_C_isIn a1 0 800 h (fun r1 h2 =>
if r1 = 0 then
(P_C_refused (-1001) h2 (fun r6 h7 =>
Q r6 h7))
else
(∀ x2_3 : Int, x2_3 = (zd h2 14 27) →
∀ h4 : zH, h4 = zw h2 14 27 a1 →
∀ h5 : zH, h5 = zw h4 14 3 (w32 ((zd h4 14 3) + 1)) →
Q x2_3 h5))
theorem W_C_forget (a1 : Int) (h : zH) (Q : Int → zH → Prop) (hP : P_C_forget a1 h Q) : zC true zy_X0_forget 2 [zR 14, zI a1] h (zQ0 Q) := by
  unfold P_C_forget at hP
  refine zC.of (by decide) (Nat.le_of_ble_eq_true rfl) ?_
  show zV true zy_X0_forget 2 0 [zR 14, zI a1, zU] [] h (zQ0 Q)
  refine zV_iload_n dX0_forget_0 rfl ?_
  refine zV_i2l dX0_forget_1 ?_
  refine zV_lconst (x := 0) dX0_forget_2 rfl ?_
  refine zV_ldc2c (x := 800) dX0_forget_3 (by decide) q1515 ⟨by decide, by decide⟩ ?_
  refine zV_cSk (As := [zJ a1, zJ 0, zJ 800]) (rest := []) dX0_forget_6 (W_C_isIn _ _ _ _ _ hP) mi_X0_isIn ml_X0_109 (by decide) (Nat.le_of_ble_eq_true rfl) rfl rfl rfl (fun r1 h2 hP => ?_)
  refine zV_if_ne (tgt := 20) dX0_forget_9 (by decide) (fun c => ?_) (fun c => ?_)
  · have hP := zif_n hP c
    refine zV_aload_n dX0_forget_20 rfl ?_
    refine zV_gf dX0_forget_21 sa_14 (by decide) fl_X0_349_0 rfl (ki := 27) rfl ?_
    refine zV_top (fun x2_3 e_x2_3 => ?_)
    have hP := hP x2_3 e_x2_3
    refine zV_istore_n (ls' := [zR 14, zI a1, zI x2_3]) dX0_forget_24 rfl (Nat.le_of_ble_eq_true rfl) rfl rfl ?_
    refine zV_aload_n dX0_forget_25 rfl ?_
    refine zV_iload_n dX0_forget_26 rfl ?_
    refine zV_pf dX0_forget_27 sa_14 (by decide) fl_X0_349_0 rfl rfl trivial (ki := 27) rfl (fun h4 e_h4 => ?_)
    have hP := hP h4 e_h4
    refine zV_aload_n dX0_forget_30 rfl ?_
    refine zV_dup dX0_forget_31 (Nat.ne_of_beq_eq_false rfl) ?_
    refine zV_gf dX0_forget_32 sa_14 (by decide) fl_X0_106_0 rfl (ki := 3) rfl ?_
    refine zV_iconst dX0_forget_35 ⟨by decide, by decide⟩ ?_
    refine zV_iadd dX0_forget_36 ?_
    refine zV_pf dX0_forget_37 sa_14 (by decide) fl_X0_106_0 rfl rfl trivial (ki := 3) rfl (fun h5 e_h5 => ?_)
    have hP := hP h5 e_h5
    refine zV_iload_n dX0_forget_40 rfl ?_
    exact zV_ireturn dX0_forget_41 rfl rfl rfl ⟨rfl, hP⟩
  · have hP := zif_p hP c
    refine zV_aload_n dX0_forget_12 rfl ?_
    refine zV_sipush dX0_forget_13 ⟨by decide, by decide, by decide⟩ ?_
    refine zV_cVk (As := [zI (-1001)]) (rest := []) dX0_forget_16 sa_14 (W_C_refused _ _ _ hP) mi_X0_refused ml_X0_124 (by decide) (Nat.le_of_ble_eq_true rfl) rfl rfl rfl (fun r6 h7 hP => ?_)
    exact zV_ireturn dX0_forget_19 rfl rfl rfl ⟨rfl, hP⟩
def P_C_beginMain (h : zH) (Q : Int → zH → Prop) : Prop :=
P_E_clear 25 h (fun r1 h2 =>
P_E_layCase 25 0 h2 (fun r3 h4 =>
∀ h5 : zH, h5 = zw h4 91 3 0 →
∀ h6 : zH, h6 = zw h5 91 1 (zd h5 14 2) →
∀ h7 : zH, h7 = zw h6 91 2 (zd h6 14 20) →
Q 0 h7))
theorem W_C_beginMain (h : zH) (Q : Int → zH → Prop) (hP : P_C_beginMain  h Q) : zC true zy_X0_beginMain 5 [zR 14] h (zQ0 Q) := by
  unfold P_C_beginMain at hP
  refine zC.of (by decide) (Nat.le_of_ble_eq_true rfl) ?_
  show zV true zy_X0_beginMain 5 0 [zR 14] [] h (zQ0 Q)
  refine zV_aload_n dX0_beginMain_0 rfl ?_
  refine zV_sg dX0_beginMain_1 fm_14_21 sa_14 (by decide) fl_X0_54_0 rfl ?_
  refine zV_cVv (As := []) (rest := []) dX0_beginMain_4 sa_25 (W_E_clear 25 (Or.inl rfl) _ _ hP) mi_X1_clear ml_X0_352 (by decide) (Nat.le_of_ble_eq_true rfl) rfl rfl (fun r1 h2 hP => ?_)
  refine zV_aload_n dX0_beginMain_7 rfl ?_
  refine zV_sg dX0_beginMain_8 fm_14_21 sa_14 (by decide) fl_X0_54_0 rfl ?_
  refine zV_null dX0_beginMain_11 ?_
  refine zV_cVv (As := [zR 0]) (rest := []) dX0_beginMain_12 sa_25 (W_E_layCase 25 (Or.inl rfl) _ _ _ hP) mi_X1_layCase ml_X0_355 (by decide) (Nat.le_of_ble_eq_true rfl) rfl rfl (fun r3 h4 hP => ?_)
  refine zV_aload_n dX0_beginMain_15 rfl ?_
  refine zV_sg dX0_beginMain_16 fm_14_23 sa_14 (by decide) fl_X0_64_0 rfl ?_
  refine zV_iconst dX0_beginMain_19 ⟨by decide, by decide⟩ ?_
  refine zV_pf dX0_beginMain_20 sa_91 (by decide) fl_X0_301_2 rfl rfl z0 (ki := 3) rfl (fun h5 e_h5 => ?_)
  have hP := hP h5 e_h5
  refine zV_aload_n dX0_beginMain_23 rfl ?_
  refine zV_sg dX0_beginMain_24 fm_14_23 sa_14 (by decide) fl_X0_64_0 rfl ?_
  refine zV_aload_n dX0_beginMain_27 rfl ?_
  refine zV_gf dX0_beginMain_28 sa_14 (by decide) fl_X0_100_0 rfl (ki := 2) rfl ?_
  refine zV_pf dX0_beginMain_31 sa_91 (by decide) fl_X0_359_2 rfl rfl trivial (ki := 1) rfl (fun h6 e_h6 => ?_)
  have hP := hP h6 e_h6
  refine zV_aload_n dX0_beginMain_34 rfl ?_
  refine zV_sg dX0_beginMain_35 fm_14_23 sa_14 (by decide) fl_X0_64_0 rfl ?_
  refine zV_aload_n dX0_beginMain_38 rfl ?_
  refine zV_gf dX0_beginMain_39 sa_14 (by decide) fl_X0_199_0 rfl (ki := 20) rfl ?_
  refine zV_pf dX0_beginMain_42 sa_91 (by decide) fl_X0_305_2 rfl rfl trivial (ki := 2) rfl (fun h7 e_h7 => ?_)
  have hP := hP h7 e_h7
  exact zV_return dX0_beginMain_45 rfl ⟨rfl, hP⟩
def P_C_searched_J57 (y2 : Int) (y3 : Int) (s0 : Int) (s1 : Int) (h : zH) (Q : Int → zH → Prop) (k24 : Int → zH → Prop) : Prop :=
(0 ≤ s1 ∧ s1 < 301) ∧
∀ h4 : zH, h4 = zw h 92 s1 (zbyte (zi2b s0)) →
∀ x3_5 : Int, x3_5 = w32 (y3 + 1) →
k24 x3_5 h4
theorem W_C_searched_J57 (y2 : Int) (y3 : Int) (s0 : Int) (s1 : Int) (h : zH) (Q : Int → zH → Prop) (k24 : Int → zH → Prop) (H24 : ∀ (v3 : Int) (h' : zH), k24 v3 h' → zV true zy_X0_searched 8 24 [zR 14, zU, zI y2, zI v3] [] h' (zQ0 Q)) (hP : P_C_searched_J57 y2 y3 s0 s1 h Q k24) : zV true zy_X0_searched 8 57 [zR 14, zU, zI y2, zI y3] [zI s0, zI s1, zR 92] h (zQ0 Q) := by
  unfold P_C_searched_J57 at hP
  refine zV_i2b dX0_searched_57 ?_
  obtain ⟨ob, hP⟩ := hP
  refine zV_bas dX0_searched_58 sa_92 ob (fun h4 e_h4 => ?_)
  have hP := hP h4 e_h4
  refine zV_inc (ls' := fun z => [zR 14, zU, zI y2, zI z]) dX0_searched_59 (Nat.le_of_ble_eq_true rfl) rfl rfl (fun _ => rfl) (fun x3_5 e_x3_5 => ?_)
  have hP := hP x3_5 e_x3_5
  refine zV_goto (tgt := 24) dX0_searched_62 (by decide) ?_
  exact H24 _ _ hP
def P_C_searched_L24 (y2 : Int) (Q : Int → zH → Prop) : Nat → Int → zH → Prop
| 0, _, _ => False
| n24 + 1, y3, h =>
if zd h 14 2 < y3 then
(Q y2 h)
else
((0 ≤ y3 ∧ y3 < 301) ∧
P_C_searched_J57 y2 y3 (if zd h 57 y3 ≤ 0 then 0 else 1) y3 h Q (P_C_searched_L24 y2 Q n24))
theorem W_C_searched_L24 (y2 : Int) (Q : Int → zH → Prop) : ∀ (n24 : Nat) (y3 : Int) (h : zH), P_C_searched_L24 y2 Q n24 y3 h → zV true zy_X0_searched 8 24 [zR 14, zU, zI y2, zI y3] [] h (zQ0 Q) := by
  intro n24
  induction n24 with
  | zero => intro y3 h hP; exact absurd hP id
  | succ n24 ih =>
    intro y3 h hP
    unfold P_C_searched_L24 at hP
    refine zV_iload_n dX0_searched_24 rfl ?_
    refine zV_aload_n dX0_searched_25 rfl ?_
    refine zV_gf dX0_searched_26 sa_14 (by decide) fl_X0_100_0 rfl (ki := 2) rfl ?_
    refine zV_icmp_gt (tgt := 65) dX0_searched_29 (by decide) (fun c => ?_) (fun c => ?_)
    · have hP := zif_p hP c
      refine zV_iload_n dX0_searched_65 rfl ?_
      exact zV_ireturn dX0_searched_66 rfl rfl rfl ⟨rfl, hP⟩
    · have hP := zif_n hP c
      refine zV_aload_n dX0_searched_32 rfl ?_
      refine zV_sg dX0_searched_33 fm_14_23 sa_14 (by decide) fl_X0_64_0 rfl ?_
      refine zV_sg dX0_searched_36 fm_91_0 sa_91 (by decide) fl_X0_363_2 rfl ?_
      refine zV_iload_n dX0_searched_39 rfl ?_
      refine zV_aload_n dX0_searched_40 rfl ?_
      refine zV_sg dX0_searched_41 fm_14_21 sa_14 (by decide) fl_X0_54_0 rfl ?_
      refine zV_sg dX0_searched_44 fm_25_56 sa_25 (by decide) fl_X0_366_1 rfl ?_
      refine zV_iload_n dX0_searched_47 rfl ?_
      obtain ⟨ob, hP⟩ := hP
      refine zV_ia dX0_searched_48 sa_57 ob ?_
      have K : zV true zy_X0_searched 8 57 [zR 14, zU, zI y2, zI y3] [zI (if zd h 57 y3 ≤ 0 then 0 else 1), zI y3, zR 92] h (zQ0 Q) := by
        exact W_C_searched_J57 _ _ _ _ _ _ _ ih hP
      clear hP
      refine zV_if_le (tgt := 56) dX0_searched_49 (by decide) (fun c => ?_) (fun c => ?_)
      · try simp only [if_pos c] at K
        refine zV_iconst dX0_searched_56 ⟨by decide, by decide⟩ ?_
        refine zV_mask [true, false, true, true] rfl ?_
        exact K
      · try simp only [if_neg c] at K
        refine zV_iconst dX0_searched_52 ⟨by decide, by decide⟩ ?_
        refine zV_goto (tgt := 57) dX0_searched_53 (by decide) ?_
        refine zV_mask [true, false, true, true] rfl ?_
        exact K
def P_C_searched (a1 : Int) (h : zH) (Q : Int → zH → Prop) : Prop :=
P_E_search 25 a1 h (fun r1 h2 =>
if r1 = 1 then
(∀ h3 : zH, h3 = zw h2 91 3 1 →
∃ n24, P_C_searched_L24 r1 Q n24 1 h3)
else
(Q r1 h2))
theorem W_C_searched (a1 : Int) (h : zH) (Q : Int → zH → Prop) (hP : P_C_searched a1 h Q) : zC true zy_X0_searched 8 [zR 14, zI a1] h (zQ0 Q) := by
  unfold P_C_searched at hP
  refine zC.of (by decide) (Nat.le_of_ble_eq_true rfl) ?_
  show zV true zy_X0_searched 8 0 [zR 14, zI a1, zU, zU] [] h (zQ0 Q)
  refine zV_aload_n dX0_searched_0 rfl ?_
  refine zV_sg dX0_searched_1 fm_14_21 sa_14 (by decide) fl_X0_54_0 rfl ?_
  refine zV_iload_n dX0_searched_4 rfl ?_
  refine zV_cVk (As := [zI a1]) (rest := []) dX0_searched_5 sa_25 (W_E_search 25 (Or.inl rfl) _ _ _ hP) mi_X1_search ml_X0_360 (by decide) (Nat.le_of_ble_eq_true rfl) rfl rfl rfl (fun r1 h2 hP => ?_)
  refine zV_istore_n (ls' := [zR 14, zI a1, zI r1, zU]) dX0_searched_8 rfl (Nat.le_of_ble_eq_true rfl) rfl rfl ?_
  refine zV_iload_n dX0_searched_9 rfl ?_
  refine zV_iconst dX0_searched_10 ⟨by decide, by decide⟩ ?_
  refine zV_icmp_ne (tgt := 65) dX0_searched_11 (by decide) (fun c => ?_) (fun c => ?_)
  · have hP := zif_n hP c
    refine zV_iload_n dX0_searched_65 rfl ?_
    exact zV_ireturn dX0_searched_66 rfl rfl rfl ⟨rfl, hP⟩
  · have hP := zif_p hP c
    refine zV_aload_n dX0_searched_14 rfl ?_
    refine zV_sg dX0_searched_15 fm_14_23 sa_14 (by decide) fl_X0_64_0 rfl ?_
    refine zV_iconst dX0_searched_18 ⟨by decide, by decide⟩ ?_
    refine zV_pf dX0_searched_19 sa_91 (by decide) fl_X0_301_2 rfl rfl z1 (ki := 3) rfl (fun h3 e_h3 => ?_)
    have hP := hP h3 e_h3
    refine zV_iconst dX0_searched_22 ⟨by decide, by decide⟩ ?_
    refine zV_istore_n (ls' := [zR 14, zI a1, zI r1, zI 1]) dX0_searched_23 rfl (Nat.le_of_ble_eq_true rfl) rfl rfl ?_
    obtain ⟨n24, hP⟩ := hP
    refine zV_mask [true, false, true, true] (ls' := [zR 14, zU, zI r1, zI 1]) rfl ?_
    refine W_C_searched_L24 _ _ n24 _ _ hP
def P_C_solve (a1 : Int) (h : zH) (Q : Int → zH → Prop) : Prop :=
P_C_isIn a1 1 5000 h (fun r1 h2 =>
if r1 = 0 then
(P_C_refused (-1001) h2 (fun r12 h13 =>
Q r12 h13))
else
(P_C_beginMain h2 (fun r3 h4 =>
∀ h5 : zH, h5 = zw h4 14 29 0 →
∀ h6 : zH, h6 = zw h5 25 28 (zd h5 14 25) →
(zt h6 93 = 50 ∧ zt h6 46 = 50 ∧ (0 : Int) ≤ 0 ∧ (0 : Int) ≤ 0 ∧ 0 ≤ zd h6 14 25 ∧ 0 + zd h6 14 25 ≤ zl h6 93 ∧ 0 + zd h6 14 25 ≤ zl h6 46) ∧
∀ h7 : zH, h7 = zcp h6 93 0 46 0 (zd h6 14 25) →
P_C_searched a1 h7 (fun r8 h9 =>
∀ h10 : zH, h10 = zw h9 14 28 (if r8 = (-1004) then 1 else 0) →
∀ h11 : zH, h11 = zw h10 14 30 (zd h10 14 3) →
Q r8 h11))))
theorem W_C_solve (a1 : Int) (h : zH) (Q : Int → zH → Prop) (hP : P_C_solve a1 h Q) : zC true zy_X0_solve 9 [zR 14, zI a1] h (zQ0 Q) := by
  unfold P_C_solve at hP
  refine zC.of (by decide) (Nat.le_of_ble_eq_true rfl) ?_
  show zV true zy_X0_solve 9 0 [zR 14, zI a1, zU] [] h (zQ0 Q)
  refine zV_iload_n dX0_solve_0 rfl ?_
  refine zV_i2l dX0_solve_1 ?_
  refine zV_lconst (x := 1) dX0_solve_2 rfl ?_
  refine zV_ldc2c (x := 5000) dX0_solve_3 (by decide) q1520 ⟨by decide, by decide⟩ ?_
  refine zV_cSk (As := [zJ a1, zJ 1, zJ 5000]) (rest := []) dX0_solve_6 (W_C_isIn _ _ _ _ _ hP) mi_X0_isIn ml_X0_109 (by decide) (Nat.le_of_ble_eq_true rfl) rfl rfl rfl (fun r1 h2 hP => ?_)
  refine zV_if_ne (tgt := 20) dX0_solve_9 (by decide) (fun c => ?_) (fun c => ?_)
  · have hP := zif_n hP c
    refine zV_aload_n dX0_solve_20 rfl ?_
    refine zV_cVv (As := []) (rest := []) dX0_solve_21 sa_14 (W_C_beginMain _ _ hP) mi_X0_beginMain ml_X0_371 (by decide) (Nat.le_of_ble_eq_true rfl) rfl rfl (fun r3 h4 hP => ?_)
    refine zV_aload_n dX0_solve_24 rfl ?_
    refine zV_iconst dX0_solve_25 ⟨by decide, by decide⟩ ?_
    refine zV_pf dX0_solve_26 sa_14 (by decide) fl_X0_374_0 rfl rfl z0 (ki := 29) rfl (fun h5 e_h5 => ?_)
    have hP := hP h5 e_h5
    refine zV_aload_n dX0_solve_29 rfl ?_
    refine zV_sg dX0_solve_30 fm_14_21 sa_14 (by decide) fl_X0_54_0 rfl ?_
    refine zV_aload_n dX0_solve_33 rfl ?_
    refine zV_gf dX0_solve_34 sa_14 (by decide) fl_X0_324_0 rfl (ki := 25) rfl ?_
    refine zV_pf dX0_solve_37 sa_25 (by decide) fl_X0_377_1 rfl rfl trivial (ki := 28) rfl (fun h6 e_h6 => ?_)
    have hP := hP h6 e_h6
    refine zV_aload_n dX0_solve_40 rfl ?_
    refine zV_sg dX0_solve_41 fm_14_24 sa_14 (by decide) fl_X0_68_0 rfl ?_
    refine zV_iconst dX0_solve_44 ⟨by decide, by decide⟩ ?_
    refine zV_aload_n dX0_solve_45 rfl ?_
    refine zV_sg dX0_solve_46 fm_14_21 sa_14 (by decide) fl_X0_54_0 rfl ?_
    refine zV_sg dX0_solve_49 fm_25_27 sa_25 (by decide) fl_X0_378_1 rfl ?_
    refine zV_iconst dX0_solve_52 ⟨by decide, by decide⟩ ?_
    refine zV_aload_n dX0_solve_53 rfl ?_
    refine zV_gf dX0_solve_54 sa_14 (by decide) fl_X0_324_0 rfl (ki := 25) rfl ?_
    obtain ⟨ob, hP⟩ := hP
    refine zV_cpi dX0_solve_57 q757 ob (Nat.le_of_ble_eq_true rfl) (by decide) (fun h7 e_h7 => ?_)
    have hP := hP h7 e_h7
    refine zV_aload_n dX0_solve_60 rfl ?_
    refine zV_iload_n dX0_solve_61 rfl ?_
    refine zV_cVk (As := [zI a1]) (rest := []) dX0_solve_62 sa_14 (W_C_searched _ _ _ hP) mi_X0_searched ml_X0_379 (by decide) (Nat.le_of_ble_eq_true rfl) rfl rfl rfl (fun r8 h9 hP => ?_)
    refine zV_istore_n (ls' := [zR 14, zI a1, zI r8]) dX0_solve_65 rfl (Nat.le_of_ble_eq_true rfl) rfl rfl ?_
    refine zV_aload_n dX0_solve_66 rfl ?_
    refine zV_iload_n dX0_solve_67 rfl ?_
    refine zV_sipush dX0_solve_68 ⟨by decide, by decide, by decide⟩ ?_
    have K : zV true zy_X0_solve 9 79 [zR 14, zU, zI r8] [zI (if r8 = (-1004) then 1 else 0), zR 14] h9 (zQ0 Q) := by
      refine zV_pf dX0_solve_79 sa_14 (by decide) fl_X0_382_0 rfl rfl (z01_if z1 z0) (ki := 28) rfl (fun h10 e_h10 => ?_)
      have hP := hP h10 e_h10
      refine zV_aload_n dX0_solve_82 rfl ?_
      refine zV_aload_n dX0_solve_83 rfl ?_
      refine zV_gf dX0_solve_84 sa_14 (by decide) fl_X0_106_0 rfl (ki := 3) rfl ?_
      refine zV_pf dX0_solve_87 sa_14 (by decide) fl_X0_385_0 rfl rfl trivial (ki := 30) rfl (fun h11 e_h11 => ?_)
      have hP := hP h11 e_h11
      refine zV_iload_n dX0_solve_90 rfl ?_
      exact zV_ireturn dX0_solve_91 rfl rfl rfl ⟨rfl, hP⟩
    clear hP
    refine zV_icmp_ne (tgt := 78) dX0_solve_71 (by decide) (fun c => ?_) (fun c => ?_)
    · try simp only [if_neg c] at K
      refine zV_iconst dX0_solve_78 ⟨by decide, by decide⟩ ?_
      refine zV_mask [true, false, true] rfl ?_
      exact K
    · try simp only [if_pos c] at K
      refine zV_iconst dX0_solve_74 ⟨by decide, by decide⟩ ?_
      refine zV_goto (tgt := 79) dX0_solve_75 (by decide) ?_
      refine zV_mask [true, false, true] rfl ?_
      exact K
  · have hP := zif_p hP c
    refine zV_aload_n dX0_solve_12 rfl ?_
    refine zV_sipush dX0_solve_13 ⟨by decide, by decide, by decide⟩ ?_
    refine zV_cVk (As := [zI (-1001)]) (rest := []) dX0_solve_16 sa_14 (W_C_refused _ _ _ hP) mi_X0_refused ml_X0_124 (by decide) (Nat.le_of_ble_eq_true rfl) rfl rfl rfl (fun r12 h13 hP => ?_)
    exact zV_ireturn dX0_solve_19 rfl rfl rfl ⟨rfl, hP⟩
def P_C_goOn (a1 : Int) (h : zH) (Q : Int → zH → Prop) : Prop :=
P_C_isIn a1 1 5000 h (fun r1 h2 =>
if r1 = 0 then
(P_C_refused (-1001) h2 (fun r10 h11 =>
Q r10 h11))
else
(if zd h2 14 28 = 0 then
(P_C_refused (-1002) h2 (fun r3 h4 =>
Q r3 h4))
else
(if zd h2 14 30 = zd h2 14 3 then
(P_C_searched a1 h2 (fun r5 h6 =>
∀ h7 : zH, h7 = zw h6 14 28 (if r5 = (-1004) then 1 else 0) →
Q r5 h7))
else
(P_C_refused (-1002) h2 (fun r8 h9 =>
Q r8 h9)))))
theorem W_C_goOn (a1 : Int) (h : zH) (Q : Int → zH → Prop) (hP : P_C_goOn a1 h Q) : zC true zy_X0_goOn 9 [zR 14, zI a1] h (zQ0 Q) := by
  unfold P_C_goOn at hP
  refine zC.of (by decide) (Nat.le_of_ble_eq_true rfl) ?_
  show zV true zy_X0_goOn 9 0 [zR 14, zI a1, zU] [] h (zQ0 Q)
  refine zV_iload_n dX0_goOn_0 rfl ?_
  refine zV_i2l dX0_goOn_1 ?_
  refine zV_lconst (x := 1) dX0_goOn_2 rfl ?_
  refine zV_ldc2c (x := 5000) dX0_goOn_3 (by decide) q1520 ⟨by decide, by decide⟩ ?_
  refine zV_cSk (As := [zJ a1, zJ 1, zJ 5000]) (rest := []) dX0_goOn_6 (W_C_isIn _ _ _ _ _ hP) mi_X0_isIn ml_X0_109 (by decide) (Nat.le_of_ble_eq_true rfl) rfl rfl rfl (fun r1 h2 hP => ?_)
  refine zV_if_ne (tgt := 20) dX0_goOn_9 (by decide) (fun c => ?_) (fun c => ?_)
  · have hP := zif_n hP c
    refine zV_aload_n dX0_goOn_20 rfl ?_
    refine zV_gf dX0_goOn_21 sa_14 (by decide) fl_X0_382_0 rfl (ki := 28) rfl ?_
    refine zV_if_eq (tgt := 38) dX0_goOn_24 (by decide) (fun c => ?_) (fun c => ?_)
    · have hP := zif_p hP c
      refine zV_aload_n dX0_goOn_38 rfl ?_
      refine zV_sipush dX0_goOn_39 ⟨by decide, by decide, by decide⟩ ?_
      refine zV_cVk (As := [zI (-1002)]) (rest := []) dX0_goOn_42 sa_14 (W_C_refused _ _ _ hP) mi_X0_refused ml_X0_124 (by decide) (Nat.le_of_ble_eq_true rfl) rfl rfl rfl (fun r3 h4 hP => ?_)
      exact zV_ireturn dX0_goOn_45 rfl rfl rfl ⟨rfl, hP⟩
    · have hP := zif_n hP c
      refine zV_aload_n dX0_goOn_27 rfl ?_
      refine zV_gf dX0_goOn_28 sa_14 (by decide) fl_X0_385_0 rfl (ki := 30) rfl ?_
      refine zV_aload_n dX0_goOn_31 rfl ?_
      refine zV_gf dX0_goOn_32 sa_14 (by decide) fl_X0_106_0 rfl (ki := 3) rfl ?_
      refine zV_icmp_eq (tgt := 46) dX0_goOn_35 (by decide) (fun c => ?_) (fun c => ?_)
      · have hP := zif_p hP c
        refine zV_aload_n dX0_goOn_46 rfl ?_
        refine zV_iload_n dX0_goOn_47 rfl ?_
        refine zV_cVk (As := [zI a1]) (rest := []) dX0_goOn_48 sa_14 (W_C_searched _ _ _ hP) mi_X0_searched ml_X0_379 (by decide) (Nat.le_of_ble_eq_true rfl) rfl rfl rfl (fun r5 h6 hP => ?_)
        refine zV_istore_n (ls' := [zR 14, zI a1, zI r5]) dX0_goOn_51 rfl (Nat.le_of_ble_eq_true rfl) rfl rfl ?_
        refine zV_aload_n dX0_goOn_52 rfl ?_
        refine zV_iload_n dX0_goOn_53 rfl ?_
        refine zV_sipush dX0_goOn_54 ⟨by decide, by decide, by decide⟩ ?_
        have K : zV true zy_X0_goOn 9 65 [zU, zU, zI r5] [zI (if r5 = (-1004) then 1 else 0), zR 14] h6 (zQ0 Q) := by
          refine zV_pf dX0_goOn_65 sa_14 (by decide) fl_X0_382_0 rfl rfl (z01_if z1 z0) (ki := 28) rfl (fun h7 e_h7 => ?_)
          have hP := hP h7 e_h7
          refine zV_iload_n dX0_goOn_68 rfl ?_
          exact zV_ireturn dX0_goOn_69 rfl rfl rfl ⟨rfl, hP⟩
        clear hP
        refine zV_icmp_ne (tgt := 64) dX0_goOn_57 (by decide) (fun c => ?_) (fun c => ?_)
        · try simp only [if_neg c] at K
          refine zV_iconst dX0_goOn_64 ⟨by decide, by decide⟩ ?_
          refine zV_mask [false, false, true] rfl ?_
          exact K
        · try simp only [if_pos c] at K
          refine zV_iconst dX0_goOn_60 ⟨by decide, by decide⟩ ?_
          refine zV_goto (tgt := 65) dX0_goOn_61 (by decide) ?_
          refine zV_mask [false, false, true] rfl ?_
          exact K
      · have hP := zif_n hP c
        refine zV_aload_n dX0_goOn_38 rfl ?_
        refine zV_sipush dX0_goOn_39 ⟨by decide, by decide, by decide⟩ ?_
        refine zV_cVk (As := [zI (-1002)]) (rest := []) dX0_goOn_42 sa_14 (W_C_refused _ _ _ hP) mi_X0_refused ml_X0_124 (by decide) (Nat.le_of_ble_eq_true rfl) rfl rfl rfl (fun r8 h9 hP => ?_)
        exact zV_ireturn dX0_goOn_45 rfl rfl rfl ⟨rfl, hP⟩
  · have hP := zif_p hP c
    refine zV_aload_n dX0_goOn_12 rfl ?_
    refine zV_sipush dX0_goOn_13 ⟨by decide, by decide, by decide⟩ ?_
    refine zV_cVk (As := [zI (-1001)]) (rest := []) dX0_goOn_16 sa_14 (W_C_refused _ _ _ hP) mi_X0_refused ml_X0_124 (by decide) (Nat.le_of_ble_eq_true rfl) rfl rfl rfl (fun r10 h11 hP => ?_)
    exact zV_ireturn dX0_goOn_19 rfl rfl rfl ⟨rfl, hP⟩
def P_C_truth (a1 : Int) (h : zH) (Q : Int → zH → Prop) : Prop :=
P_C_isName a1 h (fun r1 h2 =>
if r1 = 0 then
(P_C_refused (-1001) h2 (fun r5 h6 =>
Q r5 h6))
else
(if zd h2 91 3 = 0 then
(P_C_refused (-1002) h2 (fun r3 h4 =>
Q r3 h4))
else
((if zd h2 91 1 < a1 then True else (0 ≤ a1 ∧ a1 < 301) ∧ True) ∧
Q (if zd h2 91 1 < a1 then (-1005) else zd h2 92 a1) h2)))
theorem W_C_truth (a1 : Int) (h : zH) (Q : Int → zH → Prop) (hP : P_C_truth a1 h Q) : zC true zy_X0_truth 3 [zR 14, zI a1] h (zQ0 Q) := by
  unfold P_C_truth at hP
  refine zC.of (by decide) (Nat.le_of_ble_eq_true rfl) ?_
  show zV true zy_X0_truth 3 0 [zR 14, zI a1] [] h (zQ0 Q)
  refine zV_aload_n dX0_truth_0 rfl ?_
  refine zV_iload_n dX0_truth_1 rfl ?_
  refine zV_cVk (As := [zI a1]) (rest := []) dX0_truth_2 sa_14 (W_C_isName _ _ _ hP) mi_X0_isName ml_X0_327 (by decide) (Nat.le_of_ble_eq_true rfl) rfl rfl rfl (fun r1 h2 hP => ?_)
  refine zV_if_ne (tgt := 16) dX0_truth_5 (by decide) (fun c => ?_) (fun c => ?_)
  · have hP := zif_n hP c
    refine zV_aload_n dX0_truth_16 rfl ?_
    refine zV_sg dX0_truth_17 fm_14_23 sa_14 (by decide) fl_X0_64_0 rfl ?_
    refine zV_gf dX0_truth_20 sa_91 (by decide) fl_X0_301_2 rfl (ki := 3) rfl ?_
    refine zV_if_ne (tgt := 34) dX0_truth_23 (by decide) (fun c => ?_) (fun c => ?_)
    · have hP := zif_n hP c
      refine zV_iload_n dX0_truth_34 rfl ?_
      refine zV_aload_n dX0_truth_35 rfl ?_
      refine zV_sg dX0_truth_36 fm_14_23 sa_14 (by decide) fl_X0_64_0 rfl ?_
      refine zV_gf dX0_truth_39 sa_91 (by decide) fl_X0_359_2 rfl (ki := 1) rfl ?_
      obtain ⟨hO, hP⟩ := hP
      have K : zV true zy_X0_truth 3 60 [zU, zU] [zI (if zd h2 91 1 < a1 then (-1005) else zd h2 92 a1)] h2 (zQ0 Q) := by
        exact zV_ireturn dX0_truth_60 rfl rfl rfl ⟨rfl, hP⟩
      clear hP
      refine zV_icmp_gt (tgt := 57) dX0_truth_42 (by decide) (fun c => ?_) (fun c => ?_)
      · try simp only [if_pos c] at K
        have hO := zif_p hO c
        refine zV_sipush dX0_truth_57 ⟨by decide, by decide, by decide⟩ ?_
        refine zV_mask [false, false] rfl ?_
        exact K
      · try simp only [if_neg c] at K
        have hO := zif_n hO c
        refine zV_aload_n dX0_truth_45 rfl ?_
        refine zV_sg dX0_truth_46 fm_14_23 sa_14 (by decide) fl_X0_64_0 rfl ?_
        refine zV_sg dX0_truth_49 fm_91_0 sa_91 (by decide) fl_X0_363_2 rfl ?_
        refine zV_iload_n dX0_truth_52 rfl ?_
        obtain ⟨ob, hO⟩ := hO
        refine zV_ba dX0_truth_53 sa_92 ob ?_
        refine zV_goto (tgt := 60) dX0_truth_54 (by decide) ?_
        refine zV_mask [false, false] rfl ?_
        exact K
    · have hP := zif_p hP c
      refine zV_aload_n dX0_truth_26 rfl ?_
      refine zV_sipush dX0_truth_27 ⟨by decide, by decide, by decide⟩ ?_
      refine zV_cVk (As := [zI (-1002)]) (rest := []) dX0_truth_30 sa_14 (W_C_refused _ _ _ hP) mi_X0_refused ml_X0_124 (by decide) (Nat.le_of_ble_eq_true rfl) rfl rfl rfl (fun r3 h4 hP => ?_)
      exact zV_ireturn dX0_truth_33 rfl rfl rfl ⟨rfl, hP⟩
  · have hP := zif_p hP c
    refine zV_aload_n dX0_truth_8 rfl ?_
    refine zV_sipush dX0_truth_9 ⟨by decide, by decide, by decide⟩ ?_
    refine zV_cVk (As := [zI (-1001)]) (rest := []) dX0_truth_12 sa_14 (W_C_refused _ _ _ hP) mi_X0_refused ml_X0_124 (by decide) (Nat.le_of_ble_eq_true rfl) rfl rfl rfl (fun r5 h6 hP => ?_)
    exact zV_ireturn dX0_truth_15 rfl rfl rfl ⟨rfl, hP⟩
def P_C_solved (a1 : Int) (h : zH) (Q : Int → zH → Prop) : Prop :=
if a1 = 0 then
(Q (zd h 25 29) h)
else
(if a1 = 1 then
(Q (zd h 25 30) h)
else
(if a1 = 2 then
(Q (zd h 25 32) h)
else
(if a1 = 3 then
(Q (zd h 25 33) h)
else
(if a1 = 4 then
(Q (zd h 25 34) h)
else
(if a1 = 5 then
(Q (zd h 25 35) h)
else
(if a1 = 6 then
(Q (zd h 25 36) h)
else
(if a1 = 7 then
(Q (zd h 25 37) h)
else
(if a1 = 8 then
(Q (zd h 25 25) h)
else
(if a1 = 9 then
(Q (zd h 25 38) h)
else
(P_C_refused (-1001) h (fun r1 h2 =>
Q r1 h2)))))))))))
theorem W_C_solved (a1 : Int) (h : zH) (Q : Int → zH → Prop) (hP : P_C_solved a1 h Q) : zC true zy_X0_solved 2 [zR 14, zI a1] h (zQ0 Q) := by
  unfold P_C_solved at hP
  refine zC.of (by decide) (Nat.le_of_ble_eq_true rfl) ?_
  show zV true zy_X0_solved 2 0 [zR 14, zI a1] [] h (zQ0 Q)
  refine zV_iload_n dX0_solved_0 rfl ?_
  by_cases c : a1 = 0
  · have hP := zif_p hP c
    refine zV_ts (tgt := 56) dX0_solved_1 0 c ⟨by decide, by decide⟩ rfl (by decide) ?_
    refine zV_aload_n dX0_solved_56 rfl ?_
    refine zV_sg dX0_solved_57 fm_14_21 sa_14 (by decide) fl_X0_54_0 rfl ?_
    refine zV_gf dX0_solved_60 sa_25 (by decide) fl_X0_388_1 rfl (ki := 29) rfl ?_
    exact zV_ireturn dX0_solved_63 rfl rfl rfl ⟨rfl, hP⟩
  · have hP := zif_n hP c
    have n0 := c
    by_cases c : a1 = 1
    · have hP := zif_p hP c
      refine zV_ts (tgt := 64) dX0_solved_1 1 c ⟨by decide, by decide⟩ rfl (by decide) ?_
      refine zV_aload_n dX0_solved_64 rfl ?_
      refine zV_sg dX0_solved_65 fm_14_21 sa_14 (by decide) fl_X0_54_0 rfl ?_
      refine zV_gf dX0_solved_68 sa_25 (by decide) fl_X0_391_1 rfl (ki := 30) rfl ?_
      exact zV_ireturn dX0_solved_71 rfl rfl rfl ⟨rfl, hP⟩
    · have hP := zif_n hP c
      have n1 := c
      by_cases c : a1 = 2
      · have hP := zif_p hP c
        refine zV_ts (tgt := 72) dX0_solved_1 2 c ⟨by decide, by decide⟩ rfl (by decide) ?_
        refine zV_aload_n dX0_solved_72 rfl ?_
        refine zV_sg dX0_solved_73 fm_14_21 sa_14 (by decide) fl_X0_54_0 rfl ?_
        refine zV_gf dX0_solved_76 sa_25 (by decide) fl_X0_394_1 rfl (ki := 32) rfl ?_
        exact zV_ireturn dX0_solved_79 rfl rfl rfl ⟨rfl, hP⟩
      · have hP := zif_n hP c
        have n2 := c
        by_cases c : a1 = 3
        · have hP := zif_p hP c
          refine zV_ts (tgt := 80) dX0_solved_1 3 c ⟨by decide, by decide⟩ rfl (by decide) ?_
          refine zV_aload_n dX0_solved_80 rfl ?_
          refine zV_sg dX0_solved_81 fm_14_21 sa_14 (by decide) fl_X0_54_0 rfl ?_
          refine zV_gf dX0_solved_84 sa_25 (by decide) fl_X0_397_1 rfl (ki := 33) rfl ?_
          exact zV_ireturn dX0_solved_87 rfl rfl rfl ⟨rfl, hP⟩
        · have hP := zif_n hP c
          have n3 := c
          by_cases c : a1 = 4
          · have hP := zif_p hP c
            refine zV_ts (tgt := 88) dX0_solved_1 4 c ⟨by decide, by decide⟩ rfl (by decide) ?_
            refine zV_aload_n dX0_solved_88 rfl ?_
            refine zV_sg dX0_solved_89 fm_14_21 sa_14 (by decide) fl_X0_54_0 rfl ?_
            refine zV_gf dX0_solved_92 sa_25 (by decide) fl_X0_400_1 rfl (ki := 34) rfl ?_
            exact zV_ireturn dX0_solved_95 rfl rfl rfl ⟨rfl, hP⟩
          · have hP := zif_n hP c
            have n4 := c
            by_cases c : a1 = 5
            · have hP := zif_p hP c
              refine zV_ts (tgt := 96) dX0_solved_1 5 c ⟨by decide, by decide⟩ rfl (by decide) ?_
              refine zV_aload_n dX0_solved_96 rfl ?_
              refine zV_sg dX0_solved_97 fm_14_21 sa_14 (by decide) fl_X0_54_0 rfl ?_
              refine zV_gf dX0_solved_100 sa_25 (by decide) fl_X0_403_1 rfl (ki := 35) rfl ?_
              exact zV_ireturn dX0_solved_103 rfl rfl rfl ⟨rfl, hP⟩
            · have hP := zif_n hP c
              have n5 := c
              by_cases c : a1 = 6
              · have hP := zif_p hP c
                refine zV_ts (tgt := 104) dX0_solved_1 6 c ⟨by decide, by decide⟩ rfl (by decide) ?_
                refine zV_aload_n dX0_solved_104 rfl ?_
                refine zV_sg dX0_solved_105 fm_14_21 sa_14 (by decide) fl_X0_54_0 rfl ?_
                refine zV_gf dX0_solved_108 sa_25 (by decide) fl_X0_406_1 rfl (ki := 36) rfl ?_
                exact zV_ireturn dX0_solved_111 rfl rfl rfl ⟨rfl, hP⟩
              · have hP := zif_n hP c
                have n6 := c
                by_cases c : a1 = 7
                · have hP := zif_p hP c
                  refine zV_ts (tgt := 112) dX0_solved_1 7 c ⟨by decide, by decide⟩ rfl (by decide) ?_
                  refine zV_aload_n dX0_solved_112 rfl ?_
                  refine zV_sg dX0_solved_113 fm_14_21 sa_14 (by decide) fl_X0_54_0 rfl ?_
                  refine zV_gf dX0_solved_116 sa_25 (by decide) fl_X0_409_1 rfl (ki := 37) rfl ?_
                  exact zV_ireturn dX0_solved_119 rfl rfl rfl ⟨rfl, hP⟩
                · have hP := zif_n hP c
                  have n7 := c
                  by_cases c : a1 = 8
                  · have hP := zif_p hP c
                    refine zV_ts (tgt := 120) dX0_solved_1 8 c ⟨by decide, by decide⟩ rfl (by decide) ?_
                    refine zV_aload_n dX0_solved_120 rfl ?_
                    refine zV_sg dX0_solved_121 fm_14_21 sa_14 (by decide) fl_X0_54_0 rfl ?_
                    refine zV_gf dX0_solved_124 sa_25 (by decide) fl_X0_412_1 rfl (ki := 25) rfl ?_
                    exact zV_ireturn dX0_solved_127 rfl rfl rfl ⟨rfl, hP⟩
                  · have hP := zif_n hP c
                    have n8 := c
                    by_cases c : a1 = 9
                    · have hP := zif_p hP c
                      refine zV_ts (tgt := 128) dX0_solved_1 9 c ⟨by decide, by decide⟩ rfl (by decide) ?_
                      refine zV_aload_n dX0_solved_128 rfl ?_
                      refine zV_sg dX0_solved_129 fm_14_21 sa_14 (by decide) fl_X0_54_0 rfl ?_
                      refine zV_gf dX0_solved_132 sa_25 (by decide) fl_X0_415_1 rfl (ki := 38) rfl ?_
                      exact zV_ireturn dX0_solved_135 rfl rfl rfl ⟨rfl, hP⟩
                    · have hP := zif_n hP c
                      have n9 := c
                      refine zV_tsd (tgt := 136) dX0_solved_1 (by omega) (by decide) ?_
                      refine zV_aload_n dX0_solved_136 rfl ?_
                      refine zV_sipush dX0_solved_137 ⟨by decide, by decide, by decide⟩ ?_
                      refine zV_cVk (As := [zI (-1001)]) (rest := []) dX0_solved_140 sa_14 (W_C_refused _ _ _ hP) mi_X0_refused ml_X0_124 (by decide) (Nat.le_of_ble_eq_true rfl) rfl rfl rfl (fun r1 h2 hP => ?_)
                      exact zV_ireturn dX0_solved_143 rfl rfl rfl ⟨rfl, hP⟩
def P_C_quarrel (a1 : Int) (h : zH) (Q : Int → zH → Prop) : Prop :=
P_C_isIn a1 0 4 h (fun r1 h2 =>
if r1 = 0 then
(P_C_refused (-1001) h2 (fun r3 h4 =>
Q r3 h4))
else
((if zd h2 25 42 = 0 then True else (0 ≤ a1 ∧ a1 < 5) ∧ True) ∧
Q (if zd h2 25 42 = 0 then (-1005) else zd h2 47 a1) h2))
theorem W_C_quarrel (a1 : Int) (h : zH) (Q : Int → zH → Prop) (hP : P_C_quarrel a1 h Q) : zC true zy_X0_quarrel 2 [zR 14, zI a1] h (zQ0 Q) := by
  unfold P_C_quarrel at hP
  refine zC.of (by decide) (Nat.le_of_ble_eq_true rfl) ?_
  show zV true zy_X0_quarrel 2 0 [zR 14, zI a1] [] h (zQ0 Q)
  refine zV_iload_n dX0_quarrel_0 rfl ?_
  refine zV_i2l dX0_quarrel_1 ?_
  refine zV_lconst (x := 0) dX0_quarrel_2 rfl ?_
  refine zV_ldc2c (x := 4) dX0_quarrel_3 (by decide) q1179 ⟨by decide, by decide⟩ ?_
  refine zV_cSk (As := [zJ a1, zJ 0, zJ 4]) (rest := []) dX0_quarrel_6 (W_C_isIn _ _ _ _ _ hP) mi_X0_isIn ml_X0_109 (by decide) (Nat.le_of_ble_eq_true rfl) rfl rfl rfl (fun r1 h2 hP => ?_)
  refine zV_if_ne (tgt := 20) dX0_quarrel_9 (by decide) (fun c => ?_) (fun c => ?_)
  · have hP := zif_n hP c
    refine zV_aload_n dX0_quarrel_20 rfl ?_
    refine zV_sg dX0_quarrel_21 fm_14_21 sa_14 (by decide) fl_X0_54_0 rfl ?_
    refine zV_gf dX0_quarrel_24 sa_25 (by decide) fl_X0_418_1 rfl (ki := 42) rfl ?_
    obtain ⟨hO, hP⟩ := hP
    have K : zV true zy_X0_quarrel 2 45 [zU, zU] [zI (if zd h2 25 42 = 0 then (-1005) else zd h2 47 a1)] h2 (zQ0 Q) := by
      exact zV_ireturn dX0_quarrel_45 rfl rfl rfl ⟨rfl, hP⟩
    clear hP
    refine zV_if_eq (tgt := 42) dX0_quarrel_27 (by decide) (fun c => ?_) (fun c => ?_)
    · try simp only [if_pos c] at K
      have hO := zif_p hO c
      refine zV_sipush dX0_quarrel_42 ⟨by decide, by decide, by decide⟩ ?_
      refine zV_mask [false, false] rfl ?_
      exact K
    · try simp only [if_neg c] at K
      have hO := zif_n hO c
      refine zV_aload_n dX0_quarrel_30 rfl ?_
      refine zV_sg dX0_quarrel_31 fm_14_21 sa_14 (by decide) fl_X0_54_0 rfl ?_
      refine zV_sg dX0_quarrel_34 fm_25_41 sa_25 (by decide) fl_X0_421_1 rfl ?_
      refine zV_iload_n dX0_quarrel_37 rfl ?_
      obtain ⟨ob, hO⟩ := hO
      refine zV_ia dX0_quarrel_38 sa_47 ob ?_
      refine zV_goto (tgt := 45) dX0_quarrel_39 (by decide) ?_
      refine zV_mask [false, false] rfl ?_
      exact K
  · have hP := zif_p hP c
    refine zV_aload_n dX0_quarrel_12 rfl ?_
    refine zV_sipush dX0_quarrel_13 ⟨by decide, by decide, by decide⟩ ?_
    refine zV_cVk (As := [zI (-1001)]) (rest := []) dX0_quarrel_16 sa_14 (W_C_refused _ _ _ hP) mi_X0_refused ml_X0_124 (by decide) (Nat.le_of_ble_eq_true rfl) rfl rfl rfl (fun r3 h4 hP => ?_)
    exact zV_ireturn dX0_quarrel_19 rfl rfl rfl ⟨rfl, hP⟩
def P_C_at (a1 : Int) (a2 : Int) (a3 : Int) (a4 : Int) (h : zH) (Q : Int → zH → Prop) : Prop :=
if a4 = (-1) then
(Q (w32 (a3 - a2)) h)
else
(P_C_isIn a4 0 (w32 ((w32 (a3 - a2)) - 1)) h (fun r1 h2 =>
(if r1 = 0 then True else (zt h2 a1 = 50 ∧ 0 ≤ w32 (a2 + a4) ∧ w32 (a2 + a4) < zl h2 a1) ∧ True) ∧
Q (if r1 = 0 then (-1005) else zd h2 a1 (w32 (a2 + a4))) h2))
theorem W_C_at (a1 : Int) (a2 : Int) (a3 : Int) (a4 : Int) (h : zH) (Q : Int → zH → Prop) (hP : P_C_at a1 a2 a3 a4 h Q) : zC true zy_X0_at 2 [zR a1, zI a2, zI a3, zI a4] h (zQ0 Q) := by
  unfold P_C_at at hP
  refine zC.of (by decide) (Nat.le_of_ble_eq_true rfl) ?_
  show zV true zy_X0_at 2 0 [zR a1, zI a2, zI a3, zI a4] [] h (zQ0 Q)
  refine zV_iload_n dX0_at_0 rfl ?_
  refine zV_iconst dX0_at_1 ⟨by decide, by decide⟩ ?_
  refine zV_icmp_ne (tgt := 11) dX0_at_2 (by decide) (fun c => ?_) (fun c => ?_)
  · have hP := zif_n hP c
    refine zV_iload_n dX0_at_11 rfl ?_
    refine zV_i2l dX0_at_12 ?_
    refine zV_lconst (x := 0) dX0_at_13 rfl ?_
    refine zV_iload_n dX0_at_14 rfl ?_
    refine zV_iload_n dX0_at_15 rfl ?_
    refine zV_isub dX0_at_16 ?_
    refine zV_iconst dX0_at_17 ⟨by decide, by decide⟩ ?_
    refine zV_isub dX0_at_18 ?_
    refine zV_i2l dX0_at_19 ?_
    refine zV_cSk (As := [zJ a4, zJ 0, zJ (w32 ((w32 (a3 - a2)) - 1))]) (rest := []) dX0_at_20 (W_C_isIn _ _ _ _ _ hP) mi_X0_isIn ml_X0_109 (by decide) (Nat.le_of_ble_eq_true rfl) rfl rfl rfl (fun r1 h2 hP => ?_)
    obtain ⟨hO, hP⟩ := hP
    have K : zV true zy_X0_at 2 37 [zU, zU, zU, zU] [zI (if r1 = 0 then (-1005) else zd h2 a1 (w32 (a2 + a4)))] h2 (zQ0 Q) := by
      exact zV_ireturn dX0_at_37 rfl rfl rfl ⟨rfl, hP⟩
    clear hP
    refine zV_if_eq (tgt := 34) dX0_at_23 (by decide) (fun c => ?_) (fun c => ?_)
    · try simp only [if_pos c] at K
      have hO := zif_p hO c
      refine zV_sipush dX0_at_34 ⟨by decide, by decide, by decide⟩ ?_
      refine zV_mask [false, false, false, false] rfl ?_
      exact K
    · try simp only [if_neg c] at K
      have hO := zif_n hO c
      refine zV_aload_n dX0_at_26 rfl ?_
      refine zV_iload_n dX0_at_27 rfl ?_
      refine zV_iload_n dX0_at_28 rfl ?_
      refine zV_iadd dX0_at_29 ?_
      obtain ⟨ob, hO⟩ := hO
      refine zV_iaD dX0_at_30 ob ?_
      refine zV_goto (tgt := 37) dX0_at_31 (by decide) ?_
      refine zV_mask [false, false, false, false] rfl ?_
      exact K
  · have hP := zif_p hP c
    refine zV_iload_n dX0_at_5 rfl ?_
    refine zV_iload_n dX0_at_6 rfl ?_
    refine zV_isub dX0_at_7 ?_
    refine zV_goto (tgt := 37) dX0_at_8 (by decide) ?_
    exact zV_ireturn dX0_at_37 rfl rfl rfl ⟨rfl, hP⟩
def P_C_line (a1 : Int) (a2 : Int) (h : zH) (Q : Int → zH → Prop) : Prop :=
P_C_isIn a1 0 (w32 ((zd h 14 18) - 1)) h (fun r1 h2 =>
if r1 = 0 then
(P_C_isIn a1 1000 (w32 ((w32 (1000 + (zd h2 14 33))) - 1)) h2 (fun r3 h4 =>
if r3 = 0 then
(P_C_isIn a1 2000 (w32 ((w32 (2000 + (zd h4 25 34))) - 1)) h4 (fun r5 h6 =>
if r5 = 0 then
(Q (-1005) h6)
else
(∀ x3_7 : Int, x3_7 = (w32 ((w32 (564 + a1)) - 2000)) →
(0 ≤ x3_7 ∧ x3_7 < 1364) ∧
(0 ≤ x3_7 ∧ x3_7 < 1364) ∧
(0 ≤ x3_7 ∧ x3_7 < 1364) ∧
P_C_at 32 (zd h6 26 x3_7) (w32 ((zd h6 26 x3_7) + (zd h6 27 x3_7))) a2 h6 (fun r8 h9 =>
Q r8 h9))))
else
((0 ≤ w32 (a1 - 1000) ∧ w32 (a1 - 1000) < 65) ∧
(0 ≤ w32 ((w32 (a1 - 1000)) + 1) ∧ w32 ((w32 (a1 - 1000)) + 1) < 65) ∧
P_C_at 94 (zd h4 95 (w32 (a1 - 1000))) (zd h4 95 (w32 ((w32 (a1 - 1000)) + 1))) a2 h4 (fun r10 h11 =>
Q r10 h11))))
else
((0 ≤ a1 ∧ a1 < 501) ∧
(0 ≤ w32 (a1 + 1) ∧ w32 (a1 + 1) < 501) ∧
P_C_at 22 (zd h2 23 a1) (zd h2 23 (w32 (a1 + 1))) a2 h2 (fun r12 h13 =>
Q r12 h13)))
theorem W_C_line (a1 : Int) (a2 : Int) (h : zH) (Q : Int → zH → Prop) (hP : P_C_line a1 a2 h Q) : zC true zy_X0_line 3 [zR 14, zI a1, zI a2] h (zQ0 Q) := by
  unfold P_C_line at hP
  refine zC.of (by decide) (Nat.le_of_ble_eq_true rfl) ?_
  show zV true zy_X0_line 3 0 [zR 14, zI a1, zI a2, zU] [] h (zQ0 Q)
  refine zV_iload_n dX0_line_0 rfl ?_
  refine zV_i2l dX0_line_1 ?_
  refine zV_lconst (x := 0) dX0_line_2 rfl ?_
  refine zV_aload_n dX0_line_3 rfl ?_
  refine zV_gf dX0_line_4 sa_14 (by decide) fl_X0_202_0 rfl (ki := 18) rfl ?_
  refine zV_iconst dX0_line_7 ⟨by decide, by decide⟩ ?_
  refine zV_isub dX0_line_8 ?_
  refine zV_i2l dX0_line_9 ?_
  refine zV_cSk (As := [zJ a1, zJ 0, zJ (w32 ((zd h 14 18) - 1))]) (rest := []) dX0_line_10 (W_C_isIn _ _ _ _ _ hP) mi_X0_isIn ml_X0_109 (by decide) (Nat.le_of_ble_eq_true rfl) rfl rfl rfl (fun r1 h2 hP => ?_)
  refine zV_if_eq (tgt := 39) dX0_line_13 (by decide) (fun c => ?_) (fun c => ?_)
  · have hP := zif_p hP c
    refine zV_iload_n dX0_line_39 rfl ?_
    refine zV_i2l dX0_line_40 ?_
    refine zV_ldc2c (x := 1000) dX0_line_41 (by decide) q1501 ⟨by decide, by decide⟩ ?_
    refine zV_sipush dX0_line_44 ⟨by decide, by decide, by decide⟩ ?_
    refine zV_aload_n dX0_line_47 rfl ?_
    refine zV_gf dX0_line_48 sa_14 (by decide) fl_X0_428_0 rfl (ki := 33) rfl ?_
    refine zV_iadd dX0_line_51 ?_
    refine zV_iconst dX0_line_52 ⟨by decide, by decide⟩ ?_
    refine zV_isub dX0_line_53 ?_
    refine zV_i2l dX0_line_54 ?_
    refine zV_cSk (As := [zJ a1, zJ 1000, zJ (w32 ((w32 (1000 + (zd h2 14 33))) - 1))]) (rest := []) dX0_line_55 (W_C_isIn _ _ _ _ _ hP) mi_X0_isIn ml_X0_109 (by decide) (Nat.le_of_ble_eq_true rfl) rfl rfl rfl (fun r3 h4 hP => ?_)
    refine zV_if_eq (tgt := 92) dX0_line_58 (by decide) (fun c => ?_) (fun c => ?_)
    · have hP := zif_p hP c
      refine zV_iload_n dX0_line_92 rfl ?_
      refine zV_i2l dX0_line_93 ?_
      refine zV_ldc2c (x := 2000) dX0_line_94 (by decide) q1724 ⟨by decide, by decide⟩ ?_
      refine zV_sipush dX0_line_97 ⟨by decide, by decide, by decide⟩ ?_
      refine zV_aload_n dX0_line_100 rfl ?_
      refine zV_sg dX0_line_101 fm_14_21 sa_14 (by decide) fl_X0_54_0 rfl ?_
      refine zV_gf dX0_line_104 sa_25 (by decide) fl_X0_400_1 rfl (ki := 34) rfl ?_
      refine zV_iadd dX0_line_107 ?_
      refine zV_iconst dX0_line_108 ⟨by decide, by decide⟩ ?_
      refine zV_isub dX0_line_109 ?_
      refine zV_i2l dX0_line_110 ?_
      refine zV_cSk (As := [zJ a1, zJ 2000, zJ (w32 ((w32 (2000 + (zd h4 25 34))) - 1))]) (rest := []) dX0_line_111 (W_C_isIn _ _ _ _ _ hP) mi_X0_isIn ml_X0_109 (by decide) (Nat.le_of_ble_eq_true rfl) rfl rfl rfl (fun r5 h6 hP => ?_)
      refine zV_if_eq (tgt := 167) dX0_line_114 (by decide) (fun c => ?_) (fun c => ?_)
      · have hP := zif_p hP c
        refine zV_sipush dX0_line_167 ⟨by decide, by decide, by decide⟩ ?_
        exact zV_ireturn dX0_line_170 rfl rfl rfl ⟨rfl, hP⟩
      · have hP := zif_n hP c
        refine zV_sipush dX0_line_117 ⟨by decide, by decide, by decide⟩ ?_
        refine zV_iload_n dX0_line_120 rfl ?_
        refine zV_iadd dX0_line_121 ?_
        refine zV_sipush dX0_line_122 ⟨by decide, by decide, by decide⟩ ?_
        refine zV_isub dX0_line_125 ?_
        refine zV_top (fun x3_7 e_x3_7 => ?_)
        have hP := hP x3_7 e_x3_7
        refine zV_istore_n (ls' := [zR 14, zI a1, zI a2, zI x3_7]) dX0_line_126 rfl (Nat.le_of_ble_eq_true rfl) rfl rfl ?_
        refine zV_aload_n dX0_line_127 rfl ?_
        refine zV_sg dX0_line_128 fm_14_21 sa_14 (by decide) fl_X0_54_0 rfl ?_
        refine zV_sg dX0_line_131 fm_25_6 sa_25 (by decide) fl_X0_433_1 rfl ?_
        refine zV_aload_n dX0_line_134 rfl ?_
        refine zV_sg dX0_line_135 fm_14_21 sa_14 (by decide) fl_X0_54_0 rfl ?_
        refine zV_sg dX0_line_138 fm_25_0 sa_25 (by decide) fl_X0_436_1 rfl ?_
        refine zV_iload_n dX0_line_141 rfl ?_
        obtain ⟨ob, hP⟩ := hP
        refine zV_ia dX0_line_142 sa_26 ob ?_
        refine zV_aload_n dX0_line_143 rfl ?_
        refine zV_sg dX0_line_144 fm_14_21 sa_14 (by decide) fl_X0_54_0 rfl ?_
        refine zV_sg dX0_line_147 fm_25_0 sa_25 (by decide) fl_X0_436_1 rfl ?_
        refine zV_iload_n dX0_line_150 rfl ?_
        obtain ⟨ob, hP⟩ := hP
        refine zV_ia dX0_line_151 sa_26 ob ?_
        refine zV_aload_n dX0_line_152 rfl ?_
        refine zV_sg dX0_line_153 fm_14_21 sa_14 (by decide) fl_X0_54_0 rfl ?_
        refine zV_sg dX0_line_156 fm_25_1 sa_25 (by decide) fl_X0_439_1 rfl ?_
        refine zV_iload_n dX0_line_159 rfl ?_
        obtain ⟨ob, hP⟩ := hP
        refine zV_ia dX0_line_160 sa_27 ob ?_
        refine zV_iadd dX0_line_161 ?_
        refine zV_iload_n dX0_line_162 rfl ?_
        refine zV_cSk (As := [zR 32, zI (zd h6 26 x3_7), zI (w32 ((zd h6 26 x3_7) + (zd h6 27 x3_7))), zI a2]) (rest := []) dX0_line_163 (W_C_at _ _ _ _ _ _ hP) mi_X0_at ml_X0_424 (by decide) (Nat.le_of_ble_eq_true rfl) rfl rfl rfl (fun r8 h9 hP => ?_)
        exact zV_ireturn dX0_line_166 rfl rfl rfl ⟨rfl, hP⟩
    · have hP := zif_n hP c
      refine zV_aload_n dX0_line_61 rfl ?_
      refine zV_sg dX0_line_62 fm_14_31 sa_14 (by decide) fl_X0_71_0 rfl ?_
      refine zV_aload_n dX0_line_65 rfl ?_
      refine zV_sg dX0_line_66 fm_14_32 sa_14 (by decide) fl_X0_74_0 rfl ?_
      refine zV_iload_n dX0_line_69 rfl ?_
      refine zV_sipush dX0_line_70 ⟨by decide, by decide, by decide⟩ ?_
      refine zV_isub dX0_line_73 ?_
      obtain ⟨ob, hP⟩ := hP
      refine zV_ia dX0_line_74 sa_95 ob ?_
      refine zV_aload_n dX0_line_75 rfl ?_
      refine zV_sg dX0_line_76 fm_14_32 sa_14 (by decide) fl_X0_74_0 rfl ?_
      refine zV_iload_n dX0_line_79 rfl ?_
      refine zV_sipush dX0_line_80 ⟨by decide, by decide, by decide⟩ ?_
      refine zV_isub dX0_line_83 ?_
      refine zV_iconst dX0_line_84 ⟨by decide, by decide⟩ ?_
      refine zV_iadd dX0_line_85 ?_
      obtain ⟨ob, hP⟩ := hP
      refine zV_ia dX0_line_86 sa_95 ob ?_
      refine zV_iload_n dX0_line_87 rfl ?_
      refine zV_cSk (As := [zR 94, zI (zd h4 95 (w32 (a1 - 1000))), zI (zd h4 95 (w32 ((w32 (a1 - 1000)) + 1))), zI a2]) (rest := []) dX0_line_88 (W_C_at _ _ _ _ _ _ hP) mi_X0_at ml_X0_424 (by decide) (Nat.le_of_ble_eq_true rfl) rfl rfl rfl (fun r10 h11 hP => ?_)
      exact zV_ireturn dX0_line_91 rfl rfl rfl ⟨rfl, hP⟩
  · have hP := zif_n hP c
    refine zV_aload_n dX0_line_16 rfl ?_
    refine zV_sg dX0_line_17 fm_14_16 sa_14 (by decide) fl_X0_37_0 rfl ?_
    refine zV_aload_n dX0_line_20 rfl ?_
    refine zV_sg dX0_line_21 fm_14_17 sa_14 (by decide) fl_X0_40_0 rfl ?_
    refine zV_iload_n dX0_line_24 rfl ?_
    obtain ⟨ob, hP⟩ := hP
    refine zV_ia dX0_line_25 sa_23 ob ?_
    refine zV_aload_n dX0_line_26 rfl ?_
    refine zV_sg dX0_line_27 fm_14_17 sa_14 (by decide) fl_X0_40_0 rfl ?_
    refine zV_iload_n dX0_line_30 rfl ?_
    refine zV_iconst dX0_line_31 ⟨by decide, by decide⟩ ?_
    refine zV_iadd dX0_line_32 ?_
    obtain ⟨ob, hP⟩ := hP
    refine zV_ia dX0_line_33 sa_23 ob ?_
    refine zV_iload_n dX0_line_34 rfl ?_
    refine zV_cSk (As := [zR 22, zI (zd h2 23 a1), zI (zd h2 23 (w32 (a1 + 1))), zI a2]) (rest := []) dX0_line_35 (W_C_at _ _ _ _ _ _ hP) mi_X0_at ml_X0_424 (by decide) (Nat.le_of_ble_eq_true rfl) rfl rfl rfl (fun r12 h13 hP => ?_)
    exact zV_ireturn dX0_line_38 rfl rfl rfl ⟨rfl, hP⟩
def P_C_hasCore (h : zH) (Q : Int → zH → Prop) : Prop :=
Q (if zd h 25 29 = 0 then if zd h 14 29 = 0 then 1 else 0 else 0) h
theorem W_C_hasCore (h : zH) (Q : Int → zH → Prop) (hP : P_C_hasCore  h Q) : zC true zy_X0_hasCore 1 [zR 14] h (zQ0 Q) := by
  unfold P_C_hasCore at hP
  refine zC.of (by decide) (Nat.le_of_ble_eq_true rfl) ?_
  show zV true zy_X0_hasCore 1 0 [zR 14] [] h (zQ0 Q)
  refine zV_aload_n dX0_hasCore_0 rfl ?_
  refine zV_sg dX0_hasCore_1 fm_14_21 sa_14 (by decide) fl_X0_54_0 rfl ?_
  refine zV_gf dX0_hasCore_4 sa_25 (by decide) fl_X0_388_1 rfl (ki := 29) rfl ?_
  have K : zV true zy_X0_hasCore 1 22 [zU] [zI (if zd h 25 29 = 0 then if zd h 14 29 = 0 then 1 else 0 else 0)] h (zQ0 Q) := by
    exact zV_ireturn dX0_hasCore_22 rfl rfl (z01 (z01_if (z01_if z1 z0) z0)) ⟨rfl, hP⟩
  clear hP
  refine zV_if_ne (tgt := 21) dX0_hasCore_7 (by decide) (fun c => ?_) (fun c => ?_)
  · try simp only [if_neg c] at K
    refine zV_iconst dX0_hasCore_21 ⟨by decide, by decide⟩ ?_
    refine zV_mask [false] rfl ?_
    exact K
  · try simp only [if_pos c] at K
    refine zV_aload_n dX0_hasCore_10 rfl ?_
    refine zV_gf dX0_hasCore_11 sa_14 (by decide) fl_X0_374_0 rfl (ki := 29) rfl ?_
    refine zV_if_ne (tgt := 21) dX0_hasCore_14 (by decide) (fun c => ?_) (fun c => ?_)
    · try simp only [if_neg c] at K
      refine zV_iconst dX0_hasCore_21 ⟨by decide, by decide⟩ ?_
      refine zV_mask [false] rfl ?_
      exact K
    · try simp only [if_pos c] at K
      refine zV_iconst dX0_hasCore_17 ⟨by decide, by decide⟩ ?_
      refine zV_goto (tgt := 22) dX0_hasCore_18 (by decide) ?_
      refine zV_mask [false] rfl ?_
      exact K
def P_C_inCore (a1 : Int) (h : zH) (Q : Int → zH → Prop) : Prop :=
(0 ≤ zshr a1 6 ∧ zshr a1 6 < 8) ∧
Q (if zcmp (zland (zlshr (zd h 48 (zshr a1 6)) (zand a1 63)) 1) 1 = 0 then 1 else 0) h
theorem W_C_inCore (a1 : Int) (h : zH) (Q : Int → zH → Prop) (hP : P_C_inCore a1 h Q) : zC true zy_X0_inCore 1 [zR 14, zI a1] h (zQ0 Q) := by
  unfold P_C_inCore at hP
  refine zC.of (by decide) (Nat.le_of_ble_eq_true rfl) ?_
  show zV true zy_X0_inCore 1 0 [zR 14, zI a1] [] h (zQ0 Q)
  refine zV_aload_n dX0_inCore_0 rfl ?_
  refine zV_sg dX0_inCore_1 fm_14_21 sa_14 (by decide) fl_X0_54_0 rfl ?_
  refine zV_sg dX0_inCore_4 fm_25_43 sa_25 (by decide) fl_X0_442_1 rfl ?_
  refine zV_iload_n dX0_inCore_7 rfl ?_
  refine zV_bipush dX0_inCore_8 ⟨by decide, by decide, by decide⟩ ?_
  refine zV_ishr dX0_inCore_10 ?_
  obtain ⟨ob, hP⟩ := hP
  refine zV_la dX0_inCore_11 sa_48 ob ?_
  refine zV_iload_n dX0_inCore_12 rfl ?_
  refine zV_bipush dX0_inCore_13 ⟨by decide, by decide, by decide⟩ ?_
  refine zV_iand dX0_inCore_15 ?_
  refine zV_lshr dX0_inCore_16 ?_
  refine zV_lconst (x := 1) dX0_inCore_17 rfl ?_
  refine zV_land dX0_inCore_18 ?_
  refine zV_lconst (x := 1) dX0_inCore_19 rfl ?_
  refine zV_lcmp dX0_inCore_20 ?_
  have K : zV true zy_X0_inCore 1 29 [zU, zU] [zI (if zcmp (zland (zlshr (zd h 48 (zshr a1 6)) (zand a1 63)) 1) 1 = 0 then 1 else 0)] h (zQ0 Q) := by
    exact zV_ireturn dX0_inCore_29 rfl rfl (z01 (z01_if z1 z0)) ⟨rfl, hP⟩
  clear hP
  refine zV_if_ne (tgt := 28) dX0_inCore_21 (by decide) (fun c => ?_) (fun c => ?_)
  · try simp only [if_neg c] at K
    refine zV_iconst dX0_inCore_28 ⟨by decide, by decide⟩ ?_
    refine zV_mask [false, false] rfl ?_
    exact K
  · try simp only [if_pos c] at K
    refine zV_iconst dX0_inCore_24 ⟨by decide, by decide⟩ ?_
    refine zV_goto (tgt := 29) dX0_inCore_25 (by decide) ?_
    refine zV_mask [false, false] rfl ?_
    exact K
def P_C_coreRows_J25 (y2 : Int) (s0 : Int) (s1 : Int) (h : zH) (Q : Int → zH → Prop) (k4 : Int → Int → zH → Prop) : Prop :=
∀ x1_3 : Int, x1_3 = (w32 (s1 + s0)) →
∀ x2_4 : Int, x2_4 = w32 (y2 + 1) →
k4 x1_3 x2_4 h
theorem W_C_coreRows_J25 (y2 : Int) (s0 : Int) (s1 : Int) (h : zH) (Q : Int → zH → Prop) (k4 : Int → Int → zH → Prop) (H4 : ∀ (v1 v2 : Int) (h' : zH), k4 v1 v2 h' → zV true zy_X0_coreRows 2 4 [zR 14, zI v1, zI v2] [] h' (zQ0 Q)) (hP : P_C_coreRows_J25 y2 s0 s1 h Q k4) : zV true zy_X0_coreRows 2 25 [zR 14, zU, zI y2] [zI s0, zI s1] h (zQ0 Q) := by
  unfold P_C_coreRows_J25 at hP
  refine zV_iadd dX0_coreRows_25 ?_
  refine zV_top (fun x1_3 e_x1_3 => ?_)
  have hP := hP x1_3 e_x1_3
  refine zV_istore_n (ls' := [zR 14, zI x1_3, zI y2]) dX0_coreRows_26 rfl (Nat.le_of_ble_eq_true rfl) rfl rfl ?_
  refine zV_inc (ls' := fun z => [zR 14, zI x1_3, zI z]) dX0_coreRows_27 (Nat.le_of_ble_eq_true rfl) rfl rfl (fun _ => rfl) (fun x2_4 e_x2_4 => ?_)
  have hP := hP x2_4 e_x2_4
  refine zV_goto (tgt := 4) dX0_coreRows_30 (by decide) ?_
  exact H4 _ _ _ hP
def P_C_coreRows_L4 (Q : Int → zH → Prop) : Nat → Int → Int → zH → Prop
| 0, _, _, _ => False
| n4 + 1, y1, y2, h =>
if 500 ≤ y2 then
(Q y1 h)
else
(P_C_inCore y2 h (fun r1 h2 =>
P_C_coreRows_J25 y2 (if r1 = 0 then 0 else 1) y1 h2 Q (P_C_coreRows_L4 Q n4)))
theorem W_C_coreRows_L4 (Q : Int → zH → Prop) : ∀ (n4 : Nat) (y1 y2 : Int) (h : zH), P_C_coreRows_L4 Q n4 y1 y2 h → zV true zy_X0_coreRows 2 4 [zR 14, zI y1, zI y2] [] h (zQ0 Q) := by
  intro n4
  induction n4 with
  | zero => intro y1 y2 h hP; exact absurd hP id
  | succ n4 ih =>
    intro y1 y2 h hP
    unfold P_C_coreRows_L4 at hP
    refine zV_iload_n dX0_coreRows_4 rfl ?_
    refine zV_sipush dX0_coreRows_5 ⟨by decide, by decide, by decide⟩ ?_
    refine zV_icmp_ge (tgt := 33) dX0_coreRows_8 (by decide) (fun c => ?_) (fun c => ?_)
    · have hP := zif_p hP c
      refine zV_iload_n dX0_coreRows_33 rfl ?_
      exact zV_ireturn dX0_coreRows_34 rfl rfl rfl ⟨rfl, hP⟩
    · have hP := zif_n hP c
      refine zV_iload_n dX0_coreRows_11 rfl ?_
      refine zV_aload_n dX0_coreRows_12 rfl ?_
      refine zV_iload_n dX0_coreRows_13 rfl ?_
      refine zV_cVk (As := [zI y2]) (rest := [zI y1]) dX0_coreRows_14 sa_14 (W_C_inCore _ _ _ hP) mi_X0_inCore ml_X0_445 (by decide) (Nat.le_of_ble_eq_true rfl) rfl rfl rfl (fun r1 h2 hP => ?_)
      have K : zV true zy_X0_coreRows 2 25 [zR 14, zU, zI y2] [zI (if r1 = 0 then 0 else 1), zI y1] h2 (zQ0 Q) := by
        exact W_C_coreRows_J25 _ _ _ _ _ _ ih hP
      clear hP
      refine zV_if_eq (tgt := 24) dX0_coreRows_17 (by decide) (fun c => ?_) (fun c => ?_)
      · try simp only [if_pos c] at K
        refine zV_iconst dX0_coreRows_24 ⟨by decide, by decide⟩ ?_
        refine zV_mask [true, false, true] rfl ?_
        exact K
      · try simp only [if_neg c] at K
        refine zV_iconst dX0_coreRows_20 ⟨by decide, by decide⟩ ?_
        refine zV_goto (tgt := 25) dX0_coreRows_21 (by decide) ?_
        refine zV_mask [true, false, true] rfl ?_
        exact K
def P_C_coreRows (h : zH) (Q : Int → zH → Prop) : Prop :=
∃ n4, P_C_coreRows_L4 Q n4 0 0 h
theorem W_C_coreRows (h : zH) (Q : Int → zH → Prop) (hP : P_C_coreRows  h Q) : zC true zy_X0_coreRows 2 [zR 14] h (zQ0 Q) := by
  unfold P_C_coreRows at hP
  refine zC.of (by decide) (Nat.le_of_ble_eq_true rfl) ?_
  show zV true zy_X0_coreRows 2 0 [zR 14, zU, zU] [] h (zQ0 Q)
  refine zV_iconst dX0_coreRows_0 ⟨by decide, by decide⟩ ?_
  refine zV_istore_n (ls' := [zR 14, zI 0, zU]) dX0_coreRows_1 rfl (Nat.le_of_ble_eq_true rfl) rfl rfl ?_
  refine zV_iconst dX0_coreRows_2 ⟨by decide, by decide⟩ ?_
  refine zV_istore_n (ls' := [zR 14, zI 0, zI 0]) dX0_coreRows_3 rfl (Nat.le_of_ble_eq_true rfl) rfl rfl ?_
  obtain ⟨n4, hP⟩ := hP
  refine W_C_coreRows_L4 _ n4 _ _ _ hP
def P_C_core (a1 : Int) (h : zH) (Q : Int → zH → Prop) : Prop :=
P_C_isIn a1 0 1 h (fun r1 h2 =>
if r1 = 0 then
(P_C_refused (-1001) h2 (fun r9 h10 =>
Q r9 h10))
else
(P_C_hasCore h2 (fun r3 h4 =>
if r3 = 0 then
(P_C_refused (-1002) h4 (fun r7 h8 =>
Q r7 h8))
else
(if a1 = 0 then
(P_C_coreRows h4 (fun r5 h6 =>
Q r5 h6))
else
(Q (zd h4 25 45) h4)))))
theorem W_C_core (a1 : Int) (h : zH) (Q : Int → zH → Prop) (hP : P_C_core a1 h Q) : zC true zy_X0_core 3 [zR 14, zI a1] h (zQ0 Q) := by
  unfold P_C_core at hP
  refine zC.of (by decide) (Nat.le_of_ble_eq_true rfl) ?_
  show zV true zy_X0_core 3 0 [zR 14, zI a1] [] h (zQ0 Q)
  refine zV_iload_n dX0_core_0 rfl ?_
  refine zV_i2l dX0_core_1 ?_
  refine zV_lconst (x := 0) dX0_core_2 rfl ?_
  refine zV_lconst (x := 1) dX0_core_3 rfl ?_
  refine zV_cSk (As := [zJ a1, zJ 0, zJ 1]) (rest := []) dX0_core_4 (W_C_isIn _ _ _ _ _ hP) mi_X0_isIn ml_X0_109 (by decide) (Nat.le_of_ble_eq_true rfl) rfl rfl rfl (fun r1 h2 hP => ?_)
  refine zV_if_ne (tgt := 18) dX0_core_7 (by decide) (fun c => ?_) (fun c => ?_)
  · have hP := zif_n hP c
    refine zV_aload_n dX0_core_18 rfl ?_
    refine zV_cVk (As := []) (rest := []) dX0_core_19 sa_14 (W_C_hasCore _ _ hP) mi_X0_hasCore ml_X0_448 (by decide) (Nat.le_of_ble_eq_true rfl) rfl rfl rfl (fun r3 h4 hP => ?_)
    refine zV_if_ne (tgt := 33) dX0_core_22 (by decide) (fun c => ?_) (fun c => ?_)
    · have hP := zif_n hP c
      refine zV_iload_n dX0_core_33 rfl ?_
      refine zV_if_ne (tgt := 44) dX0_core_34 (by decide) (fun c => ?_) (fun c => ?_)
      · have hP := zif_n hP c
        refine zV_aload_n dX0_core_44 rfl ?_
        refine zV_sg dX0_core_45 fm_14_21 sa_14 (by decide) fl_X0_54_0 rfl ?_
        refine zV_gf dX0_core_48 sa_25 (by decide) fl_X0_455_1 rfl (ki := 45) rfl ?_
        exact zV_ireturn dX0_core_51 rfl rfl rfl ⟨rfl, hP⟩
      · have hP := zif_p hP c
        refine zV_aload_n dX0_core_37 rfl ?_
        refine zV_cVk (As := []) (rest := []) dX0_core_38 sa_14 (W_C_coreRows _ _ hP) mi_X0_coreRows ml_X0_452 (by decide) (Nat.le_of_ble_eq_true rfl) rfl rfl rfl (fun r5 h6 hP => ?_)
        refine zV_goto (tgt := 51) dX0_core_41 (by decide) ?_
        exact zV_ireturn dX0_core_51 rfl rfl rfl ⟨rfl, hP⟩
    · have hP := zif_p hP c
      refine zV_aload_n dX0_core_25 rfl ?_
      refine zV_sipush dX0_core_26 ⟨by decide, by decide, by decide⟩ ?_
      refine zV_cVk (As := [zI (-1002)]) (rest := []) dX0_core_29 sa_14 (W_C_refused _ _ _ hP) mi_X0_refused ml_X0_124 (by decide) (Nat.le_of_ble_eq_true rfl) rfl rfl rfl (fun r7 h8 hP => ?_)
      exact zV_ireturn dX0_core_32 rfl rfl rfl ⟨rfl, hP⟩
  · have hP := zif_p hP c
    refine zV_aload_n dX0_core_10 rfl ?_
    refine zV_sipush dX0_core_11 ⟨by decide, by decide, by decide⟩ ?_
    refine zV_cVk (As := [zI (-1001)]) (rest := []) dX0_core_14 sa_14 (W_C_refused _ _ _ hP) mi_X0_refused ml_X0_124 (by decide) (Nat.le_of_ble_eq_true rfl) rfl rfl rfl (fun r9 h10 hP => ?_)
    exact zV_ireturn dX0_core_17 rfl rfl rfl ⟨rfl, hP⟩
def P_C_coreAt_J106 (y2 : Int) (y3 : Int) (y4 : Int) (h : zH) (Q : Int → zH → Prop) (k78 : Int → Int → zH → Prop) : Prop :=
∀ x4_7 : Int, x4_7 = w32 (y4 + 1) →
k78 y3 x4_7 h
theorem W_C_coreAt_J106 (y2 : Int) (y3 : Int) (y4 : Int) (h : zH) (Q : Int → zH → Prop) (k78 : Int → Int → zH → Prop) (H78 : ∀ (v3 v4 : Int) (h' : zH), k78 v3 v4 h' → zV true zy_X0_coreAt 2 78 [zR 14, zU, zI y2, zI v3, zI v4] [] h' (zQ0 Q)) (hP : P_C_coreAt_J106 y2 y3 y4 h Q k78) : zV true zy_X0_coreAt 2 106 [zR 14, zU, zI y2, zI y3, zI y4] [] h (zQ0 Q) := by
  unfold P_C_coreAt_J106 at hP
  refine zV_inc (ls' := fun z => [zR 14, zU, zI y2, zI y3, zI z]) dX0_coreAt_106 (Nat.le_of_ble_eq_true rfl) rfl rfl (fun _ => rfl) (fun x4_7 e_x4_7 => ?_)
  have hP := hP x4_7 e_x4_7
  refine zV_goto (tgt := 78) dX0_coreAt_109 (by decide) ?_
  exact H78 _ _ _ hP
def P_C_coreAt_L78 (y2 : Int) (Q : Int → zH → Prop) : Nat → Int → Int → zH → Prop
| 0, _, _, _ => False
| n78 + 1, y3, y4, h =>
if 500 ≤ y4 then
(Q (-1005) h)
else
(P_C_inCore y4 h (fun r5 h6 =>
if r5 = 0 then
(P_C_coreAt_J106 y2 y3 y4 h6 Q (P_C_coreAt_L78 y2 Q n78))
else
(if y3 = y2 then
(Q y4 h6)
else
(∀ x3_8 : Int, x3_8 = w32 (y3 + 1) →
P_C_coreAt_J106 y2 x3_8 y4 h6 Q (P_C_coreAt_L78 y2 Q n78)))))
theorem W_C_coreAt_L78 (y2 : Int) (Q : Int → zH → Prop) : ∀ (n78 : Nat) (y3 y4 : Int) (h : zH), P_C_coreAt_L78 y2 Q n78 y3 y4 h → zV true zy_X0_coreAt 2 78 [zR 14, zU, zI y2, zI y3, zI y4] [] h (zQ0 Q) := by
  intro n78
  induction n78 with
  | zero => intro y3 y4 h hP; exact absurd hP id
  | succ n78 ih =>
    intro y3 y4 h hP
    unfold P_C_coreAt_L78 at hP
    refine zV_iload dX0_coreAt_78 rfl ?_
    refine zV_sipush dX0_coreAt_80 ⟨by decide, by decide, by decide⟩ ?_
    refine zV_icmp_ge (tgt := 112) dX0_coreAt_83 (by decide) (fun c => ?_) (fun c => ?_)
    · have hP := zif_p hP c
      refine zV_sipush dX0_coreAt_112 ⟨by decide, by decide, by decide⟩ ?_
      exact zV_ireturn dX0_coreAt_115 rfl rfl rfl ⟨rfl, hP⟩
    · have hP := zif_n hP c
      refine zV_aload_n dX0_coreAt_86 rfl ?_
      refine zV_iload dX0_coreAt_87 rfl ?_
      refine zV_cVk (As := [zI y4]) (rest := []) dX0_coreAt_89 sa_14 (W_C_inCore _ _ _ hP) mi_X0_inCore ml_X0_445 (by decide) (Nat.le_of_ble_eq_true rfl) rfl rfl rfl (fun r5 h6 hP => ?_)
      refine zV_if_eq (tgt := 106) dX0_coreAt_92 (by decide) (fun c => ?_) (fun c => ?_)
      · have hP := zif_p hP c
        exact W_C_coreAt_J106 _ _ _ _ _ _ ih hP
      · have hP := zif_n hP c
        refine zV_iload_n dX0_coreAt_95 rfl ?_
        refine zV_iload_n dX0_coreAt_96 rfl ?_
        refine zV_icmp_ne (tgt := 103) dX0_coreAt_97 (by decide) (fun c => ?_) (fun c => ?_)
        · have hP := zif_n hP c
          refine zV_inc (ls' := fun z => [zR 14, zU, zI y2, zI z, zI y4]) dX0_coreAt_103 (Nat.le_of_ble_eq_true rfl) rfl rfl (fun _ => rfl) (fun x3_8 e_x3_8 => ?_)
          have hP := hP x3_8 e_x3_8
          exact W_C_coreAt_J106 _ _ _ _ _ _ ih hP
        · have hP := zif_p hP c
          refine zV_iload dX0_coreAt_100 rfl ?_
          exact zV_ireturn dX0_coreAt_102 rfl rfl rfl ⟨rfl, hP⟩
def P_C_coreAt (a1 : Int) (a2 : Int) (h : zH) (Q : Int → zH → Prop) : Prop :=
P_C_isIn a1 0 1 h (fun r1 h2 =>
if r1 = 0 then
(P_C_refused (-1001) h2 (fun r13 h14 =>
Q r13 h14))
else
(P_C_hasCore h2 (fun r3 h4 =>
if r3 = 0 then
(P_C_refused (-1002) h4 (fun r11 h12 =>
Q r11 h12))
else
(if a1 = 1 then
(P_C_isIn a2 0 (w32 ((zd h4 25 45) - 1)) h4 (fun r9 h10 =>
(if r9 = 0 then True else (0 ≤ a2 ∧ a2 < 20) ∧ True) ∧
Q (if r9 = 0 then (-1005) else zd h10 49 a2) h10))
else
(∃ n78, P_C_coreAt_L78 a2 Q n78 0 0 h4)))))
theorem W_C_coreAt (a1 : Int) (a2 : Int) (h : zH) (Q : Int → zH → Prop) (hP : P_C_coreAt a1 a2 h Q) : zC true zy_X0_coreAt 2 [zR 14, zI a1, zI a2] h (zQ0 Q) := by
  unfold P_C_coreAt at hP
  refine zC.of (by decide) (Nat.le_of_ble_eq_true rfl) ?_
  show zV true zy_X0_coreAt 2 0 [zR 14, zI a1, zI a2, zU, zU] [] h (zQ0 Q)
  refine zV_iload_n dX0_coreAt_0 rfl ?_
  refine zV_i2l dX0_coreAt_1 ?_
  refine zV_lconst (x := 0) dX0_coreAt_2 rfl ?_
  refine zV_lconst (x := 1) dX0_coreAt_3 rfl ?_
  refine zV_cSk (As := [zJ a1, zJ 0, zJ 1]) (rest := []) dX0_coreAt_4 (W_C_isIn _ _ _ _ _ hP) mi_X0_isIn ml_X0_109 (by decide) (Nat.le_of_ble_eq_true rfl) rfl rfl rfl (fun r1 h2 hP => ?_)
  refine zV_if_ne (tgt := 18) dX0_coreAt_7 (by decide) (fun c => ?_) (fun c => ?_)
  · have hP := zif_n hP c
    refine zV_aload_n dX0_coreAt_18 rfl ?_
    refine zV_cVk (As := []) (rest := []) dX0_coreAt_19 sa_14 (W_C_hasCore _ _ hP) mi_X0_hasCore ml_X0_448 (by decide) (Nat.le_of_ble_eq_true rfl) rfl rfl rfl (fun r3 h4 hP => ?_)
    refine zV_if_ne (tgt := 33) dX0_coreAt_22 (by decide) (fun c => ?_) (fun c => ?_)
    · have hP := zif_n hP c
      refine zV_iload_n dX0_coreAt_33 rfl ?_
      refine zV_iconst dX0_coreAt_34 ⟨by decide, by decide⟩ ?_
      refine zV_icmp_ne (tgt := 73) dX0_coreAt_35 (by decide) (fun c => ?_) (fun c => ?_)
      · have hP := zif_n hP c
        refine zV_iconst dX0_coreAt_73 ⟨by decide, by decide⟩ ?_
        refine zV_istore_n (ls' := [zR 14, zI a1, zI a2, zI 0, zU]) dX0_coreAt_74 rfl (Nat.le_of_ble_eq_true rfl) rfl rfl ?_
        refine zV_iconst dX0_coreAt_75 ⟨by decide, by decide⟩ ?_
        refine zV_istore (ls' := [zR 14, zI a1, zI a2, zI 0, zI 0]) dX0_coreAt_76 (Nat.le_of_ble_eq_true rfl) rfl rfl ?_
        obtain ⟨n78, hP⟩ := hP
        refine zV_mask [true, false, true, true, true] (ls' := [zR 14, zU, zI a2, zI 0, zI 0]) rfl ?_
        refine W_C_coreAt_L78 _ _ n78 _ _ _ hP
      · have hP := zif_p hP c
        refine zV_iload_n dX0_coreAt_38 rfl ?_
        refine zV_i2l dX0_coreAt_39 ?_
        refine zV_lconst (x := 0) dX0_coreAt_40 rfl ?_
        refine zV_aload_n dX0_coreAt_41 rfl ?_
        refine zV_sg dX0_coreAt_42 fm_14_21 sa_14 (by decide) fl_X0_54_0 rfl ?_
        refine zV_gf dX0_coreAt_45 sa_25 (by decide) fl_X0_455_1 rfl (ki := 45) rfl ?_
        refine zV_iconst dX0_coreAt_48 ⟨by decide, by decide⟩ ?_
        refine zV_isub dX0_coreAt_49 ?_
        refine zV_i2l dX0_coreAt_50 ?_
        refine zV_cSk (As := [zJ a2, zJ 0, zJ (w32 ((zd h4 25 45) - 1))]) (rest := []) dX0_coreAt_51 (W_C_isIn _ _ _ _ _ hP) mi_X0_isIn ml_X0_109 (by decide) (Nat.le_of_ble_eq_true rfl) rfl rfl rfl (fun r9 h10 hP => ?_)
        obtain ⟨hO, hP⟩ := hP
        have K : zV true zy_X0_coreAt 2 72 [zU, zU, zU, zU, zU] [zI (if r9 = 0 then (-1005) else zd h10 49 a2)] h10 (zQ0 Q) := by
          exact zV_ireturn dX0_coreAt_72 rfl rfl rfl ⟨rfl, hP⟩
        clear hP
        refine zV_if_eq (tgt := 69) dX0_coreAt_54 (by decide) (fun c => ?_) (fun c => ?_)
        · try simp only [if_pos c] at K
          have hO := zif_p hO c
          refine zV_sipush dX0_coreAt_69 ⟨by decide, by decide, by decide⟩ ?_
          refine zV_mask [false, false, false, false, false] rfl ?_
          exact K
        · try simp only [if_neg c] at K
          have hO := zif_n hO c
          refine zV_aload_n dX0_coreAt_57 rfl ?_
          refine zV_sg dX0_coreAt_58 fm_14_21 sa_14 (by decide) fl_X0_54_0 rfl ?_
          refine zV_sg dX0_coreAt_61 fm_25_44 sa_25 (by decide) fl_X0_458_1 rfl ?_
          refine zV_iload_n dX0_coreAt_64 rfl ?_
          obtain ⟨ob, hO⟩ := hO
          refine zV_ia dX0_coreAt_65 sa_49 ob ?_
          refine zV_goto (tgt := 72) dX0_coreAt_66 (by decide) ?_
          refine zV_mask [false, false, false, false, false] rfl ?_
          exact K
    · have hP := zif_p hP c
      refine zV_aload_n dX0_coreAt_25 rfl ?_
      refine zV_sipush dX0_coreAt_26 ⟨by decide, by decide, by decide⟩ ?_
      refine zV_cVk (As := [zI (-1002)]) (rest := []) dX0_coreAt_29 sa_14 (W_C_refused _ _ _ hP) mi_X0_refused ml_X0_124 (by decide) (Nat.le_of_ble_eq_true rfl) rfl rfl rfl (fun r11 h12 hP => ?_)
      exact zV_ireturn dX0_coreAt_32 rfl rfl rfl ⟨rfl, hP⟩
  · have hP := zif_p hP c
    refine zV_aload_n dX0_coreAt_10 rfl ?_
    refine zV_sipush dX0_coreAt_11 ⟨by decide, by decide, by decide⟩ ?_
    refine zV_cVk (As := [zI (-1001)]) (rest := []) dX0_coreAt_14 sa_14 (W_C_refused _ _ _ hP) mi_X0_refused ml_X0_124 (by decide) (Nat.le_of_ble_eq_true rfl) rfl rfl rfl (fun r13 h14 hP => ?_)
    exact zV_ireturn dX0_coreAt_17 rfl rfl rfl ⟨rfl, hP⟩
def P_C_beginSide_J27 (y1 : Int) (s0 : Int) (s1 : Int) (h : zH) (Q : Int → zH → Prop) (k2 : Int → zH → Prop) : Prop :=
(0 ≤ s1 ∧ s1 < 500) ∧
∀ h3 : zH, h3 = zw h 96 s1 (zbit s0) →
∀ x1_4 : Int, x1_4 = w32 (y1 + 1) →
k2 x1_4 h3
theorem W_C_beginSide_J27 (y1 : Int) (s0 : Int) (s1 : Int) (h : zH) (Q : Int → zH → Prop) (k2 : Int → zH → Prop) (H2 : ∀ (v1 : Int) (h' : zH), k2 v1 h' → zV true zy_X0_beginSide 2 2 [zR 14, zI v1] [] h' (zQ0 Q)) (hP : P_C_beginSide_J27 y1 s0 s1 h Q k2) : zV true zy_X0_beginSide 2 27 [zR 14, zI y1] [zI s0, zI s1, zR 96] h (zQ0 Q) := by
  unfold P_C_beginSide_J27 at hP
  obtain ⟨ob, hP⟩ := hP
  refine zV_zas dX0_beginSide_27 sa_96 ob (fun h3 e_h3 => ?_)
  have hP := hP h3 e_h3
  refine zV_inc (ls' := fun z => [zR 14, zI z]) dX0_beginSide_28 (Nat.le_of_ble_eq_true rfl) rfl rfl (fun _ => rfl) (fun x1_4 e_x1_4 => ?_)
  have hP := hP x1_4 e_x1_4
  refine zV_goto (tgt := 2) dX0_beginSide_31 (by decide) ?_
  exact H2 _ _ hP
def P_C_beginSide_L2 (Q : Int → zH → Prop) : Nat → Int → zH → Prop
| 0, _, _ => False
| n2 + 1, y1, h =>
if 500 ≤ y1 then
(Q 0 h)
else
(P_C_inCore y1 h (fun r1 h2 =>
P_C_beginSide_J27 y1 (if r1 = 0 then 1 else 0) y1 h2 Q (P_C_beginSide_L2 Q n2)))
theorem W_C_beginSide_L2 (Q : Int → zH → Prop) : ∀ (n2 : Nat) (y1 : Int) (h : zH), P_C_beginSide_L2 Q n2 y1 h → zV true zy_X0_beginSide 2 2 [zR 14, zI y1] [] h (zQ0 Q) := by
  intro n2
  induction n2 with
  | zero => intro y1 h hP; exact absurd hP id
  | succ n2 ih =>
    intro y1 h hP
    unfold P_C_beginSide_L2 at hP
    refine zV_iload_n dX0_beginSide_2 rfl ?_
    refine zV_sipush dX0_beginSide_3 ⟨by decide, by decide, by decide⟩ ?_
    refine zV_icmp_ge (tgt := 34) dX0_beginSide_6 (by decide) (fun c => ?_) (fun c => ?_)
    · have hP := zif_p hP c
      exact zV_return dX0_beginSide_34 rfl ⟨rfl, hP⟩
    · have hP := zif_n hP c
      refine zV_aload_n dX0_beginSide_9 rfl ?_
      refine zV_sg dX0_beginSide_10 fm_14_34 sa_14 (by decide) fl_X0_77_0 rfl ?_
      refine zV_iload_n dX0_beginSide_13 rfl ?_
      refine zV_aload_n dX0_beginSide_14 rfl ?_
      refine zV_iload_n dX0_beginSide_15 rfl ?_
      refine zV_cVk (As := [zI y1]) (rest := [zI y1, zR 96]) dX0_beginSide_16 sa_14 (W_C_inCore _ _ _ hP) mi_X0_inCore ml_X0_445 (by decide) (Nat.le_of_ble_eq_true rfl) rfl rfl rfl (fun r1 h2 hP => ?_)
      have K : zV true zy_X0_beginSide 2 27 [zR 14, zI y1] [zI (if r1 = 0 then 1 else 0), zI y1, zR 96] h2 (zQ0 Q) := by
        exact W_C_beginSide_J27 _ _ _ _ _ _ ih hP
      clear hP
      refine zV_if_ne (tgt := 26) dX0_beginSide_19 (by decide) (fun c => ?_) (fun c => ?_)
      · try simp only [if_neg c] at K
        refine zV_iconst dX0_beginSide_26 ⟨by decide, by decide⟩ ?_
        refine zV_mask [true, true] rfl ?_
        exact K
      · try simp only [if_pos c] at K
        refine zV_iconst dX0_beginSide_22 ⟨by decide, by decide⟩ ?_
        refine zV_goto (tgt := 27) dX0_beginSide_23 (by decide) ?_
        refine zV_mask [true, true] rfl ?_
        exact K
def P_C_beginSide (h : zH) (Q : Int → zH → Prop) : Prop :=
∃ n2, P_C_beginSide_L2 Q n2 0 h
theorem W_C_beginSide (h : zH) (Q : Int → zH → Prop) (hP : P_C_beginSide  h Q) : zC true zy_X0_beginSide 2 [zR 14] h (zQ0 Q) := by
  unfold P_C_beginSide at hP
  refine zC.of (by decide) (Nat.le_of_ble_eq_true rfl) ?_
  show zV true zy_X0_beginSide 2 0 [zR 14, zU] [] h (zQ0 Q)
  refine zV_iconst dX0_beginSide_0 ⟨by decide, by decide⟩ ?_
  refine zV_istore_n (ls' := [zR 14, zI 0]) dX0_beginSide_1 rfl (Nat.le_of_ble_eq_true rfl) rfl rfl ?_
  obtain ⟨n2, hP⟩ := hP
  refine W_C_beginSide_L2 _ n2 _ _ hP
def P_C_tried_J67 (y1 : Int) (y2 : Int) (y3 : Int) (h : zH) (Q : Int → zH → Prop) (k20 : Int → zH → Prop) : Prop :=
∀ x3_7 : Int, x3_7 = w32 (y3 + 1) →
k20 x3_7 h
theorem W_C_tried_J67 (y1 : Int) (y2 : Int) (y3 : Int) (h : zH) (Q : Int → zH → Prop) (k20 : Int → zH → Prop) (H20 : ∀ (v3 : Int) (h' : zH), k20 v3 h' → zV true zy_X0_tried 8 20 [zR 14, zI y1, zI y2, zI v3] [] h' (zQ0 Q)) (hP : P_C_tried_J67 y1 y2 y3 h Q k20) : zV true zy_X0_tried 8 67 [zR 14, zI y1, zI y2, zI y3] [] h (zQ0 Q) := by
  unfold P_C_tried_J67 at hP
  refine zV_inc (ls' := fun z => [zR 14, zI y1, zI y2, zI z]) dX0_tried_67 (Nat.le_of_ble_eq_true rfl) rfl rfl (fun _ => rfl) (fun x3_7 e_x3_7 => ?_)
  have hP := hP x3_7 e_x3_7
  refine zV_goto (tgt := 20) dX0_tried_70 (by decide) ?_
  exact H20 _ _ hP
def P_C_tried_L20 (y1 : Int) (y2 : Int) (Q : Int → zH → Prop) : Nat → Int → zH → Prop
| 0, _, _ => False
| n20 + 1, y3, h =>
if zd h 25 45 ≤ y3 then
(P_E_search 58 y2 h (fun r5 h6 =>
Q r5 h6))
else
(if y3 = y1 then
(P_C_tried_J67 y1 y2 y3 h Q (P_C_tried_L20 y1 y2 Q n20))
else
(∀ h8 : zH, h8 = zw h 58 28 (w32 ((zd h 58 28) + 1)) →
(0 ≤ y3 ∧ y3 < 20) ∧
(0 ≤ zd h 58 28 ∧ zd h 58 28 < 20) ∧
∀ h9 : zH, h9 = zw h8 79 (zd h 58 28) (zd h8 49 y3) →
P_C_tried_J67 y1 y2 y3 h9 Q (P_C_tried_L20 y1 y2 Q n20)))
theorem W_C_tried_L20 (y1 : Int) (y2 : Int) (Q : Int → zH → Prop) : ∀ (n20 : Nat) (y3 : Int) (h : zH), P_C_tried_L20 y1 y2 Q n20 y3 h → zV true zy_X0_tried 8 20 [zR 14, zI y1, zI y2, zI y3] [] h (zQ0 Q) := by
  intro n20
  induction n20 with
  | zero => intro y3 h hP; exact absurd hP id
  | succ n20 ih =>
    intro y3 h hP
    unfold P_C_tried_L20 at hP
    refine zV_iload_n dX0_tried_20 rfl ?_
    refine zV_aload_n dX0_tried_21 rfl ?_
    refine zV_sg dX0_tried_22 fm_14_21 sa_14 (by decide) fl_X0_54_0 rfl ?_
    refine zV_gf dX0_tried_25 sa_25 (by decide) fl_X0_455_1 rfl (ki := 45) rfl ?_
    refine zV_icmp_ge (tgt := 73) dX0_tried_28 (by decide) (fun c => ?_) (fun c => ?_)
    · have hP := zif_p hP c
      refine zV_aload_n dX0_tried_73 rfl ?_
      refine zV_sg dX0_tried_74 fm_14_22 sa_14 (by decide) fl_X0_58_0 rfl ?_
      refine zV_iload_n dX0_tried_77 rfl ?_
      refine zV_cVk (As := [zI y2]) (rest := []) dX0_tried_78 sa_58 (W_E_search 58 (Or.inr rfl) _ _ _ hP) mi_X1_search ml_X0_360 (by decide) (Nat.le_of_ble_eq_true rfl) rfl rfl rfl (fun r5 h6 hP => ?_)
      exact zV_ireturn dX0_tried_81 rfl rfl rfl ⟨rfl, hP⟩
    · have hP := zif_n hP c
      refine zV_iload_n dX0_tried_31 rfl ?_
      refine zV_iload_n dX0_tried_32 rfl ?_
      refine zV_icmp_eq (tgt := 67) dX0_tried_33 (by decide) (fun c => ?_) (fun c => ?_)
      · have hP := zif_p hP c
        exact W_C_tried_J67 _ _ _ _ _ _ ih hP
      · have hP := zif_n hP c
        refine zV_aload_n dX0_tried_36 rfl ?_
        refine zV_sg dX0_tried_37 fm_14_22 sa_14 (by decide) fl_X0_58_0 rfl ?_
        refine zV_sg dX0_tried_40 fm_58_27 sa_58 (by decide) fl_X0_378_1 rfl ?_
        refine zV_aload_n dX0_tried_43 rfl ?_
        refine zV_sg dX0_tried_44 fm_14_22 sa_14 (by decide) fl_X0_58_0 rfl ?_
        refine zV_dup dX0_tried_47 (Nat.ne_of_beq_eq_false rfl) ?_
        refine zV_gf dX0_tried_48 sa_58 (by decide) fl_X0_377_1 rfl (ki := 28) rfl ?_
        refine zV_dup_x1 dX0_tried_51 (Nat.ne_of_beq_eq_false rfl) (Nat.ne_of_beq_eq_false rfl) ?_
        refine zV_iconst dX0_tried_52 ⟨by decide, by decide⟩ ?_
        refine zV_iadd dX0_tried_53 ?_
        refine zV_pf dX0_tried_54 sa_58 (by decide) fl_X0_377_1 rfl rfl trivial (ki := 28) rfl (fun h8 e_h8 => ?_)
        have hP := hP h8 e_h8
        refine zV_aload_n dX0_tried_57 rfl ?_
        refine zV_sg dX0_tried_58 fm_14_21 sa_14 (by decide) fl_X0_54_0 rfl ?_
        refine zV_sg dX0_tried_61 fm_25_44 sa_25 (by decide) fl_X0_458_1 rfl ?_
        refine zV_iload_n dX0_tried_64 rfl ?_
        obtain ⟨ob, hP⟩ := hP
        refine zV_ia dX0_tried_65 sa_49 ob ?_
        obtain ⟨ob, hP⟩ := hP
        refine zV_ias dX0_tried_66 sa_79 ob (fun h9 e_h9 => ?_)
        have hP := hP h9 e_h9
        exact W_C_tried_J67 _ _ _ _ _ _ ih hP
def P_C_tried (a1 : Int) (a2 : Int) (h : zH) (Q : Int → zH → Prop) : Prop :=
P_E_clear 58 h (fun r1 h2 =>
P_E_layCase 58 96 h2 (fun r3 h4 =>
∃ n20, P_C_tried_L20 a1 a2 Q n20 0 h4))
theorem W_C_tried (a1 : Int) (a2 : Int) (h : zH) (Q : Int → zH → Prop) (hP : P_C_tried a1 a2 h Q) : zC true zy_X0_tried 8 [zR 14, zI a1, zI a2] h (zQ0 Q) := by
  unfold P_C_tried at hP
  refine zC.of (by decide) (Nat.le_of_ble_eq_true rfl) ?_
  show zV true zy_X0_tried 8 0 [zR 14, zI a1, zI a2, zU] [] h (zQ0 Q)
  refine zV_aload_n dX0_tried_0 rfl ?_
  refine zV_sg dX0_tried_1 fm_14_22 sa_14 (by decide) fl_X0_58_0 rfl ?_
  refine zV_cVv (As := []) (rest := []) dX0_tried_4 sa_58 (W_E_clear 58 (Or.inr rfl) _ _ hP) mi_X1_clear ml_X0_352 (by decide) (Nat.le_of_ble_eq_true rfl) rfl rfl (fun r1 h2 hP => ?_)
  refine zV_aload_n dX0_tried_7 rfl ?_
  refine zV_sg dX0_tried_8 fm_14_22 sa_14 (by decide) fl_X0_58_0 rfl ?_
  refine zV_aload_n dX0_tried_11 rfl ?_
  refine zV_sg dX0_tried_12 fm_14_34 sa_14 (by decide) fl_X0_77_0 rfl ?_
  refine zV_cVv (As := [zR 96]) (rest := []) dX0_tried_15 sa_58 (W_E_layCase 58 (Or.inr rfl) _ _ _ hP) mi_X1_layCase ml_X0_355 (by decide) (Nat.le_of_ble_eq_true rfl) rfl rfl (fun r3 h4 hP => ?_)
  refine zV_iconst dX0_tried_18 ⟨by decide, by decide⟩ ?_
  refine zV_istore_n (ls' := [zR 14, zI a1, zI a2, zI 0]) dX0_tried_19 rfl (Nat.le_of_ble_eq_true rfl) rfl rfl ?_
  obtain ⟨n20, hP⟩ := hP
  refine W_C_tried_L20 _ _ _ n20 _ _ hP
def P_C_shrink_J135 (y2 : Int) (y3 : Int) (h : zH) (Q : Int → zH → Prop) (k39 : Int → Int → zH → Prop) : Prop :=
∀ x3_13 : Int, x3_13 = w32 (y3 + 1) →
k39 y2 x3_13 h
theorem W_C_shrink_J135 (y2 : Int) (y3 : Int) (h : zH) (Q : Int → zH → Prop) (k39 : Int → Int → zH → Prop) (H39 : ∀ (v2 v3 : Int) (h' : zH), k39 v2 v3 h' → zV true zy_X0_shrink 9 39 [zR 14, zU, zI v2, zI v3, zU] [] h' (zQ0 Q)) (hP : P_C_shrink_J135 y2 y3 h Q k39) : zV true zy_X0_shrink 9 135 [zR 14, zU, zI y2, zI y3, zU] [] h (zQ0 Q) := by
  unfold P_C_shrink_J135 at hP
  refine zV_inc (ls' := fun z => [zR 14, zU, zI y2, zI z, zU]) dX0_shrink_135 (Nat.le_of_ble_eq_true rfl) rfl rfl (fun _ => rfl) (fun x3_13 e_x3_13 => ?_)
  have hP := hP x3_13 e_x3_13
  refine zV_goto (tgt := 39) dX0_shrink_138 (by decide) ?_
  exact H39 _ _ _ hP
def P_C_shrink_L39 (Q : Int → zH → Prop) (k141 : Int → zH → Prop) : Nat → Int → Int → zH → Prop
| 0, _, _, _ => False
| n39 + 1, y2, y3, h =>
if 500 ≤ y3 then
(k141 y2 h)
else
(P_C_inCore y3 h (fun r5 h6 =>
if r5 = 0 then
(P_C_shrink_J135 y2 y3 h6 Q (P_C_shrink_L39 Q k141 n39))
else
(P_C_beginSide h6 (fun r7 h8 =>
(0 ≤ y3 ∧ y3 < 500) ∧
∀ h9 : zH, h9 = zw h8 96 y3 (zbit 1) →
P_C_tried (-1005) y2 h9 (fun r10 h11 =>
if r10 = (-1004) then
(Q r10 h11)
else
(if r10 = (-1003) then
(Q r10 h11)
else
(∀ x2_12 : Int, x2_12 = (zd h11 58 31) →
if r10 = 0 then
((0 ≤ zshr y3 6 ∧ zshr y3 6 < 8) ∧
(0 ≤ zshr y3 6 ∧ zshr y3 6 < 8) ∧
∀ h14 : zH, h14 = zw h11 48 (zshr y3 6) (zland (zd h11 48 (zshr y3 6)) (zlxor (zlshl 1 (zand y3 63)) (-1))) →
P_C_shrink_J135 x2_12 y3 h14 Q (P_C_shrink_L39 Q k141 n39))
else
(P_C_shrink_J135 x2_12 y3 h11 Q (P_C_shrink_L39 Q k141 n39)))))))))
theorem W_C_shrink_L39 (Q : Int → zH → Prop) (k141 : Int → zH → Prop) (H141 : ∀ (v2 : Int) (h' : zH), k141 v2 h' → zV true zy_X0_shrink 9 141 [zR 14, zU, zI v2, zU, zU] [] h' (zQ0 Q)) : ∀ (n39 : Nat) (y2 y3 : Int) (h : zH), P_C_shrink_L39 Q k141 n39 y2 y3 h → zV true zy_X0_shrink 9 39 [zR 14, zU, zI y2, zI y3, zU] [] h (zQ0 Q) := by
  intro n39
  induction n39 with
  | zero => intro y2 y3 h hP; exact absurd hP id
  | succ n39 ih =>
    intro y2 y3 h hP
    unfold P_C_shrink_L39 at hP
    refine zV_iload_n dX0_shrink_39 rfl ?_
    refine zV_sipush dX0_shrink_40 ⟨by decide, by decide, by decide⟩ ?_
    refine zV_icmp_ge (tgt := 141) dX0_shrink_43 (by decide) (fun c => ?_) (fun c => ?_)
    · have hP := zif_p hP c
      refine zV_mask [true, true, true, false, true] (ls' := [zR 14, zU, zI y2, zU, zU]) rfl ?_
      exact H141 _ _ hP
    · have hP := zif_n hP c
      refine zV_aload_n dX0_shrink_46 rfl ?_
      refine zV_iload_n dX0_shrink_47 rfl ?_
      refine zV_cVk (As := [zI y3]) (rest := []) dX0_shrink_48 sa_14 (W_C_inCore _ _ _ hP) mi_X0_inCore ml_X0_445 (by decide) (Nat.le_of_ble_eq_true rfl) rfl rfl rfl (fun r5 h6 hP => ?_)
      refine zV_if_ne (tgt := 57) dX0_shrink_51 (by decide) (fun c => ?_) (fun c => ?_)
      · have hP := zif_n hP c
        refine zV_aload_n dX0_shrink_57 rfl ?_
        refine zV_cVv (As := []) (rest := []) dX0_shrink_58 sa_14 (W_C_beginSide _ _ hP) mi_X0_beginSide ml_X0_461 (by decide) (Nat.le_of_ble_eq_true rfl) rfl rfl (fun r7 h8 hP => ?_)
        refine zV_aload_n dX0_shrink_61 rfl ?_
        refine zV_sg dX0_shrink_62 fm_14_34 sa_14 (by decide) fl_X0_77_0 rfl ?_
        refine zV_iload_n dX0_shrink_65 rfl ?_
        refine zV_iconst dX0_shrink_66 ⟨by decide, by decide⟩ ?_
        obtain ⟨ob, hP⟩ := hP
        refine zV_zas dX0_shrink_67 sa_96 ob (fun h9 e_h9 => ?_)
        have hP := hP h9 e_h9
        refine zV_aload_n dX0_shrink_68 rfl ?_
        refine zV_sipush dX0_shrink_69 ⟨by decide, by decide, by decide⟩ ?_
        refine zV_iload_n dX0_shrink_72 rfl ?_
        refine zV_cVk (As := [zI (-1005), zI y2]) (rest := []) dX0_shrink_73 sa_14 (W_C_tried _ _ _ _ hP) mi_X0_tried ml_X0_464 (by decide) (Nat.le_of_ble_eq_true rfl) rfl rfl rfl (fun r10 h11 hP => ?_)
        refine zV_istore (ls' := [zR 14, zU, zI y2, zI y3, zI r10]) dX0_shrink_76 (Nat.le_of_ble_eq_true rfl) rfl rfl ?_
        refine zV_iload dX0_shrink_78 rfl ?_
        refine zV_sipush dX0_shrink_80 ⟨by decide, by decide, by decide⟩ ?_
        refine zV_icmp_eq (tgt := 94) dX0_shrink_83 (by decide) (fun c => ?_) (fun c => ?_)
        · have hP := zif_p hP c
          refine zV_iload dX0_shrink_94 rfl ?_
          exact zV_ireturn dX0_shrink_96 rfl rfl rfl ⟨rfl, hP⟩
        · have hP := zif_n hP c
          refine zV_iload dX0_shrink_86 rfl ?_
          refine zV_sipush dX0_shrink_88 ⟨by decide, by decide, by decide⟩ ?_
          refine zV_icmp_ne (tgt := 97) dX0_shrink_91 (by decide) (fun c => ?_) (fun c => ?_)
          · have hP := zif_n hP c
            refine zV_aload_n dX0_shrink_97 rfl ?_
            refine zV_sg dX0_shrink_98 fm_14_22 sa_14 (by decide) fl_X0_58_0 rfl ?_
            refine zV_gf dX0_shrink_101 sa_58 (by decide) fl_X0_467_1 rfl (ki := 31) rfl ?_
            refine zV_top (fun x2_12 e_x2_12 => ?_)
            have hP := hP x2_12 e_x2_12
            refine zV_istore_n (ls' := [zR 14, zU, zI x2_12, zI y3, zI r10]) dX0_shrink_104 rfl (Nat.le_of_ble_eq_true rfl) rfl rfl ?_
            refine zV_iload dX0_shrink_105 rfl ?_
            refine zV_if_ne (tgt := 135) dX0_shrink_107 (by decide) (fun c => ?_) (fun c => ?_)
            · have hP := zif_n hP c
              refine zV_mask [true, true, true, true, false] (ls' := [zR 14, zU, zI x2_12, zI y3, zU]) rfl ?_
              exact W_C_shrink_J135 _ _ _ _ _ ih hP
            · have hP := zif_p hP c
              refine zV_aload_n dX0_shrink_110 rfl ?_
              refine zV_sg dX0_shrink_111 fm_14_21 sa_14 (by decide) fl_X0_54_0 rfl ?_
              refine zV_sg dX0_shrink_114 fm_25_43 sa_25 (by decide) fl_X0_442_1 rfl ?_
              refine zV_iload_n dX0_shrink_117 rfl ?_
              refine zV_bipush dX0_shrink_118 ⟨by decide, by decide, by decide⟩ ?_
              refine zV_ishr dX0_shrink_120 ?_
              refine zV_dup2 dX0_shrink_121 (Nat.ne_of_beq_eq_false rfl) (Nat.ne_of_beq_eq_false rfl) ?_
              obtain ⟨ob, hP⟩ := hP
              refine zV_la dX0_shrink_122 sa_48 ob ?_
              refine zV_lconst (x := 1) dX0_shrink_123 rfl ?_
              refine zV_iload_n dX0_shrink_124 rfl ?_
              refine zV_bipush dX0_shrink_125 ⟨by decide, by decide, by decide⟩ ?_
              refine zV_iand dX0_shrink_127 ?_
              refine zV_lshl dX0_shrink_128 ?_
              refine zV_ldc2c (x := (-1)) dX0_shrink_129 (by decide) q1757 ⟨by decide, by decide⟩ ?_
              refine zV_lxor dX0_shrink_132 ?_
              refine zV_land dX0_shrink_133 ?_
              obtain ⟨ob, hP⟩ := hP
              refine zV_las dX0_shrink_134 sa_48 ob (fun h14 e_h14 => ?_)
              have hP := hP h14 e_h14
              refine zV_mask [true, true, true, true, false] (ls' := [zR 14, zU, zI x2_12, zI y3, zU]) rfl ?_
              exact W_C_shrink_J135 _ _ _ _ _ ih hP
          · have hP := zif_p hP c
            refine zV_iload dX0_shrink_94 rfl ?_
            exact zV_ireturn dX0_shrink_96 rfl rfl rfl ⟨rfl, hP⟩
      · have hP := zif_p hP c
        refine zV_goto (tgt := 135) dX0_shrink_54 (by decide) ?_
        exact W_C_shrink_J135 _ _ _ _ _ ih hP
def P_C_shrink_J247 (y2 : Int) (y3 : Int) (h : zH) (Q : Int → zH → Prop) (k143 : Int → Int → zH → Prop) : Prop :=
k143 y2 y3 h
theorem W_C_shrink_J247 (y2 : Int) (y3 : Int) (h : zH) (Q : Int → zH → Prop) (k143 : Int → Int → zH → Prop) (H143 : ∀ (v2 v3 : Int) (h' : zH), k143 v2 v3 h' → zV true zy_X0_shrink 9 143 [zR 14, zU, zI v2, zI v3, zU] [] h' (zQ0 Q)) (hP : P_C_shrink_J247 y2 y3 h Q k143) : zV true zy_X0_shrink 9 247 [zR 14, zU, zI y2, zI y3, zU] [] h (zQ0 Q) := by
  unfold P_C_shrink_J247 at hP
  refine zV_goto (tgt := 143) dX0_shrink_247 (by decide) ?_
  exact H143 _ _ _ hP
def P_C_shrink_L143 (Q : Int → zH → Prop) : Nat → Int → Int → zH → Prop
| 0, _, _, _ => False
| n143 + 1, y2, y3, h =>
if zd h 25 45 ≤ y3 then
(P_C_coreRows h (fun r16 h17 =>
Q (w32 (r16 + (zd h17 25 45))) h17))
else
(P_C_beginSide h (fun r18 h19 =>
P_C_tried y3 y2 h19 (fun r20 h21 =>
if r20 = (-1004) then
(Q r20 h21)
else
(if r20 = (-1003) then
(Q r20 h21)
else
(∀ x2_22 : Int, x2_22 = (zd h21 58 31) →
if r20 = 0 then
(∀ h24 : zH, h24 = zw h21 25 45 (w32 ((zd h21 25 45) - 1)) →
(zt h24 49 = 50 ∧ zt h24 49 = 50 ∧ 0 ≤ w32 (y3 + 1) ∧ 0 ≤ y3 ∧ 0 ≤ w32 ((zd h24 25 45) - y3) ∧ w32 (y3 + 1) + w32 ((zd h24 25 45) - y3) ≤ zl h24 49 ∧ y3 + w32 ((zd h24 25 45) - y3) ≤ zl h24 49) ∧
∀ h25 : zH, h25 = zcp h24 49 (w32 (y3 + 1)) 49 y3 (w32 ((zd h24 25 45) - y3)) →
P_C_shrink_J247 x2_22 y3 h25 Q (P_C_shrink_L143 Q n143))
else
(∀ x3_23 : Int, x3_23 = w32 (y3 + 1) →
P_C_shrink_J247 x2_22 x3_23 h21 Q (P_C_shrink_L143 Q n143)))))))
theorem W_C_shrink_L143 (Q : Int → zH → Prop) : ∀ (n143 : Nat) (y2 y3 : Int) (h : zH), P_C_shrink_L143 Q n143 y2 y3 h → zV true zy_X0_shrink 9 143 [zR 14, zU, zI y2, zI y3, zU] [] h (zQ0 Q) := by
  intro n143
  induction n143 with
  | zero => intro y2 y3 h hP; exact absurd hP id
  | succ n143 ih =>
    intro y2 y3 h hP
    unfold P_C_shrink_L143 at hP
    refine zV_iload_n dX0_shrink_143 rfl ?_
    refine zV_aload_n dX0_shrink_144 rfl ?_
    refine zV_sg dX0_shrink_145 fm_14_21 sa_14 (by decide) fl_X0_54_0 rfl ?_
    refine zV_gf dX0_shrink_148 sa_25 (by decide) fl_X0_455_1 rfl (ki := 45) rfl ?_
    refine zV_icmp_ge (tgt := 250) dX0_shrink_151 (by decide) (fun c => ?_) (fun c => ?_)
    · have hP := zif_p hP c
      refine zV_aload_n dX0_shrink_250 rfl ?_
      refine zV_cVk (As := []) (rest := []) dX0_shrink_251 sa_14 (W_C_coreRows _ _ hP) mi_X0_coreRows ml_X0_452 (by decide) (Nat.le_of_ble_eq_true rfl) rfl rfl rfl (fun r16 h17 hP => ?_)
      refine zV_aload_n dX0_shrink_254 rfl ?_
      refine zV_sg dX0_shrink_255 fm_14_21 sa_14 (by decide) fl_X0_54_0 rfl ?_
      refine zV_gf dX0_shrink_258 sa_25 (by decide) fl_X0_455_1 rfl (ki := 45) rfl ?_
      refine zV_iadd dX0_shrink_261 ?_
      exact zV_ireturn dX0_shrink_262 rfl rfl rfl ⟨rfl, hP⟩
    · have hP := zif_n hP c
      refine zV_aload_n dX0_shrink_154 rfl ?_
      refine zV_cVv (As := []) (rest := []) dX0_shrink_155 sa_14 (W_C_beginSide _ _ hP) mi_X0_beginSide ml_X0_461 (by decide) (Nat.le_of_ble_eq_true rfl) rfl rfl (fun r18 h19 hP => ?_)
      refine zV_aload_n dX0_shrink_158 rfl ?_
      refine zV_iload_n dX0_shrink_159 rfl ?_
      refine zV_iload_n dX0_shrink_160 rfl ?_
      refine zV_cVk (As := [zI y3, zI y2]) (rest := []) dX0_shrink_161 sa_14 (W_C_tried _ _ _ _ hP) mi_X0_tried ml_X0_464 (by decide) (Nat.le_of_ble_eq_true rfl) rfl rfl rfl (fun r20 h21 hP => ?_)
      refine zV_istore (ls' := [zR 14, zU, zI y2, zI y3, zI r20]) dX0_shrink_164 (Nat.le_of_ble_eq_true rfl) rfl rfl ?_
      refine zV_iload dX0_shrink_166 rfl ?_
      refine zV_sipush dX0_shrink_168 ⟨by decide, by decide, by decide⟩ ?_
      refine zV_icmp_eq (tgt := 182) dX0_shrink_171 (by decide) (fun c => ?_) (fun c => ?_)
      · have hP := zif_p hP c
        refine zV_iload dX0_shrink_182 rfl ?_
        exact zV_ireturn dX0_shrink_184 rfl rfl rfl ⟨rfl, hP⟩
      · have hP := zif_n hP c
        refine zV_iload dX0_shrink_174 rfl ?_
        refine zV_sipush dX0_shrink_176 ⟨by decide, by decide, by decide⟩ ?_
        refine zV_icmp_ne (tgt := 185) dX0_shrink_179 (by decide) (fun c => ?_) (fun c => ?_)
        · have hP := zif_n hP c
          refine zV_aload_n dX0_shrink_185 rfl ?_
          refine zV_sg dX0_shrink_186 fm_14_22 sa_14 (by decide) fl_X0_58_0 rfl ?_
          refine zV_gf dX0_shrink_189 sa_58 (by decide) fl_X0_467_1 rfl (ki := 31) rfl ?_
          refine zV_top (fun x2_22 e_x2_22 => ?_)
          have hP := hP x2_22 e_x2_22
          refine zV_istore_n (ls' := [zR 14, zU, zI x2_22, zI y3, zI r20]) dX0_shrink_192 rfl (Nat.le_of_ble_eq_true rfl) rfl rfl ?_
          refine zV_iload dX0_shrink_193 rfl ?_
          refine zV_if_ne (tgt := 244) dX0_shrink_195 (by decide) (fun c => ?_) (fun c => ?_)
          · have hP := zif_n hP c
            refine zV_inc (ls' := fun z => [zR 14, zU, zI x2_22, zI z, zI r20]) dX0_shrink_244 (Nat.le_of_ble_eq_true rfl) rfl rfl (fun _ => rfl) (fun x3_23 e_x3_23 => ?_)
            have hP := hP x3_23 e_x3_23
            refine zV_mask [true, true, true, true, false] (ls' := [zR 14, zU, zI x2_22, zI x3_23, zU]) rfl ?_
            exact W_C_shrink_J247 _ _ _ _ _ ih hP
          · have hP := zif_p hP c
            refine zV_aload_n dX0_shrink_198 rfl ?_
            refine zV_sg dX0_shrink_199 fm_14_21 sa_14 (by decide) fl_X0_54_0 rfl ?_
            refine zV_dup dX0_shrink_202 (Nat.ne_of_beq_eq_false rfl) ?_
            refine zV_gf dX0_shrink_203 sa_25 (by decide) fl_X0_455_1 rfl (ki := 45) rfl ?_
            refine zV_iconst dX0_shrink_206 ⟨by decide, by decide⟩ ?_
            refine zV_isub dX0_shrink_207 ?_
            refine zV_pf dX0_shrink_208 sa_25 (by decide) fl_X0_455_1 rfl rfl trivial (ki := 45) rfl (fun h24 e_h24 => ?_)
            have hP := hP h24 e_h24
            refine zV_aload_n dX0_shrink_211 rfl ?_
            refine zV_sg dX0_shrink_212 fm_14_21 sa_14 (by decide) fl_X0_54_0 rfl ?_
            refine zV_sg dX0_shrink_215 fm_25_44 sa_25 (by decide) fl_X0_458_1 rfl ?_
            refine zV_iload_n dX0_shrink_218 rfl ?_
            refine zV_iconst dX0_shrink_219 ⟨by decide, by decide⟩ ?_
            refine zV_iadd dX0_shrink_220 ?_
            refine zV_aload_n dX0_shrink_221 rfl ?_
            refine zV_sg dX0_shrink_222 fm_14_21 sa_14 (by decide) fl_X0_54_0 rfl ?_
            refine zV_sg dX0_shrink_225 fm_25_44 sa_25 (by decide) fl_X0_458_1 rfl ?_
            refine zV_iload_n dX0_shrink_228 rfl ?_
            refine zV_aload_n dX0_shrink_229 rfl ?_
            refine zV_sg dX0_shrink_230 fm_14_21 sa_14 (by decide) fl_X0_54_0 rfl ?_
            refine zV_gf dX0_shrink_233 sa_25 (by decide) fl_X0_455_1 rfl (ki := 45) rfl ?_
            refine zV_iload_n dX0_shrink_236 rfl ?_
            refine zV_isub dX0_shrink_237 ?_
            obtain ⟨ob, hP⟩ := hP
            refine zV_cpi dX0_shrink_238 q757 ob (Nat.le_of_ble_eq_true rfl) (by decide) (fun h25 e_h25 => ?_)
            have hP := hP h25 e_h25
            refine zV_goto (tgt := 247) dX0_shrink_241 (by decide) ?_
            refine zV_mask [true, true, true, true, false] (ls' := [zR 14, zU, zI x2_22, zI y3, zU]) rfl ?_
            exact W_C_shrink_J247 _ _ _ _ _ ih hP
        · have hP := zif_p hP c
          refine zV_iload dX0_shrink_182 rfl ?_
          exact zV_ireturn dX0_shrink_184 rfl rfl rfl ⟨rfl, hP⟩
def P_C_shrink (a1 : Int) (h : zH) (Q : Int → zH → Prop) : Prop :=
P_C_isIn a1 1 5000 h (fun r1 h2 =>
if r1 = 0 then
(P_C_refused (-1001) h2 (fun r28 h29 =>
Q r28 h29))
else
(P_C_hasCore h2 (fun r3 h4 =>
if r3 = 0 then
(P_C_refused (-1002) h4 (fun r26 h27 =>
Q r26 h27))
else
(∃ n39, P_C_shrink_L39 Q (fun u2_141 h15 =>
∃ n143, P_C_shrink_L143 Q n143 u2_141 0 h15) n39 a1 0 h4))))
theorem W_C_shrink (a1 : Int) (h : zH) (Q : Int → zH → Prop) (hP : P_C_shrink a1 h Q) : zC true zy_X0_shrink 9 [zR 14, zI a1] h (zQ0 Q) := by
  unfold P_C_shrink at hP
  refine zC.of (by decide) (Nat.le_of_ble_eq_true rfl) ?_
  show zV true zy_X0_shrink 9 0 [zR 14, zI a1, zU, zU, zU] [] h (zQ0 Q)
  refine zV_iload_n dX0_shrink_0 rfl ?_
  refine zV_i2l dX0_shrink_1 ?_
  refine zV_lconst (x := 1) dX0_shrink_2 rfl ?_
  refine zV_ldc2c (x := 5000) dX0_shrink_3 (by decide) q1520 ⟨by decide, by decide⟩ ?_
  refine zV_cSk (As := [zJ a1, zJ 1, zJ 5000]) (rest := []) dX0_shrink_6 (W_C_isIn _ _ _ _ _ hP) mi_X0_isIn ml_X0_109 (by decide) (Nat.le_of_ble_eq_true rfl) rfl rfl rfl (fun r1 h2 hP => ?_)
  refine zV_if_ne (tgt := 20) dX0_shrink_9 (by decide) (fun c => ?_) (fun c => ?_)
  · have hP := zif_n hP c
    refine zV_aload_n dX0_shrink_20 rfl ?_
    refine zV_cVk (As := []) (rest := []) dX0_shrink_21 sa_14 (W_C_hasCore _ _ hP) mi_X0_hasCore ml_X0_448 (by decide) (Nat.le_of_ble_eq_true rfl) rfl rfl rfl (fun r3 h4 hP => ?_)
    refine zV_if_ne (tgt := 35) dX0_shrink_24 (by decide) (fun c => ?_) (fun c => ?_)
    · have hP := zif_n hP c
      refine zV_iload_n dX0_shrink_35 rfl ?_
      refine zV_istore_n (ls' := [zR 14, zI a1, zI a1, zU, zU]) dX0_shrink_36 rfl (Nat.le_of_ble_eq_true rfl) rfl rfl ?_
      refine zV_iconst dX0_shrink_37 ⟨by decide, by decide⟩ ?_
      refine zV_istore_n (ls' := [zR 14, zI a1, zI a1, zI 0, zU]) dX0_shrink_38 rfl (Nat.le_of_ble_eq_true rfl) rfl rfl ?_
      obtain ⟨n39, hP⟩ := hP
      refine zV_mask [true, false, true, true, true] (ls' := [zR 14, zU, zI a1, zI 0, zU]) rfl ?_
      refine W_C_shrink_L39 _ _ (fun u2_141 h15 hP => ?_) n39 _ _ _ hP
      refine zV_iconst dX0_shrink_141 ⟨by decide, by decide⟩ ?_
      refine zV_istore_n (ls' := [zR 14, zU, zI u2_141, zI 0, zU]) dX0_shrink_142 rfl (Nat.le_of_ble_eq_true rfl) rfl rfl ?_
      obtain ⟨n143, hP⟩ := hP
      refine W_C_shrink_L143 _ n143 _ _ _ hP
    · have hP := zif_p hP c
      refine zV_aload_n dX0_shrink_27 rfl ?_
      refine zV_sipush dX0_shrink_28 ⟨by decide, by decide, by decide⟩ ?_
      refine zV_cVk (As := [zI (-1002)]) (rest := []) dX0_shrink_31 sa_14 (W_C_refused _ _ _ hP) mi_X0_refused ml_X0_124 (by decide) (Nat.le_of_ble_eq_true rfl) rfl rfl rfl (fun r26 h27 hP => ?_)
      exact zV_ireturn dX0_shrink_34 rfl rfl rfl ⟨rfl, hP⟩
  · have hP := zif_p hP c
    refine zV_aload_n dX0_shrink_12 rfl ?_
    refine zV_sipush dX0_shrink_13 ⟨by decide, by decide, by decide⟩ ?_
    refine zV_cVk (As := [zI (-1001)]) (rest := []) dX0_shrink_16 sa_14 (W_C_refused _ _ _ hP) mi_X0_refused ml_X0_124 (by decide) (Nat.le_of_ble_eq_true rfl) rfl rfl rfl (fun r28 h29 hP => ?_)
    exact zV_ireturn dX0_shrink_19 rfl rfl rfl ⟨rfl, hP⟩
def P_JI_bitCount (a1 : Int) (h : zH) (Q : Int → zH → Prop) : Prop :=
∀ x0_1 : Int, x0_1 = (w32 (a1 - (zand (zushr a1 1) 1431655765))) →
∀ x0_2 : Int, x0_2 = (w32 ((zand x0_1 858993459) + (zand (zushr x0_1 2) 858993459))) →
∀ x0_3 : Int, x0_3 = (zand (w32 (x0_2 + (zushr x0_2 4))) 252645135) →
∀ x0_4 : Int, x0_4 = (w32 (x0_3 + (zushr x0_3 8))) →
∀ x0_5 : Int, x0_5 = (w32 (x0_4 + (zushr x0_4 16))) →
Q (zand x0_5 63) h
theorem W_JI_bitCount (a1 : Int) (h : zH) (Q : Int → zH → Prop) (hP : P_JI_bitCount a1 h Q) : zC true zy_J14_bitCount 1 [zI a1] h (zQ0 Q) := by
  unfold P_JI_bitCount at hP
  refine zC.of (by decide) (Nat.le_of_ble_eq_true rfl) ?_
  show zV true zy_J14_bitCount 1 0 [zI a1] [] h (zQ0 Q)
  refine zV_iload_n dJ14_bitCount_0 rfl ?_
  refine zV_iload_n dJ14_bitCount_1 rfl ?_
  refine zV_iconst dJ14_bitCount_2 ⟨by decide, by decide⟩ ?_
  refine zV_iushr dJ14_bitCount_3 ?_
  refine zV_ldcwc (x := 1431655765) dJ14_bitCount_4 (by decide) q1766 ⟨by decide, by decide⟩ ?_
  refine zV_iand dJ14_bitCount_7 ?_
  refine zV_isub dJ14_bitCount_8 ?_
  refine zV_top (fun x0_1 e_x0_1 => ?_)
  have hP := hP x0_1 e_x0_1
  refine zV_istore_n (ls' := [zI x0_1]) dJ14_bitCount_9 rfl (Nat.le_of_ble_eq_true rfl) rfl rfl ?_
  refine zV_iload_n dJ14_bitCount_10 rfl ?_
  refine zV_ldcwc (x := 858993459) dJ14_bitCount_11 (by decide) q1767 ⟨by decide, by decide⟩ ?_
  refine zV_iand dJ14_bitCount_14 ?_
  refine zV_iload_n dJ14_bitCount_15 rfl ?_
  refine zV_iconst dJ14_bitCount_16 ⟨by decide, by decide⟩ ?_
  refine zV_iushr dJ14_bitCount_17 ?_
  refine zV_ldcwc (x := 858993459) dJ14_bitCount_18 (by decide) q1767 ⟨by decide, by decide⟩ ?_
  refine zV_iand dJ14_bitCount_21 ?_
  refine zV_iadd dJ14_bitCount_22 ?_
  refine zV_top (fun x0_2 e_x0_2 => ?_)
  have hP := hP x0_2 e_x0_2
  refine zV_istore_n (ls' := [zI x0_2]) dJ14_bitCount_23 rfl (Nat.le_of_ble_eq_true rfl) rfl rfl ?_
  refine zV_iload_n dJ14_bitCount_24 rfl ?_
  refine zV_iload_n dJ14_bitCount_25 rfl ?_
  refine zV_iconst dJ14_bitCount_26 ⟨by decide, by decide⟩ ?_
  refine zV_iushr dJ14_bitCount_27 ?_
  refine zV_iadd dJ14_bitCount_28 ?_
  refine zV_ldcwc (x := 252645135) dJ14_bitCount_29 (by decide) q1768 ⟨by decide, by decide⟩ ?_
  refine zV_iand dJ14_bitCount_32 ?_
  refine zV_top (fun x0_3 e_x0_3 => ?_)
  have hP := hP x0_3 e_x0_3
  refine zV_istore_n (ls' := [zI x0_3]) dJ14_bitCount_33 rfl (Nat.le_of_ble_eq_true rfl) rfl rfl ?_
  refine zV_iload_n dJ14_bitCount_34 rfl ?_
  refine zV_iload_n dJ14_bitCount_35 rfl ?_
  refine zV_bipush dJ14_bitCount_36 ⟨by decide, by decide, by decide⟩ ?_
  refine zV_iushr dJ14_bitCount_38 ?_
  refine zV_iadd dJ14_bitCount_39 ?_
  refine zV_top (fun x0_4 e_x0_4 => ?_)
  have hP := hP x0_4 e_x0_4
  refine zV_istore_n (ls' := [zI x0_4]) dJ14_bitCount_40 rfl (Nat.le_of_ble_eq_true rfl) rfl rfl ?_
  refine zV_iload_n dJ14_bitCount_41 rfl ?_
  refine zV_iload_n dJ14_bitCount_42 rfl ?_
  refine zV_bipush dJ14_bitCount_43 ⟨by decide, by decide, by decide⟩ ?_
  refine zV_iushr dJ14_bitCount_45 ?_
  refine zV_iadd dJ14_bitCount_46 ?_
  refine zV_top (fun x0_5 e_x0_5 => ?_)
  have hP := hP x0_5 e_x0_5
  refine zV_istore_n (ls' := [zI x0_5]) dJ14_bitCount_47 rfl (Nat.le_of_ble_eq_true rfl) rfl rfl ?_
  refine zV_iload_n dJ14_bitCount_48 rfl ?_
  refine zV_bipush dJ14_bitCount_49 ⟨by decide, by decide, by decide⟩ ?_
  refine zV_iand dJ14_bitCount_51 ?_
  exact zV_ireturn dJ14_bitCount_52 rfl rfl rfl ⟨rfl, hP⟩
def P_C_least_L57 (y1 : Int) (y2 : Int) (y3 : Int) (Q : Int → zH → Prop) (k80 : zH → Prop) : Nat → Int → zH → Prop
| 0, _, _ => False
| n57 + 1, y4, h =>
if y2 ≤ y4 then
(k80 h)
else
(P_C_coreAt 0 y4 h (fun r13 h14 =>
(zt h14 y3 = 50 ∧ 0 ≤ y4 ∧ y4 < zl h14 y3) ∧
∀ h15 : zH, h15 = zw h14 y3 y4 r13 →
∀ x4_16 : Int, x4_16 = w32 (y4 + 1) →
P_C_least_L57 y1 y2 y3 Q k80 n57 x4_16 h15))
theorem W_C_least_L57 (y1 : Int) (y2 : Int) (y3 : Int) (Q : Int → zH → Prop) (k80 : zH → Prop) (H80 : ∀ (h' : zH), k80 h' → zV true zy_X0_least 9 80 [zR 14, zI y1, zI y2, zR y3, zU, zU, zU, zU, zU] [] h' (zQ0 Q)) : ∀ (n57 : Nat) (y4 : Int) (h : zH), P_C_least_L57 y1 y2 y3 Q k80 n57 y4 h → zV true zy_X0_least 9 57 [zR 14, zI y1, zI y2, zR y3, zI y4, zU, zU, zU, zU] [] h (zQ0 Q) := by
  intro n57
  induction n57 with
  | zero => intro y4 h hP; exact absurd hP id
  | succ n57 ih =>
    intro y4 h hP
    unfold P_C_least_L57 at hP
    refine zV_iload dX0_least_57 rfl ?_
    refine zV_iload_n dX0_least_59 rfl ?_
    refine zV_icmp_ge (tgt := 80) dX0_least_60 (by decide) (fun c => ?_) (fun c => ?_)
    · have hP := zif_p hP c
      refine zV_mask [true, true, true, true, false, true, true, true, true] (ls' := [zR 14, zI y1, zI y2, zR y3, zU, zU, zU, zU, zU]) rfl ?_
      exact H80 _ hP
    · have hP := zif_n hP c
      refine zV_aload_n dX0_least_63 rfl ?_
      refine zV_iload dX0_least_64 rfl ?_
      refine zV_aload_n dX0_least_66 rfl ?_
      refine zV_iconst dX0_least_67 ⟨by decide, by decide⟩ ?_
      refine zV_iload dX0_least_68 rfl ?_
      refine zV_cVk (As := [zI 0, zI y4]) (rest := [zI y4, zR y3]) dX0_least_70 sa_14 (W_C_coreAt _ _ _ _ hP) mi_X0_coreAt ml_X0_472 (by decide) (Nat.le_of_ble_eq_true rfl) rfl rfl rfl (fun r13 h14 hP => ?_)
      obtain ⟨ob, hP⟩ := hP
      refine zV_iasD dX0_least_73 ob (fun h15 e_h15 => ?_)
      have hP := hP h15 e_h15
      refine zV_inc (ls' := fun z => [zR 14, zI y1, zI y2, zR y3, zI z, zU, zU, zU, zU]) dX0_least_74 (Nat.le_of_ble_eq_true rfl) rfl rfl (fun _ => rfl) (fun x4_16 e_x4_16 => ?_)
      have hP := hP x4_16 e_x4_16
      refine zV_goto (tgt := 57) dX0_least_77 (by decide) ?_
      exact ih _ _ hP
def P_C_least_L119 (y2 : Int) (y3 : Int) (y4 : Int) (y5 : Int) (y6 : Int) (Q : Int → zH → Prop) (k141 : zH → Prop) : Nat → Int → zH → Prop
| 0, _, _ => False
| n119 + 1, y7, h =>
if 500 ≤ y7 then
(k141 h)
else
((0 ≤ y7 ∧ y7 < 500) ∧
∀ h20 : zH, h20 = zw h 96 y7 (zbit 1) →
∀ x7_21 : Int, x7_21 = w32 (y7 + 1) →
P_C_least_L119 y2 y3 y4 y5 y6 Q k141 n119 x7_21 h20)
theorem W_C_least_L119 (y2 : Int) (y3 : Int) (y4 : Int) (y5 : Int) (y6 : Int) (Q : Int → zH → Prop) (k141 : zH → Prop) (H141 : ∀ (h' : zH), k141 h' → zV true zy_X0_least 9 141 [zR 14, zU, zI y2, zR y3, zI y4, zI y5, zI y6, zU, zU] [] h' (zQ0 Q)) : ∀ (n119 : Nat) (y7 : Int) (h : zH), P_C_least_L119 y2 y3 y4 y5 y6 Q k141 n119 y7 h → zV true zy_X0_least 9 119 [zR 14, zU, zI y2, zR y3, zI y4, zI y5, zI y6, zI y7, zU] [] h (zQ0 Q) := by
  intro n119
  induction n119 with
  | zero => intro y7 h hP; exact absurd hP id
  | succ n119 ih =>
    intro y7 h hP
    unfold P_C_least_L119 at hP
    refine zV_iload dX0_least_119 rfl ?_
    refine zV_sipush dX0_least_121 ⟨by decide, by decide, by decide⟩ ?_
    refine zV_icmp_ge (tgt := 141) dX0_least_124 (by decide) (fun c => ?_) (fun c => ?_)
    · have hP := zif_p hP c
      refine zV_mask [true, true, true, true, true, true, true, false, true] (ls' := [zR 14, zU, zI y2, zR y3, zI y4, zI y5, zI y6, zU, zU]) rfl ?_
      exact H141 _ hP
    · have hP := zif_n hP c
      refine zV_aload_n dX0_least_127 rfl ?_
      refine zV_sg dX0_least_128 fm_14_34 sa_14 (by decide) fl_X0_77_0 rfl ?_
      refine zV_iload dX0_least_131 rfl ?_
      refine zV_iconst dX0_least_133 ⟨by decide, by decide⟩ ?_
      obtain ⟨ob, hP⟩ := hP
      refine zV_zas dX0_least_134 sa_96 ob (fun h20 e_h20 => ?_)
      have hP := hP h20 e_h20
      refine zV_inc (ls' := fun z => [zR 14, zU, zI y2, zR y3, zI y4, zI y5, zI y6, zI z, zU]) dX0_least_135 (Nat.le_of_ble_eq_true rfl) rfl rfl (fun _ => rfl) (fun x7_21 e_x7_21 => ?_)
      have hP := hP x7_21 e_x7_21
      refine zV_goto (tgt := 119) dX0_least_138 (by decide) ?_
      exact ih _ _ hP
def P_C_least_J173 (y2 : Int) (y3 : Int) (y4 : Int) (y5 : Int) (y6 : Int) (y7 : Int) (s0 : Int) (s1 : Int) (h : zH) (Q : Int → zH → Prop) (k144 : Int → zH → Prop) : Prop :=
(0 ≤ s1 ∧ s1 < 500) ∧
∀ h23 : zH, h23 = zw h 96 s1 (zbit s0) →
∀ x7_24 : Int, x7_24 = w32 (y7 + 1) →
k144 x7_24 h23
theorem W_C_least_J173 (y2 : Int) (y3 : Int) (y4 : Int) (y5 : Int) (y6 : Int) (y7 : Int) (s0 : Int) (s1 : Int) (h : zH) (Q : Int → zH → Prop) (k144 : Int → zH → Prop) (H144 : ∀ (v7 : Int) (h' : zH), k144 v7 h' → zV true zy_X0_least 9 144 [zR 14, zU, zI y2, zR y3, zI y4, zI y5, zI y6, zI v7, zU] [] h' (zQ0 Q)) (hP : P_C_least_J173 y2 y3 y4 y5 y6 y7 s0 s1 h Q k144) : zV true zy_X0_least 9 173 [zR 14, zU, zI y2, zR y3, zI y4, zI y5, zI y6, zI y7, zU] [zI s0, zI s1, zR 96] h (zQ0 Q) := by
  unfold P_C_least_J173 at hP
  obtain ⟨ob, hP⟩ := hP
  refine zV_zas dX0_least_173 sa_96 ob (fun h23 e_h23 => ?_)
  have hP := hP h23 e_h23
  refine zV_inc (ls' := fun z => [zR 14, zU, zI y2, zR y3, zI y4, zI y5, zI y6, zI z, zU]) dX0_least_174 (Nat.le_of_ble_eq_true rfl) rfl rfl (fun _ => rfl) (fun x7_24 e_x7_24 => ?_)
  have hP := hP x7_24 e_x7_24
  refine zV_goto (tgt := 144) dX0_least_177 (by decide) ?_
  exact H144 _ _ hP
def P_C_least_L144 (y2 : Int) (y3 : Int) (y4 : Int) (y5 : Int) (y6 : Int) (Q : Int → zH → Prop) (k180 : zH → Prop) : Nat → Int → zH → Prop
| 0, _, _ => False
| n144 + 1, y7, h =>
if y2 ≤ y7 then
(k180 h)
else
((zt h y3 = 50 ∧ 0 ≤ y7 ∧ y7 < zl h y3) ∧
P_C_least_J173 y2 y3 y4 y5 y6 y7 (if zand (zshr y6 y7) 1 = 0 then 1 else 0) (zd h y3 y7) h Q (P_C_least_L144 y2 y3 y4 y5 y6 Q k180 n144))
theorem W_C_least_L144 (y2 : Int) (y3 : Int) (y4 : Int) (y5 : Int) (y6 : Int) (Q : Int → zH → Prop) (k180 : zH → Prop) (H180 : ∀ (h' : zH), k180 h' → zV true zy_X0_least 9 180 [zR 14, zU, zI y2, zR y3, zI y4, zI y5, zI y6, zU, zU] [] h' (zQ0 Q)) : ∀ (n144 : Nat) (y7 : Int) (h : zH), P_C_least_L144 y2 y3 y4 y5 y6 Q k180 n144 y7 h → zV true zy_X0_least 9 144 [zR 14, zU, zI y2, zR y3, zI y4, zI y5, zI y6, zI y7, zU] [] h (zQ0 Q) := by
  intro n144
  induction n144 with
  | zero => intro y7 h hP; exact absurd hP id
  | succ n144 ih =>
    intro y7 h hP
    unfold P_C_least_L144 at hP
    refine zV_iload dX0_least_144 rfl ?_
    refine zV_iload_n dX0_least_146 rfl ?_
    refine zV_icmp_ge (tgt := 180) dX0_least_147 (by decide) (fun c => ?_) (fun c => ?_)
    · have hP := zif_p hP c
      refine zV_mask [true, true, true, true, true, true, true, false, true] (ls' := [zR 14, zU, zI y2, zR y3, zI y4, zI y5, zI y6, zU, zU]) rfl ?_
      exact H180 _ hP
    · have hP := zif_n hP c
      refine zV_aload_n dX0_least_150 rfl ?_
      refine zV_sg dX0_least_151 fm_14_34 sa_14 (by decide) fl_X0_77_0 rfl ?_
      refine zV_aload_n dX0_least_154 rfl ?_
      refine zV_iload dX0_least_155 rfl ?_
      obtain ⟨ob, hP⟩ := hP
      refine zV_iaD dX0_least_157 ob ?_
      refine zV_iload dX0_least_158 rfl ?_
      refine zV_iload dX0_least_160 rfl ?_
      refine zV_ishr dX0_least_162 ?_
      refine zV_iconst dX0_least_163 ⟨by decide, by decide⟩ ?_
      refine zV_iand dX0_least_164 ?_
      have K : zV true zy_X0_least 9 173 [zR 14, zU, zI y2, zR y3, zI y4, zI y5, zI y6, zI y7, zU] [zI (if zand (zshr y6 y7) 1 = 0 then 1 else 0), zI (zd h y3 y7), zR 96] h (zQ0 Q) := by
        exact W_C_least_J173 _ _ _ _ _ _ _ _ _ _ _ ih hP
      clear hP
      refine zV_if_ne (tgt := 172) dX0_least_165 (by decide) (fun c => ?_) (fun c => ?_)
      · try simp only [if_neg c] at K
        refine zV_iconst dX0_least_172 ⟨by decide, by decide⟩ ?_
        refine zV_mask [true, false, true, true, true, true, true, true, false] rfl ?_
        exact K
      · try simp only [if_pos c] at K
        refine zV_iconst dX0_least_168 ⟨by decide, by decide⟩ ?_
        refine zV_goto (tgt := 173) dX0_least_169 (by decide) ?_
        refine zV_mask [true, false, true, true, true, true, true, true, false] rfl ?_
        exact K
def P_C_least_J283 (y2 : Int) (y3 : Int) (y4 : Int) (y5 : Int) (y6 : Int) (h : zH) (Q : Int → zH → Prop) (k95 : Int → Int → zH → Prop) : Prop :=
∀ x6_29 : Int, x6_29 = w32 (y6 + 1) →
k95 y4 x6_29 h
theorem W_C_least_J283 (y2 : Int) (y3 : Int) (y4 : Int) (y5 : Int) (y6 : Int) (h : zH) (Q : Int → zH → Prop) (k95 : Int → Int → zH → Prop) (H95 : ∀ (v4 v6 : Int) (h' : zH), k95 v4 v6 h' → zV true zy_X0_least 9 95 [zR 14, zU, zI y2, zR y3, zI v4, zI y5, zI v6, zU, zU] [] h' (zQ0 Q)) (hP : P_C_least_J283 y2 y3 y4 y5 y6 h Q k95) : zV true zy_X0_least 9 283 [zR 14, zU, zI y2, zR y3, zI y4, zI y5, zI y6, zU, zU] [] h (zQ0 Q) := by
  unfold P_C_least_J283 at hP
  refine zV_inc (ls' := fun z => [zR 14, zU, zI y2, zR y3, zI y4, zI y5, zI z, zU, zU]) dX0_least_283 (Nat.le_of_ble_eq_true rfl) rfl rfl (fun _ => rfl) (fun x6_29 e_x6_29 => ?_)
  have hP := hP x6_29 e_x6_29
  refine zV_goto (tgt := 95) dX0_least_286 (by decide) ?_
  exact H95 _ _ _ hP
def P_C_least_L95 (y2 : Int) (y3 : Int) (y5 : Int) (Q : Int → zH → Prop) (k224 : Int → zH → Prop) (k289 : Int → zH → Prop) : Nat → Int → Int → zH → Prop
| 0, _, _, _ => False
| n95 + 1, y4, y6, h =>
if zshl 1 y2 ≤ y6 then
(k289 y4 h)
else
(P_JI_bitCount y6 h (fun r18 h19 =>
if r18 = y5 then
(∃ n119, P_C_least_L119 y2 y3 y4 y5 y6 Q (fun h22 =>
∃ n144, P_C_least_L144 y2 y3 y4 y5 y6 Q (fun h25 =>
P_C_tried (-1005) y4 h25 (fun r26 h27 =>
if r26 = (-1004) then
(Q r26 h27)
else
(if r26 = (-1003) then
(Q r26 h27)
else
(∀ x4_28 : Int, x4_28 = (zd h27 58 31) →
if r26 = 0 then
(k224 y6 h27)
else
(P_C_least_J283 y2 y3 x4_28 y5 y6 h27 Q (P_C_least_L95 y2 y3 y5 Q k224 k289 n95)))))) n144 0 h22) n119 0 h19)
else
(P_C_least_J283 y2 y3 y4 y5 y6 h19 Q (P_C_least_L95 y2 y3 y5 Q k224 k289 n95))))
theorem W_C_least_L95 (y2 : Int) (y3 : Int) (y5 : Int) (Q : Int → zH → Prop) (k224 : Int → zH → Prop) (k289 : Int → zH → Prop) (H224 : ∀ (v6 : Int) (h' : zH), k224 v6 h' → zV true zy_X0_least 9 224 [zR 14, zU, zI y2, zR y3, zU, zI y5, zI v6, zU, zU] [] h' (zQ0 Q)) (H289 : ∀ (v4 : Int) (h' : zH), k289 v4 h' → zV true zy_X0_least 9 289 [zR 14, zU, zI y2, zR y3, zI v4, zI y5, zU, zU, zU] [] h' (zQ0 Q)) : ∀ (n95 : Nat) (y4 y6 : Int) (h : zH), P_C_least_L95 y2 y3 y5 Q k224 k289 n95 y4 y6 h → zV true zy_X0_least 9 95 [zR 14, zU, zI y2, zR y3, zI y4, zI y5, zI y6, zU, zU] [] h (zQ0 Q) := by
  intro n95
  induction n95 with
  | zero => intro y4 y6 h hP; exact absurd hP id
  | succ n95 ih =>
    intro y4 y6 h hP
    unfold P_C_least_L95 at hP
    refine zV_iload dX0_least_95 rfl ?_
    refine zV_iconst dX0_least_97 ⟨by decide, by decide⟩ ?_
    refine zV_iload_n dX0_least_98 rfl ?_
    refine zV_ishl dX0_least_99 ?_
    refine zV_icmp_ge (tgt := 289) dX0_least_100 (by decide) (fun c => ?_) (fun c => ?_)
    · have hP := zif_p hP c
      refine zV_mask [true, true, true, true, true, true, false, true, true] (ls' := [zR 14, zU, zI y2, zR y3, zI y4, zI y5, zU, zU, zU]) rfl ?_
      exact H289 _ _ hP
    · have hP := zif_n hP c
      refine zV_iload dX0_least_103 rfl ?_
      refine zV_cSk (As := [zI y6]) (rest := []) dX0_least_105 (W_JI_bitCount _ _ _ hP) mi_J14_bitCount ml_X0_475 (by decide) (Nat.le_of_ble_eq_true rfl) rfl rfl rfl (fun r18 h19 hP => ?_)
      refine zV_iload dX0_least_108 rfl ?_
      refine zV_icmp_eq (tgt := 116) dX0_least_110 (by decide) (fun c => ?_) (fun c => ?_)
      · have hP := zif_p hP c
        refine zV_iconst dX0_least_116 ⟨by decide, by decide⟩ ?_
        refine zV_istore (ls' := [zR 14, zU, zI y2, zR y3, zI y4, zI y5, zI y6, zI 0, zU]) dX0_least_117 (Nat.le_of_ble_eq_true rfl) rfl rfl ?_
        obtain ⟨n119, hP⟩ := hP
        refine W_C_least_L119 _ _ _ _ _ _ _ (fun h22 hP => ?_) n119 _ _ hP
        refine zV_iconst dX0_least_141 ⟨by decide, by decide⟩ ?_
        refine zV_istore (ls' := [zR 14, zU, zI y2, zR y3, zI y4, zI y5, zI y6, zI 0, zU]) dX0_least_142 (Nat.le_of_ble_eq_true rfl) rfl rfl ?_
        obtain ⟨n144, hP⟩ := hP
        refine W_C_least_L144 _ _ _ _ _ _ _ (fun h25 hP => ?_) n144 _ _ hP
        refine zV_aload_n dX0_least_180 rfl ?_
        refine zV_sipush dX0_least_181 ⟨by decide, by decide, by decide⟩ ?_
        refine zV_iload dX0_least_184 rfl ?_
        refine zV_cVk (As := [zI (-1005), zI y4]) (rest := []) dX0_least_186 sa_14 (W_C_tried _ _ _ _ hP) mi_X0_tried ml_X0_464 (by decide) (Nat.le_of_ble_eq_true rfl) rfl rfl rfl (fun r26 h27 hP => ?_)
        refine zV_istore (ls' := [zR 14, zU, zI y2, zR y3, zI y4, zI y5, zI y6, zI r26, zU]) dX0_least_189 (Nat.le_of_ble_eq_true rfl) rfl rfl ?_
        refine zV_iload dX0_least_191 rfl ?_
        refine zV_sipush dX0_least_193 ⟨by decide, by decide, by decide⟩ ?_
        refine zV_icmp_eq (tgt := 207) dX0_least_196 (by decide) (fun c => ?_) (fun c => ?_)
        · have hP := zif_p hP c
          refine zV_iload dX0_least_207 rfl ?_
          exact zV_ireturn dX0_least_209 rfl rfl rfl ⟨rfl, hP⟩
        · have hP := zif_n hP c
          refine zV_iload dX0_least_199 rfl ?_
          refine zV_sipush dX0_least_201 ⟨by decide, by decide, by decide⟩ ?_
          refine zV_icmp_ne (tgt := 210) dX0_least_204 (by decide) (fun c => ?_) (fun c => ?_)
          · have hP := zif_n hP c
            refine zV_aload_n dX0_least_210 rfl ?_
            refine zV_sg dX0_least_211 fm_14_22 sa_14 (by decide) fl_X0_58_0 rfl ?_
            refine zV_gf dX0_least_214 sa_58 (by decide) fl_X0_467_1 rfl (ki := 31) rfl ?_
            refine zV_top (fun x4_28 e_x4_28 => ?_)
            have hP := hP x4_28 e_x4_28
            refine zV_istore (ls' := [zR 14, zU, zI y2, zR y3, zI x4_28, zI y5, zI y6, zI r26, zU]) dX0_least_217 (Nat.le_of_ble_eq_true rfl) rfl rfl ?_
            refine zV_iload dX0_least_219 rfl ?_
            refine zV_if_ne (tgt := 283) dX0_least_221 (by decide) (fun c => ?_) (fun c => ?_)
            · have hP := zif_n hP c
              refine zV_mask [true, true, true, true, true, true, true, false, true] (ls' := [zR 14, zU, zI y2, zR y3, zI x4_28, zI y5, zI y6, zU, zU]) rfl ?_
              exact W_C_least_J283 _ _ _ _ _ _ _ _ ih hP
            · have hP := zif_p hP c
              refine zV_mask [true, true, true, true, false, true, true, false, true] (ls' := [zR 14, zU, zI y2, zR y3, zU, zI y5, zI y6, zU, zU]) rfl ?_
              exact H224 _ _ hP
          · have hP := zif_p hP c
            refine zV_iload dX0_least_207 rfl ?_
            exact zV_ireturn dX0_least_209 rfl rfl rfl ⟨rfl, hP⟩
      · have hP := zif_n hP c
        refine zV_goto (tgt := 283) dX0_least_113 (by decide) ?_
        exact W_C_least_J283 _ _ _ _ _ _ _ _ ih hP
def P_C_least_L86 (y2 : Int) (y3 : Int) (Q : Int → zH → Prop) (k224 : Int → Int → zH → Prop) : Nat → Int → Int → zH → Prop
| 0, _, _, _ => False
| n86 + 1, y4, y5, h =>
if y2 < y5 then
(Q y2 h)
else
(∃ n95, P_C_least_L95 y2 y3 y5 Q (fun u6_224 h30 => k224 y5 u6_224 h30) (fun u4_289 h31 =>
∀ x5_32 : Int, x5_32 = w32 (y5 + 1) →
P_C_least_L86 y2 y3 Q k224 n86 u4_289 x5_32 h31) n95 y4 0 h)
theorem W_C_least_L86 (y2 : Int) (y3 : Int) (Q : Int → zH → Prop) (k224 : Int → Int → zH → Prop) (H224 : ∀ (v5 v6 : Int) (h' : zH), k224 v5 v6 h' → zV true zy_X0_least 9 224 [zR 14, zU, zI y2, zR y3, zU, zI v5, zI v6, zU, zU] [] h' (zQ0 Q)) : ∀ (n86 : Nat) (y4 y5 : Int) (h : zH), P_C_least_L86 y2 y3 Q k224 n86 y4 y5 h → zV true zy_X0_least 9 86 [zR 14, zU, zI y2, zR y3, zI y4, zI y5, zU, zU, zU] [] h (zQ0 Q) := by
  intro n86
  induction n86 with
  | zero => intro y4 y5 h hP; exact absurd hP id
  | succ n86 ih =>
    intro y4 y5 h hP
    unfold P_C_least_L86 at hP
    refine zV_iload dX0_least_86 rfl ?_
    refine zV_iload_n dX0_least_88 rfl ?_
    refine zV_icmp_gt (tgt := 295) dX0_least_89 (by decide) (fun c => ?_) (fun c => ?_)
    · have hP := zif_p hP c
      refine zV_iload_n dX0_least_295 rfl ?_
      exact zV_ireturn dX0_least_296 rfl rfl rfl ⟨rfl, hP⟩
    · have hP := zif_n hP c
      refine zV_iconst dX0_least_92 ⟨by decide, by decide⟩ ?_
      refine zV_istore (ls' := [zR 14, zU, zI y2, zR y3, zI y4, zI y5, zI 0, zU, zU]) dX0_least_93 (Nat.le_of_ble_eq_true rfl) rfl rfl ?_
      obtain ⟨n95, hP⟩ := hP
      refine W_C_least_L95 _ _ _ _ _ _ (fun u6_224 h30 hP => H224 _ _ _ hP) (fun u4_289 h31 hP => ?_) n95 _ _ _ hP
      refine zV_inc (ls' := fun z => [zR 14, zU, zI y2, zR y3, zI u4_289, zI z, zU, zU, zU]) dX0_least_289 (Nat.le_of_ble_eq_true rfl) rfl rfl (fun _ => rfl) (fun x5_32 e_x5_32 => ?_)
      have hP := hP x5_32 e_x5_32
      refine zV_goto (tgt := 86) dX0_least_292 (by decide) ?_
      exact ih _ _ _ hP
def P_C_least_J274 (y2 : Int) (y3 : Int) (y5 : Int) (y6 : Int) (y8 : Int) (h : zH) (Q : Int → zH → Prop) (k227 : Int → zH → Prop) : Prop :=
∀ x8_34 : Int, x8_34 = w32 (y8 + 1) →
k227 x8_34 h
theorem W_C_least_J274 (y2 : Int) (y3 : Int) (y5 : Int) (y6 : Int) (y8 : Int) (h : zH) (Q : Int → zH → Prop) (k227 : Int → zH → Prop) (H227 : ∀ (v8 : Int) (h' : zH), k227 v8 h' → zV true zy_X0_least 9 227 [zR 14, zU, zI y2, zR y3, zU, zI y5, zI y6, zU, zI v8] [] h' (zQ0 Q)) (hP : P_C_least_J274 y2 y3 y5 y6 y8 h Q k227) : zV true zy_X0_least 9 274 [zR 14, zU, zI y2, zR y3, zU, zI y5, zI y6, zU, zI y8] [] h (zQ0 Q) := by
  unfold P_C_least_J274 at hP
  refine zV_inc (ls' := fun z => [zR 14, zU, zI y2, zR y3, zU, zI y5, zI y6, zU, zI z]) dX0_least_274 (Nat.le_of_ble_eq_true rfl) rfl rfl (fun _ => rfl) (fun x8_34 e_x8_34 => ?_)
  have hP := hP x8_34 e_x8_34
  refine zV_goto (tgt := 227) dX0_least_277 (by decide) ?_
  exact H227 _ _ hP
def P_C_least_L227 (y2 : Int) (y3 : Int) (y5 : Int) (y6 : Int) (Q : Int → zH → Prop) : Nat → Int → zH → Prop
| 0, _, _ => False
| n227 + 1, y8, h =>
if y2 ≤ y8 then
(Q y5 h)
else
(if zand (zshr y6 y8) 1 = 0 then
((zt h y3 = 50 ∧ 0 ≤ y8 ∧ y8 < zl h y3) ∧
(0 ≤ zshr (zd h y3 y8) 6 ∧ zshr (zd h y3 y8) 6 < 8) ∧
(zt h y3 = 50 ∧ 0 ≤ y8 ∧ y8 < zl h y3) ∧
(0 ≤ zshr (zd h y3 y8) 6 ∧ zshr (zd h y3 y8) 6 < 8) ∧
∀ h35 : zH, h35 = zw h 48 (zshr (zd h y3 y8) 6) (zland (zd h 48 (zshr (zd h y3 y8) 6)) (zlxor (zlshl 1 (zand (zd h y3 y8) 63)) (-1))) →
P_C_least_J274 y2 y3 y5 y6 y8 h35 Q (P_C_least_L227 y2 y3 y5 y6 Q n227))
else
(P_C_least_J274 y2 y3 y5 y6 y8 h Q (P_C_least_L227 y2 y3 y5 y6 Q n227)))
theorem W_C_least_L227 (y2 : Int) (y3 : Int) (y5 : Int) (y6 : Int) (Q : Int → zH → Prop) : ∀ (n227 : Nat) (y8 : Int) (h : zH), P_C_least_L227 y2 y3 y5 y6 Q n227 y8 h → zV true zy_X0_least 9 227 [zR 14, zU, zI y2, zR y3, zU, zI y5, zI y6, zU, zI y8] [] h (zQ0 Q) := by
  intro n227
  induction n227 with
  | zero => intro y8 h hP; exact absurd hP id
  | succ n227 ih =>
    intro y8 h hP
    unfold P_C_least_L227 at hP
    refine zV_iload dX0_least_227 rfl ?_
    refine zV_iload_n dX0_least_229 rfl ?_
    refine zV_icmp_ge (tgt := 280) dX0_least_230 (by decide) (fun c => ?_) (fun c => ?_)
    · have hP := zif_p hP c
      refine zV_iload dX0_least_280 rfl ?_
      exact zV_ireturn dX0_least_282 rfl rfl rfl ⟨rfl, hP⟩
    · have hP := zif_n hP c
      refine zV_iload dX0_least_233 rfl ?_
      refine zV_iload dX0_least_235 rfl ?_
      refine zV_ishr dX0_least_237 ?_
      refine zV_iconst dX0_least_238 ⟨by decide, by decide⟩ ?_
      refine zV_iand dX0_least_239 ?_
      refine zV_if_ne (tgt := 274) dX0_least_240 (by decide) (fun c => ?_) (fun c => ?_)
      · have hP := zif_n hP c
        exact W_C_least_J274 _ _ _ _ _ _ _ _ ih hP
      · have hP := zif_p hP c
        refine zV_aload_n dX0_least_243 rfl ?_
        refine zV_sg dX0_least_244 fm_14_21 sa_14 (by decide) fl_X0_54_0 rfl ?_
        refine zV_sg dX0_least_247 fm_25_43 sa_25 (by decide) fl_X0_442_1 rfl ?_
        refine zV_aload_n dX0_least_250 rfl ?_
        refine zV_iload dX0_least_251 rfl ?_
        obtain ⟨ob, hP⟩ := hP
        refine zV_iaD dX0_least_253 ob ?_
        refine zV_bipush dX0_least_254 ⟨by decide, by decide, by decide⟩ ?_
        refine zV_ishr dX0_least_256 ?_
        refine zV_dup2 dX0_least_257 (Nat.ne_of_beq_eq_false rfl) (Nat.ne_of_beq_eq_false rfl) ?_
        obtain ⟨ob, hP⟩ := hP
        refine zV_la dX0_least_258 sa_48 ob ?_
        refine zV_lconst (x := 1) dX0_least_259 rfl ?_
        refine zV_aload_n dX0_least_260 rfl ?_
        refine zV_iload dX0_least_261 rfl ?_
        obtain ⟨ob, hP⟩ := hP
        refine zV_iaD dX0_least_263 ob ?_
        refine zV_bipush dX0_least_264 ⟨by decide, by decide, by decide⟩ ?_
        refine zV_iand dX0_least_266 ?_
        refine zV_lshl dX0_least_267 ?_
        refine zV_ldc2c (x := (-1)) dX0_least_268 (by decide) q1757 ⟨by decide, by decide⟩ ?_
        refine zV_lxor dX0_least_271 ?_
        refine zV_land dX0_least_272 ?_
        obtain ⟨ob, hP⟩ := hP
        refine zV_las dX0_least_273 sa_48 ob (fun h35 e_h35 => ?_)
        have hP := hP h35 e_h35
        exact W_C_least_J274 _ _ _ _ _ _ _ _ ih hP
def P_C_least (a1 : Int) (h : zH) (Q : Int → zH → Prop) : Prop :=
P_C_isIn a1 1 5000 h (fun r1 h2 =>
if r1 = 0 then
(P_C_refused (-1001) h2 (fun r38 h39 =>
Q r38 h39))
else
(P_C_hasCore h2 (fun r3 h4 =>
if r3 = 0 then
(P_C_refused (-1002) h4 (fun r5 h6 =>
Q r5 h6))
else
(P_C_coreRows h4 (fun r7 h8 =>
if r7 ≤ 10 then
(P_C_coreRows h8 (fun r9 h10 =>
∀ h11 : zH, h11 = zal h10 50 10 10 →
∀ x3_12 : Int, x3_12 = (zn h10) →
∃ n57, P_C_least_L57 a1 r9 x3_12 Q (fun h17 =>
∃ n86, P_C_least_L86 r9 x3_12 Q (fun u5_224 u6_224 h33 =>
∃ n227, P_C_least_L227 r9 x3_12 u5_224 u6_224 Q n227 0 h33) n86 a1 0 h17) n57 0 h11))
else
(P_C_refused (-1002) h8 (fun r36 h37 =>
Q r36 h37)))))))
theorem W_C_least (a1 : Int) (h : zH) (Q : Int → zH → Prop) (hP : P_C_least a1 h Q) : zC true zy_X0_least 9 [zR 14, zI a1] h (zQ0 Q) := by
  unfold P_C_least at hP
  refine zC.of (by decide) (Nat.le_of_ble_eq_true rfl) ?_
  show zV true zy_X0_least 9 0 [zR 14, zI a1, zU, zU, zU, zU, zU, zU, zU] [] h (zQ0 Q)
  refine zV_iload_n dX0_least_0 rfl ?_
  refine zV_i2l dX0_least_1 ?_
  refine zV_lconst (x := 1) dX0_least_2 rfl ?_
  refine zV_ldc2c (x := 5000) dX0_least_3 (by decide) q1520 ⟨by decide, by decide⟩ ?_
  refine zV_cSk (As := [zJ a1, zJ 1, zJ 5000]) (rest := []) dX0_least_6 (W_C_isIn _ _ _ _ _ hP) mi_X0_isIn ml_X0_109 (by decide) (Nat.le_of_ble_eq_true rfl) rfl rfl rfl (fun r1 h2 hP => ?_)
  refine zV_if_ne (tgt := 20) dX0_least_9 (by decide) (fun c => ?_) (fun c => ?_)
  · have hP := zif_n hP c
    refine zV_aload_n dX0_least_20 rfl ?_
    refine zV_cVk (As := []) (rest := []) dX0_least_21 sa_14 (W_C_hasCore _ _ hP) mi_X0_hasCore ml_X0_448 (by decide) (Nat.le_of_ble_eq_true rfl) rfl rfl rfl (fun r3 h4 hP => ?_)
    refine zV_if_eq (tgt := 36) dX0_least_24 (by decide) (fun c => ?_) (fun c => ?_)
    · have hP := zif_p hP c
      refine zV_aload_n dX0_least_36 rfl ?_
      refine zV_sipush dX0_least_37 ⟨by decide, by decide, by decide⟩ ?_
      refine zV_cVk (As := [zI (-1002)]) (rest := []) dX0_least_40 sa_14 (W_C_refused _ _ _ hP) mi_X0_refused ml_X0_124 (by decide) (Nat.le_of_ble_eq_true rfl) rfl rfl rfl (fun r5 h6 hP => ?_)
      exact zV_ireturn dX0_least_43 rfl rfl rfl ⟨rfl, hP⟩
    · have hP := zif_n hP c
      refine zV_aload_n dX0_least_27 rfl ?_
      refine zV_cVk (As := []) (rest := []) dX0_least_28 sa_14 (W_C_coreRows _ _ hP) mi_X0_coreRows ml_X0_452 (by decide) (Nat.le_of_ble_eq_true rfl) rfl rfl rfl (fun r7 h8 hP => ?_)
      refine zV_bipush dX0_least_31 ⟨by decide, by decide, by decide⟩ ?_
      refine zV_icmp_le (tgt := 44) dX0_least_33 (by decide) (fun c => ?_) (fun c => ?_)
      · have hP := zif_p hP c
        refine zV_aload_n dX0_least_44 rfl ?_
        refine zV_cVk (As := []) (rest := []) dX0_least_45 sa_14 (W_C_coreRows _ _ hP) mi_X0_coreRows ml_X0_452 (by decide) (Nat.le_of_ble_eq_true rfl) rfl rfl rfl (fun r9 h10 hP => ?_)
        refine zV_istore_n (ls' := [zR 14, zI a1, zI r9, zU, zU, zU, zU, zU, zU]) dX0_least_48 rfl (Nat.le_of_ble_eq_true rfl) rfl rfl ?_
        refine zV_bipush dX0_least_49 ⟨by decide, by decide, by decide⟩ ?_
        refine zV_nai dX0_least_51 (by decide) (fun h11 e_h11 => ?_)
        have hP := hP h11 e_h11
        refine zV_top (fun x3_12 e_x3_12 => ?_)
        have hP := hP x3_12 e_x3_12
        refine zV_astore_n (ls' := [zR 14, zI a1, zI r9, zR x3_12, zU, zU, zU, zU, zU]) dX0_least_53 rfl (Nat.le_of_ble_eq_true rfl) rfl rfl ?_
        refine zV_iconst dX0_least_54 ⟨by decide, by decide⟩ ?_
        refine zV_istore (ls' := [zR 14, zI a1, zI r9, zR x3_12, zI 0, zU, zU, zU, zU]) dX0_least_55 (Nat.le_of_ble_eq_true rfl) rfl rfl ?_
        obtain ⟨n57, hP⟩ := hP
        refine W_C_least_L57 _ _ _ _ _ (fun h17 hP => ?_) n57 _ _ hP
        refine zV_iload_n dX0_least_80 rfl ?_
        refine zV_istore (ls' := [zR 14, zI a1, zI r9, zR x3_12, zI a1, zU, zU, zU, zU]) dX0_least_81 (Nat.le_of_ble_eq_true rfl) rfl rfl ?_
        refine zV_iconst dX0_least_83 ⟨by decide, by decide⟩ ?_
        refine zV_istore (ls' := [zR 14, zI a1, zI r9, zR x3_12, zI a1, zI 0, zU, zU, zU]) dX0_least_84 (Nat.le_of_ble_eq_true rfl) rfl rfl ?_
        obtain ⟨n86, hP⟩ := hP
        refine zV_mask [true, false, true, true, true, true, true, true, true] (ls' := [zR 14, zU, zI r9, zR x3_12, zI a1, zI 0, zU, zU, zU]) rfl ?_
        refine W_C_least_L86 _ _ _ _ (fun u5_224 u6_224 h33 hP => ?_) n86 _ _ _ hP
        refine zV_iconst dX0_least_224 ⟨by decide, by decide⟩ ?_
        refine zV_istore (ls' := [zR 14, zU, zI r9, zR x3_12, zU, zI u5_224, zI u6_224, zU, zI 0]) dX0_least_225 (Nat.le_of_ble_eq_true rfl) rfl rfl ?_
        obtain ⟨n227, hP⟩ := hP
        refine W_C_least_L227 _ _ _ _ _ n227 _ _ hP
      · have hP := zif_n hP c
        refine zV_aload_n dX0_least_36 rfl ?_
        refine zV_sipush dX0_least_37 ⟨by decide, by decide, by decide⟩ ?_
        refine zV_cVk (As := [zI (-1002)]) (rest := []) dX0_least_40 sa_14 (W_C_refused _ _ _ hP) mi_X0_refused ml_X0_124 (by decide) (Nat.le_of_ble_eq_true rfl) rfl rfl rfl (fun r36 h37 hP => ?_)
        exact zV_ireturn dX0_least_43 rfl rfl rfl ⟨rfl, hP⟩
  · have hP := zif_p hP c
    refine zV_aload_n dX0_least_12 rfl ?_
    refine zV_sipush dX0_least_13 ⟨by decide, by decide, by decide⟩ ?_
    refine zV_cVk (As := [zI (-1001)]) (rest := []) dX0_least_16 sa_14 (W_C_refused _ _ _ hP) mi_X0_refused ml_X0_124 (by decide) (Nat.le_of_ble_eq_true rfl) rfl rfl rfl (fun r38 h39 hP => ?_)
    exact zV_ireturn dX0_least_19 rfl rfl rfl ⟨rfl, hP⟩
def P_C_take_L22 (Q : Int → zH → Prop) : Nat → Int → zH → Prop
| 0, _, _ => False
| n22 + 1, y1, h =>
if zd h 25 25 ≤ y1 then
(Q (zd h 14 37) h)
else
(∀ x2_4 : Int, x2_4 = (w32 (564 + y1)) →
(0 ≤ x2_4 ∧ x2_4 < 1364) ∧
(0 ≤ y1 ∧ y1 < 801) ∧
(0 ≤ x2_4 ∧ x2_4 < 1364) ∧
(zt h 32 = 50 ∧ zt h 97 = 50 ∧ 0 ≤ zd h 26 x2_4 ∧ 0 ≤ zd h 98 y1 ∧ 0 ≤ zd h 27 x2_4 ∧ zd h 26 x2_4 + zd h 27 x2_4 ≤ zl h 32 ∧ zd h 98 y1 + zd h 27 x2_4 ≤ zl h 97) ∧
∀ h5 : zH, h5 = zcp h 32 (zd h 26 x2_4) 97 (zd h 98 y1) (zd h 27 x2_4) →
∀ h6 : zH, h6 = zw h5 14 37 (w32 ((zd h5 14 37) + 1)) →
(0 ≤ y1 ∧ y1 < 801) ∧
(0 ≤ x2_4 ∧ x2_4 < 1364) ∧
(0 ≤ zd h6 14 37 ∧ zd h6 14 37 < 801) ∧
∀ h7 : zH, h7 = zw h6 98 (zd h6 14 37) (w32 ((zd h6 98 y1) + (zd h6 27 x2_4))) →
∀ x1_8 : Int, x1_8 = w32 (y1 + 1) →
P_C_take_L22 Q n22 x1_8 h7)
theorem W_C_take_L22 (Q : Int → zH → Prop) : ∀ (n22 : Nat) (y1 : Int) (h : zH), P_C_take_L22 Q n22 y1 h → zV true zy_X0_take 2 22 [zR 14, zI y1, zU] [] h (zQ0 Q) := by
  intro n22
  induction n22 with
  | zero => intro y1 h hP; exact absurd hP id
  | succ n22 ih =>
    intro y1 h hP
    unfold P_C_take_L22 at hP
    refine zV_iload_n dX0_take_22 rfl ?_
    refine zV_aload_n dX0_take_23 rfl ?_
    refine zV_sg dX0_take_24 fm_14_21 sa_14 (by decide) fl_X0_54_0 rfl ?_
    refine zV_gf dX0_take_27 sa_25 (by decide) fl_X0_412_1 rfl (ki := 25) rfl ?_
    refine zV_icmp_ge (tgt := 118) dX0_take_30 (by decide) (fun c => ?_) (fun c => ?_)
    · have hP := zif_p hP c
      refine zV_aload_n dX0_take_118 rfl ?_
      refine zV_gf dX0_take_119 sa_14 (by decide) fl_X0_480_0 rfl (ki := 37) rfl ?_
      exact zV_ireturn dX0_take_122 rfl rfl rfl ⟨rfl, hP⟩
    · have hP := zif_n hP c
      refine zV_sipush dX0_take_33 ⟨by decide, by decide, by decide⟩ ?_
      refine zV_iload_n dX0_take_36 rfl ?_
      refine zV_iadd dX0_take_37 ?_
      refine zV_top (fun x2_4 e_x2_4 => ?_)
      have hP := hP x2_4 e_x2_4
      refine zV_istore_n (ls' := [zR 14, zI y1, zI x2_4]) dX0_take_38 rfl (Nat.le_of_ble_eq_true rfl) rfl rfl ?_
      refine zV_aload_n dX0_take_39 rfl ?_
      refine zV_sg dX0_take_40 fm_14_21 sa_14 (by decide) fl_X0_54_0 rfl ?_
      refine zV_sg dX0_take_43 fm_25_6 sa_25 (by decide) fl_X0_433_1 rfl ?_
      refine zV_aload_n dX0_take_46 rfl ?_
      refine zV_sg dX0_take_47 fm_14_21 sa_14 (by decide) fl_X0_54_0 rfl ?_
      refine zV_sg dX0_take_50 fm_25_0 sa_25 (by decide) fl_X0_436_1 rfl ?_
      refine zV_iload_n dX0_take_53 rfl ?_
      obtain ⟨ob, hP⟩ := hP
      refine zV_ia dX0_take_54 sa_26 ob ?_
      refine zV_aload_n dX0_take_55 rfl ?_
      refine zV_sg dX0_take_56 fm_14_35 sa_14 (by decide) fl_X0_81_0 rfl ?_
      refine zV_aload_n dX0_take_59 rfl ?_
      refine zV_sg dX0_take_60 fm_14_36 sa_14 (by decide) fl_X0_84_0 rfl ?_
      refine zV_iload_n dX0_take_63 rfl ?_
      obtain ⟨ob, hP⟩ := hP
      refine zV_ia dX0_take_64 sa_98 ob ?_
      refine zV_aload_n dX0_take_65 rfl ?_
      refine zV_sg dX0_take_66 fm_14_21 sa_14 (by decide) fl_X0_54_0 rfl ?_
      refine zV_sg dX0_take_69 fm_25_1 sa_25 (by decide) fl_X0_439_1 rfl ?_
      refine zV_iload_n dX0_take_72 rfl ?_
      obtain ⟨ob, hP⟩ := hP
      refine zV_ia dX0_take_73 sa_27 ob ?_
      obtain ⟨ob, hP⟩ := hP
      refine zV_cpi dX0_take_74 q757 ob (Nat.le_of_ble_eq_true rfl) (by decide) (fun h5 e_h5 => ?_)
      have hP := hP h5 e_h5
      refine zV_aload_n dX0_take_77 rfl ?_
      refine zV_dup dX0_take_78 (Nat.ne_of_beq_eq_false rfl) ?_
      refine zV_gf dX0_take_79 sa_14 (by decide) fl_X0_480_0 rfl (ki := 37) rfl ?_
      refine zV_iconst dX0_take_82 ⟨by decide, by decide⟩ ?_
      refine zV_iadd dX0_take_83 ?_
      refine zV_pf dX0_take_84 sa_14 (by decide) fl_X0_480_0 rfl rfl trivial (ki := 37) rfl (fun h6 e_h6 => ?_)
      have hP := hP h6 e_h6
      refine zV_aload_n dX0_take_87 rfl ?_
      refine zV_sg dX0_take_88 fm_14_36 sa_14 (by decide) fl_X0_84_0 rfl ?_
      refine zV_aload_n dX0_take_91 rfl ?_
      refine zV_gf dX0_take_92 sa_14 (by decide) fl_X0_480_0 rfl (ki := 37) rfl ?_
      refine zV_aload_n dX0_take_95 rfl ?_
      refine zV_sg dX0_take_96 fm_14_36 sa_14 (by decide) fl_X0_84_0 rfl ?_
      refine zV_iload_n dX0_take_99 rfl ?_
      obtain ⟨ob, hP⟩ := hP
      refine zV_ia dX0_take_100 sa_98 ob ?_
      refine zV_aload_n dX0_take_101 rfl ?_
      refine zV_sg dX0_take_102 fm_14_21 sa_14 (by decide) fl_X0_54_0 rfl ?_
      refine zV_sg dX0_take_105 fm_25_1 sa_25 (by decide) fl_X0_439_1 rfl ?_
      refine zV_iload_n dX0_take_108 rfl ?_
      obtain ⟨ob, hP⟩ := hP
      refine zV_ia dX0_take_109 sa_27 ob ?_
      refine zV_iadd dX0_take_110 ?_
      obtain ⟨ob, hP⟩ := hP
      refine zV_ias dX0_take_111 sa_98 ob (fun h7 e_h7 => ?_)
      have hP := hP h7 e_h7
      refine zV_inc (ls' := fun z => [zR 14, zI z, zI x2_4]) dX0_take_112 (Nat.le_of_ble_eq_true rfl) rfl rfl (fun _ => rfl) (fun x1_8 e_x1_8 => ?_)
      have hP := hP x1_8 e_x1_8
      refine zV_goto (tgt := 22) dX0_take_115 (by decide) ?_
      refine zV_mask [true, true, false] (ls' := [zR 14, zI x1_8, zU]) rfl ?_
      exact ih _ _ hP
def P_C_take (h : zH) (Q : Int → zH → Prop) : Prop :=
P_C_hasCore h (fun r1 h2 =>
if r1 = 0 then
(P_C_refused (-1002) h2 (fun r9 h10 =>
Q r9 h10))
else
(∀ h3 : zH, h3 = zw h2 14 37 0 →
∃ n22, P_C_take_L22 Q n22 0 h3))
theorem W_C_take (h : zH) (Q : Int → zH → Prop) (hP : P_C_take  h Q) : zC true zy_X0_take 2 [zR 14] h (zQ0 Q) := by
  unfold P_C_take at hP
  refine zC.of (by decide) (Nat.le_of_ble_eq_true rfl) ?_
  show zV true zy_X0_take 2 0 [zR 14, zU, zU] [] h (zQ0 Q)
  refine zV_aload_n dX0_take_0 rfl ?_
  refine zV_cVk (As := []) (rest := []) dX0_take_1 sa_14 (W_C_hasCore _ _ hP) mi_X0_hasCore ml_X0_448 (by decide) (Nat.le_of_ble_eq_true rfl) rfl rfl rfl (fun r1 h2 hP => ?_)
  refine zV_if_ne (tgt := 15) dX0_take_4 (by decide) (fun c => ?_) (fun c => ?_)
  · have hP := zif_n hP c
    refine zV_aload_n dX0_take_15 rfl ?_
    refine zV_iconst dX0_take_16 ⟨by decide, by decide⟩ ?_
    refine zV_pf dX0_take_17 sa_14 (by decide) fl_X0_480_0 rfl rfl trivial (ki := 37) rfl (fun h3 e_h3 => ?_)
    have hP := hP h3 e_h3
    refine zV_iconst dX0_take_20 ⟨by decide, by decide⟩ ?_
    refine zV_istore_n (ls' := [zR 14, zI 0, zU]) dX0_take_21 rfl (Nat.le_of_ble_eq_true rfl) rfl rfl ?_
    obtain ⟨n22, hP⟩ := hP
    refine W_C_take_L22 _ n22 _ _ hP
  · have hP := zif_p hP c
    refine zV_aload_n dX0_take_7 rfl ?_
    refine zV_sipush dX0_take_8 ⟨by decide, by decide, by decide⟩ ?_
    refine zV_cVk (As := [zI (-1002)]) (rest := []) dX0_take_11 sa_14 (W_C_refused _ _ _ hP) mi_X0_refused ml_X0_124 (by decide) (Nat.le_of_ble_eq_true rfl) rfl rfl rfl (fun r9 h10 hP => ?_)
    exact zV_ireturn dX0_take_14 rfl rfl rfl ⟨rfl, hP⟩
def P_C_strike_L83 (y2 : Int) (Q : Int → zH → Prop) : Nat → Int → zH → Prop
| 0, _, _ => False
| n83 + 1, y3, h =>
if zd h 14 37 ≤ y3 then
(∀ h6 : zH, h6 = zw h 14 37 (w32 ((zd h 14 37) - 1)) →
Q 1 h6)
else
((0 ≤ w32 (y3 + 1) ∧ w32 (y3 + 1) < 801) ∧
(0 ≤ y3 ∧ y3 < 801) ∧
∀ h7 : zH, h7 = zw h 98 y3 (w32 ((zd h 98 (w32 (y3 + 1))) - y2)) →
∀ x3_8 : Int, x3_8 = w32 (y3 + 1) →
P_C_strike_L83 y2 Q n83 x3_8 h7)
theorem W_C_strike_L83 (y2 : Int) (Q : Int → zH → Prop) : ∀ (n83 : Nat) (y3 : Int) (h : zH), P_C_strike_L83 y2 Q n83 y3 h → zV true zy_X0_strike 2 83 [zR 14, zU, zI y2, zI y3] [] h (zQ0 Q) := by
  intro n83
  induction n83 with
  | zero => intro y3 h hP; exact absurd hP id
  | succ n83 ih =>
    intro y3 h hP
    unfold P_C_strike_L83 at hP
    refine zV_iload_n dX0_strike_83 rfl ?_
    refine zV_aload_n dX0_strike_84 rfl ?_
    refine zV_gf dX0_strike_85 sa_14 (by decide) fl_X0_480_0 rfl (ki := 37) rfl ?_
    refine zV_icmp_ge (tgt := 113) dX0_strike_88 (by decide) (fun c => ?_) (fun c => ?_)
    · have hP := zif_p hP c
      refine zV_aload_n dX0_strike_113 rfl ?_
      refine zV_dup dX0_strike_114 (Nat.ne_of_beq_eq_false rfl) ?_
      refine zV_gf dX0_strike_115 sa_14 (by decide) fl_X0_480_0 rfl (ki := 37) rfl ?_
      refine zV_iconst dX0_strike_118 ⟨by decide, by decide⟩ ?_
      refine zV_isub dX0_strike_119 ?_
      refine zV_pf dX0_strike_120 sa_14 (by decide) fl_X0_480_0 rfl rfl trivial (ki := 37) rfl (fun h6 e_h6 => ?_)
      have hP := hP h6 e_h6
      refine zV_iconst dX0_strike_123 ⟨by decide, by decide⟩ ?_
      exact zV_ireturn dX0_strike_124 rfl rfl rfl ⟨rfl, hP⟩
    · have hP := zif_n hP c
      refine zV_aload_n dX0_strike_91 rfl ?_
      refine zV_sg dX0_strike_92 fm_14_36 sa_14 (by decide) fl_X0_84_0 rfl ?_
      refine zV_iload_n dX0_strike_95 rfl ?_
      refine zV_aload_n dX0_strike_96 rfl ?_
      refine zV_sg dX0_strike_97 fm_14_36 sa_14 (by decide) fl_X0_84_0 rfl ?_
      refine zV_iload_n dX0_strike_100 rfl ?_
      refine zV_iconst dX0_strike_101 ⟨by decide, by decide⟩ ?_
      refine zV_iadd dX0_strike_102 ?_
      obtain ⟨ob, hP⟩ := hP
      refine zV_ia dX0_strike_103 sa_98 ob ?_
      refine zV_iload_n dX0_strike_104 rfl ?_
      refine zV_isub dX0_strike_105 ?_
      obtain ⟨ob, hP⟩ := hP
      refine zV_ias dX0_strike_106 sa_98 ob (fun h7 e_h7 => ?_)
      have hP := hP h7 e_h7
      refine zV_inc (ls' := fun z => [zR 14, zU, zI y2, zI z]) dX0_strike_107 (Nat.le_of_ble_eq_true rfl) rfl rfl (fun _ => rfl) (fun x3_8 e_x3_8 => ?_)
      have hP := hP x3_8 e_x3_8
      refine zV_goto (tgt := 83) dX0_strike_110 (by decide) ?_
      exact ih _ _ hP
def P_C_strike (a1 : Int) (h : zH) (Q : Int → zH → Prop) : Prop :=
P_C_isIn a1 0 (w32 ((zd h 14 37) - 1)) h (fun r1 h2 =>
if r1 = 0 then
(Q (-1005) h2)
else
((0 ≤ w32 (a1 + 1) ∧ w32 (a1 + 1) < 801) ∧
(0 ≤ a1 ∧ a1 < 801) ∧
∀ x2_3 : Int, x2_3 = (w32 ((zd h2 98 (w32 (a1 + 1))) - (zd h2 98 a1))) →
(0 ≤ w32 (a1 + 1) ∧ w32 (a1 + 1) < 801) ∧
(0 ≤ a1 ∧ a1 < 801) ∧
(0 ≤ zd h2 14 37 ∧ zd h2 14 37 < 801) ∧
(0 ≤ w32 (a1 + 1) ∧ w32 (a1 + 1) < 801) ∧
(zt h2 97 = 50 ∧ zt h2 97 = 50 ∧ 0 ≤ zd h2 98 (w32 (a1 + 1)) ∧ 0 ≤ zd h2 98 a1 ∧ 0 ≤ w32 ((zd h2 98 (zd h2 14 37)) - (zd h2 98 (w32 (a1 + 1)))) ∧ zd h2 98 (w32 (a1 + 1)) + w32 ((zd h2 98 (zd h2 14 37)) - (zd h2 98 (w32 (a1 + 1)))) ≤ zl h2 97 ∧ zd h2 98 a1 + w32 ((zd h2 98 (zd h2 14 37)) - (zd h2 98 (w32 (a1 + 1)))) ≤ zl h2 97) ∧
∀ h4 : zH, h4 = zcp h2 97 (zd h2 98 (w32 (a1 + 1))) 97 (zd h2 98 a1) (w32 ((zd h2 98 (zd h2 14 37)) - (zd h2 98 (w32 (a1 + 1))))) →
∀ x3_5 : Int, x3_5 = (w32 (a1 + 1)) →
∃ n83, P_C_strike_L83 x2_3 Q n83 x3_5 h4))
theorem W_C_strike (a1 : Int) (h : zH) (Q : Int → zH → Prop) (hP : P_C_strike a1 h Q) : zC true zy_X0_strike 2 [zR 14, zI a1] h (zQ0 Q) := by
  unfold P_C_strike at hP
  refine zC.of (by decide) (Nat.le_of_ble_eq_true rfl) ?_
  show zV true zy_X0_strike 2 0 [zR 14, zI a1, zU, zU] [] h (zQ0 Q)
  refine zV_iload_n dX0_strike_0 rfl ?_
  refine zV_i2l dX0_strike_1 ?_
  refine zV_lconst (x := 0) dX0_strike_2 rfl ?_
  refine zV_aload_n dX0_strike_3 rfl ?_
  refine zV_gf dX0_strike_4 sa_14 (by decide) fl_X0_480_0 rfl (ki := 37) rfl ?_
  refine zV_iconst dX0_strike_7 ⟨by decide, by decide⟩ ?_
  refine zV_isub dX0_strike_8 ?_
  refine zV_i2l dX0_strike_9 ?_
  refine zV_cSk (As := [zJ a1, zJ 0, zJ (w32 ((zd h 14 37) - 1))]) (rest := []) dX0_strike_10 (W_C_isIn _ _ _ _ _ hP) mi_X0_isIn ml_X0_109 (by decide) (Nat.le_of_ble_eq_true rfl) rfl rfl rfl (fun r1 h2 hP => ?_)
  refine zV_if_ne (tgt := 20) dX0_strike_13 (by decide) (fun c => ?_) (fun c => ?_)
  · have hP := zif_n hP c
    refine zV_aload_n dX0_strike_20 rfl ?_
    refine zV_sg dX0_strike_21 fm_14_36 sa_14 (by decide) fl_X0_84_0 rfl ?_
    refine zV_iload_n dX0_strike_24 rfl ?_
    refine zV_iconst dX0_strike_25 ⟨by decide, by decide⟩ ?_
    refine zV_iadd dX0_strike_26 ?_
    obtain ⟨ob, hP⟩ := hP
    refine zV_ia dX0_strike_27 sa_98 ob ?_
    refine zV_aload_n dX0_strike_28 rfl ?_
    refine zV_sg dX0_strike_29 fm_14_36 sa_14 (by decide) fl_X0_84_0 rfl ?_
    refine zV_iload_n dX0_strike_32 rfl ?_
    obtain ⟨ob, hP⟩ := hP
    refine zV_ia dX0_strike_33 sa_98 ob ?_
    refine zV_isub dX0_strike_34 ?_
    refine zV_top (fun x2_3 e_x2_3 => ?_)
    have hP := hP x2_3 e_x2_3
    refine zV_istore_n (ls' := [zR 14, zI a1, zI x2_3, zU]) dX0_strike_35 rfl (Nat.le_of_ble_eq_true rfl) rfl rfl ?_
    refine zV_aload_n dX0_strike_36 rfl ?_
    refine zV_sg dX0_strike_37 fm_14_35 sa_14 (by decide) fl_X0_81_0 rfl ?_
    refine zV_aload_n dX0_strike_40 rfl ?_
    refine zV_sg dX0_strike_41 fm_14_36 sa_14 (by decide) fl_X0_84_0 rfl ?_
    refine zV_iload_n dX0_strike_44 rfl ?_
    refine zV_iconst dX0_strike_45 ⟨by decide, by decide⟩ ?_
    refine zV_iadd dX0_strike_46 ?_
    obtain ⟨ob, hP⟩ := hP
    refine zV_ia dX0_strike_47 sa_98 ob ?_
    refine zV_aload_n dX0_strike_48 rfl ?_
    refine zV_sg dX0_strike_49 fm_14_35 sa_14 (by decide) fl_X0_81_0 rfl ?_
    refine zV_aload_n dX0_strike_52 rfl ?_
    refine zV_sg dX0_strike_53 fm_14_36 sa_14 (by decide) fl_X0_84_0 rfl ?_
    refine zV_iload_n dX0_strike_56 rfl ?_
    obtain ⟨ob, hP⟩ := hP
    refine zV_ia dX0_strike_57 sa_98 ob ?_
    refine zV_aload_n dX0_strike_58 rfl ?_
    refine zV_sg dX0_strike_59 fm_14_36 sa_14 (by decide) fl_X0_84_0 rfl ?_
    refine zV_aload_n dX0_strike_62 rfl ?_
    refine zV_gf dX0_strike_63 sa_14 (by decide) fl_X0_480_0 rfl (ki := 37) rfl ?_
    obtain ⟨ob, hP⟩ := hP
    refine zV_ia dX0_strike_66 sa_98 ob ?_
    refine zV_aload_n dX0_strike_67 rfl ?_
    refine zV_sg dX0_strike_68 fm_14_36 sa_14 (by decide) fl_X0_84_0 rfl ?_
    refine zV_iload_n dX0_strike_71 rfl ?_
    refine zV_iconst dX0_strike_72 ⟨by decide, by decide⟩ ?_
    refine zV_iadd dX0_strike_73 ?_
    obtain ⟨ob, hP⟩ := hP
    refine zV_ia dX0_strike_74 sa_98 ob ?_
    refine zV_isub dX0_strike_75 ?_
    obtain ⟨ob, hP⟩ := hP
    refine zV_cpi dX0_strike_76 q757 ob (Nat.le_of_ble_eq_true rfl) (by decide) (fun h4 e_h4 => ?_)
    have hP := hP h4 e_h4
    refine zV_iload_n dX0_strike_79 rfl ?_
    refine zV_iconst dX0_strike_80 ⟨by decide, by decide⟩ ?_
    refine zV_iadd dX0_strike_81 ?_
    refine zV_top (fun x3_5 e_x3_5 => ?_)
    have hP := hP x3_5 e_x3_5
    refine zV_istore_n (ls' := [zR 14, zI a1, zI x2_3, zI x3_5]) dX0_strike_82 rfl (Nat.le_of_ble_eq_true rfl) rfl rfl ?_
    obtain ⟨n83, hP⟩ := hP
    refine zV_mask [true, false, true, true] (ls' := [zR 14, zU, zI x2_3, zI x3_5]) rfl ?_
    refine W_C_strike_L83 _ _ n83 _ _ hP
  · have hP := zif_p hP c
    refine zV_sipush dX0_strike_16 ⟨by decide, by decide, by decide⟩ ?_
    exact zV_ireturn dX0_strike_19 rfl rfl rfl ⟨rfl, hP⟩
def P_C_proof (a1 : Int) (a2 : Int) (h : zH) (Q : Int → zH → Prop) : Prop :=
P_C_isIn a1 0 (w32 ((zd h 14 37) - 1)) h (fun r1 h2 =>
if r1 = 0 then
(Q (-1005) h2)
else
((0 ≤ a1 ∧ a1 < 801) ∧
(0 ≤ w32 (a1 + 1) ∧ w32 (a1 + 1) < 801) ∧
P_C_at 97 (zd h2 98 a1) (zd h2 98 (w32 (a1 + 1))) a2 h2 (fun r3 h4 =>
Q r3 h4)))
theorem W_C_proof (a1 : Int) (a2 : Int) (h : zH) (Q : Int → zH → Prop) (hP : P_C_proof a1 a2 h Q) : zC true zy_X0_proof 3 [zR 14, zI a1, zI a2] h (zQ0 Q) := by
  unfold P_C_proof at hP
  refine zC.of (by decide) (Nat.le_of_ble_eq_true rfl) ?_
  show zV true zy_X0_proof 3 0 [zR 14, zI a1, zI a2] [] h (zQ0 Q)
  refine zV_iload_n dX0_proof_0 rfl ?_
  refine zV_i2l dX0_proof_1 ?_
  refine zV_lconst (x := 0) dX0_proof_2 rfl ?_
  refine zV_aload_n dX0_proof_3 rfl ?_
  refine zV_gf dX0_proof_4 sa_14 (by decide) fl_X0_480_0 rfl (ki := 37) rfl ?_
  refine zV_iconst dX0_proof_7 ⟨by decide, by decide⟩ ?_
  refine zV_isub dX0_proof_8 ?_
  refine zV_i2l dX0_proof_9 ?_
  refine zV_cSk (As := [zJ a1, zJ 0, zJ (w32 ((zd h 14 37) - 1))]) (rest := []) dX0_proof_10 (W_C_isIn _ _ _ _ _ hP) mi_X0_isIn ml_X0_109 (by decide) (Nat.le_of_ble_eq_true rfl) rfl rfl rfl (fun r1 h2 hP => ?_)
  refine zV_if_eq (tgt := 41) dX0_proof_13 (by decide) (fun c => ?_) (fun c => ?_)
  · have hP := zif_p hP c
    refine zV_sipush dX0_proof_41 ⟨by decide, by decide, by decide⟩ ?_
    exact zV_ireturn dX0_proof_44 rfl rfl rfl ⟨rfl, hP⟩
  · have hP := zif_n hP c
    refine zV_aload_n dX0_proof_16 rfl ?_
    refine zV_sg dX0_proof_17 fm_14_35 sa_14 (by decide) fl_X0_81_0 rfl ?_
    refine zV_aload_n dX0_proof_20 rfl ?_
    refine zV_sg dX0_proof_21 fm_14_36 sa_14 (by decide) fl_X0_84_0 rfl ?_
    refine zV_iload_n dX0_proof_24 rfl ?_
    obtain ⟨ob, hP⟩ := hP
    refine zV_ia dX0_proof_25 sa_98 ob ?_
    refine zV_aload_n dX0_proof_26 rfl ?_
    refine zV_sg dX0_proof_27 fm_14_36 sa_14 (by decide) fl_X0_84_0 rfl ?_
    refine zV_iload_n dX0_proof_30 rfl ?_
    refine zV_iconst dX0_proof_31 ⟨by decide, by decide⟩ ?_
    refine zV_iadd dX0_proof_32 ?_
    obtain ⟨ob, hP⟩ := hP
    refine zV_ia dX0_proof_33 sa_98 ob ?_
    refine zV_iload_n dX0_proof_34 rfl ?_
    refine zV_cSk (As := [zR 97, zI (zd h2 98 a1), zI (zd h2 98 (w32 (a1 + 1))), zI a2]) (rest := []) dX0_proof_35 (W_C_at _ _ _ _ _ _ hP) mi_X0_at ml_X0_424 (by decide) (Nat.le_of_ble_eq_true rfl) rfl rfl rfl (fun r3 h4 hP => ?_)
    refine zV_goto (tgt := 44) dX0_proof_38 (by decide) ?_
    exact zV_ireturn dX0_proof_44 rfl rfl rfl ⟨rfl, hP⟩
def P_C_follows_L37 (y1 : Int) (y2 : Int) (Q : Int → zH → Prop) (k65 : zH → Prop) (k93 : zH → Prop) : Nat → Int → zH → Prop
| 0, _, _ => False
| n37 + 1, y3, h =>
(0 ≤ w32 (y1 + 1) ∧ w32 (y1 + 1) < 801) ∧
if zd h 98 (w32 (y1 + 1)) ≤ y3 then
(k93 h)
else
((0 ≤ y3 ∧ y3 < 8000) ∧
P_E_isTrue 58 (zd h 97 y3) h (fun r5 h6 =>
if r5 = 0 then
((0 ≤ y3 ∧ y3 < 8000) ∧
P_E_set 58 (w32 (-(zd h6 97 y3))) (-1005) h6 (fun r7 h8 =>
∀ x3_9 : Int, x3_9 = w32 (y3 + 1) →
P_C_follows_L37 y1 y2 Q k65 k93 n37 x3_9 h8))
else
(k65 h6)))
theorem W_C_follows_L37 (y1 : Int) (y2 : Int) (Q : Int → zH → Prop) (k65 : zH → Prop) (k93 : zH → Prop) (H65 : ∀ (h' : zH), k65 h' → zV true zy_X0_follows 5 65 [zR 14, zU, zU, zU, zU] [] h' (zQ0 Q)) (H93 : ∀ (h' : zH), k93 h' → zV true zy_X0_follows 5 93 [zR 14, zU, zI y2, zU, zU] [] h' (zQ0 Q)) : ∀ (n37 : Nat) (y3 : Int) (h : zH), P_C_follows_L37 y1 y2 Q k65 k93 n37 y3 h → zV true zy_X0_follows 5 37 [zR 14, zI y1, zI y2, zI y3, zU] [] h (zQ0 Q) := by
  intro n37
  induction n37 with
  | zero => intro y3 h hP; exact absurd hP id
  | succ n37 ih =>
    intro y3 h hP
    unfold P_C_follows_L37 at hP
    refine zV_iload_n dX0_follows_37 rfl ?_
    refine zV_aload_n dX0_follows_38 rfl ?_
    refine zV_sg dX0_follows_39 fm_14_36 sa_14 (by decide) fl_X0_84_0 rfl ?_
    refine zV_iload_n dX0_follows_42 rfl ?_
    refine zV_iconst dX0_follows_43 ⟨by decide, by decide⟩ ?_
    refine zV_iadd dX0_follows_44 ?_
    obtain ⟨ob, hP⟩ := hP
    refine zV_ia dX0_follows_45 sa_98 ob ?_
    refine zV_icmp_ge (tgt := 93) dX0_follows_46 (by decide) (fun c => ?_) (fun c => ?_)
    · have hP := zif_p hP c
      refine zV_mask [true, false, true, false, true] (ls' := [zR 14, zU, zI y2, zU, zU]) rfl ?_
      exact H93 _ hP
    · have hP := zif_n hP c
      refine zV_aload_n dX0_follows_49 rfl ?_
      refine zV_sg dX0_follows_50 fm_14_22 sa_14 (by decide) fl_X0_58_0 rfl ?_
      refine zV_aload_n dX0_follows_53 rfl ?_
      refine zV_sg dX0_follows_54 fm_14_35 sa_14 (by decide) fl_X0_81_0 rfl ?_
      refine zV_iload_n dX0_follows_57 rfl ?_
      obtain ⟨ob, hP⟩ := hP
      refine zV_ia dX0_follows_58 sa_97 ob ?_
      refine zV_cVk (As := [zI (zd h 97 y3)]) (rest := []) dX0_follows_59 sa_58 (W_E_isTrue 58 (Or.inr rfl) _ _ _ hP) mi_X1_isTrue ml_X0_490 (by decide) (Nat.le_of_ble_eq_true rfl) rfl rfl rfl (fun r5 h6 hP => ?_)
      refine zV_if_eq (tgt := 70) dX0_follows_62 (by decide) (fun c => ?_) (fun c => ?_)
      · have hP := zif_p hP c
        refine zV_aload_n dX0_follows_70 rfl ?_
        refine zV_sg dX0_follows_71 fm_14_22 sa_14 (by decide) fl_X0_58_0 rfl ?_
        refine zV_aload_n dX0_follows_74 rfl ?_
        refine zV_sg dX0_follows_75 fm_14_35 sa_14 (by decide) fl_X0_81_0 rfl ?_
        refine zV_iload_n dX0_follows_78 rfl ?_
        obtain ⟨ob, hP⟩ := hP
        refine zV_ia dX0_follows_79 sa_97 ob ?_
        refine zV_ineg dX0_follows_80 ?_
        refine zV_sipush dX0_follows_81 ⟨by decide, by decide, by decide⟩ ?_
        refine zV_cVv (As := [zI (w32 (-(zd h6 97 y3))), zI (-1005)]) (rest := []) dX0_follows_84 sa_58 (W_E_set 58 (Or.inr rfl) _ _ _ _ hP) mi_X1_set ml_X0_493 (by decide) (Nat.le_of_ble_eq_true rfl) rfl rfl (fun r7 h8 hP => ?_)
        refine zV_inc (ls' := fun z => [zR 14, zI y1, zI y2, zI z, zU]) dX0_follows_87 (Nat.le_of_ble_eq_true rfl) rfl rfl (fun _ => rfl) (fun x3_9 e_x3_9 => ?_)
        have hP := hP x3_9 e_x3_9
        refine zV_goto (tgt := 37) dX0_follows_90 (by decide) ?_
        exact ih _ _ hP
      · have hP := zif_n hP c
        refine zV_mask [true, false, false, false, true] (ls' := [zR 14, zU, zU, zU, zU]) rfl ?_
        exact H65 _ hP
def P_C_follows_J93 (y2 : Int) (h : zH) (Q : Int → zH → Prop) : Prop :=
if y2 = 0 then
(P_E_force 58 h (fun r13 h14 =>
∀ x3_15 : Int, x3_15 = (if r13 = (-1005) then 0 else 1) →
P_E_back 58 0 h14 (fun r16 h17 =>
(x3_15 = 0 ∨ x3_15 = 1) ∧ Q x3_15 h17)))
else
(P_E_back 58 0 h (fun r11 h12 =>
Q 1 h12))
theorem W_C_follows_J93 (y2 : Int) (h : zH) (Q : Int → zH → Prop) (hP : P_C_follows_J93 y2 h Q) : zV true zy_X0_follows 5 93 [zR 14, zU, zI y2, zU, zU] [] h (zQ0 Q) := by
  unfold P_C_follows_J93 at hP
  refine zV_iload_n dX0_follows_93 rfl ?_
  refine zV_if_ne (tgt := 110) dX0_follows_94 (by decide) (fun c => ?_) (fun c => ?_)
  · have hP := zif_n hP c
    refine zV_iconst dX0_follows_110 ⟨by decide, by decide⟩ ?_
    refine zV_goto (tgt := 115) dX0_follows_111 (by decide) ?_
    refine zV_istore_n (ls' := [zR 14, zU, zI y2, zI 1, zU]) dX0_follows_115 rfl (Nat.le_of_ble_eq_true rfl) rfl rfl ?_
    refine zV_aload_n dX0_follows_116 rfl ?_
    refine zV_sg dX0_follows_117 fm_14_22 sa_14 (by decide) fl_X0_58_0 rfl ?_
    refine zV_iconst dX0_follows_120 ⟨by decide, by decide⟩ ?_
    refine zV_cVv (As := [zI 0]) (rest := []) dX0_follows_121 sa_58 (W_E_back 58 (Or.inr rfl) _ _ _ hP) mi_X1_back ml_X0_499 (by decide) (Nat.le_of_ble_eq_true rfl) rfl rfl (fun r11 h12 hP => ?_)
    refine zV_iload_n dX0_follows_124 rfl ?_
    exact zV_ireturn dX0_follows_125 rfl rfl (z01 z1) ⟨rfl, hP⟩
  · have hP := zif_p hP c
    refine zV_aload_n dX0_follows_97 rfl ?_
    refine zV_sg dX0_follows_98 fm_14_22 sa_14 (by decide) fl_X0_58_0 rfl ?_
    refine zV_cVk (As := []) (rest := []) dX0_follows_101 sa_58 (W_E_force 58 (Or.inr rfl) _ _ hP) mi_X1_force ml_X0_496 (by decide) (Nat.le_of_ble_eq_true rfl) rfl rfl rfl (fun r13 h14 hP => ?_)
    refine zV_sipush dX0_follows_104 ⟨by decide, by decide, by decide⟩ ?_
    have K : zV true zy_X0_follows 5 115 [zR 14, zU, zU, zU, zU] [zI (if r13 = (-1005) then 0 else 1)] h14 (zQ0 Q) := by
      refine zV_top (fun x3_15 e_x3_15 => ?_)
      have hP := hP x3_15 e_x3_15
      refine zV_istore_n (ls' := [zR 14, zU, zU, zI x3_15, zU]) dX0_follows_115 rfl (Nat.le_of_ble_eq_true rfl) rfl rfl ?_
      refine zV_aload_n dX0_follows_116 rfl ?_
      refine zV_sg dX0_follows_117 fm_14_22 sa_14 (by decide) fl_X0_58_0 rfl ?_
      refine zV_iconst dX0_follows_120 ⟨by decide, by decide⟩ ?_
      refine zV_cVv (As := [zI 0]) (rest := []) dX0_follows_121 sa_58 (W_E_back 58 (Or.inr rfl) _ _ _ hP) mi_X1_back ml_X0_499 (by decide) (Nat.le_of_ble_eq_true rfl) rfl rfl (fun r16 h17 hP => ?_)
      refine zV_iload_n dX0_follows_124 rfl ?_
      exact zV_ireturn dX0_follows_125 rfl rfl (z01 hP.1) ⟨rfl, hP.2⟩
    clear hP
    refine zV_icmp_eq (tgt := 114) dX0_follows_107 (by decide) (fun c => ?_) (fun c => ?_)
    · try simp only [if_pos c] at K
      refine zV_iconst dX0_follows_114 ⟨by decide, by decide⟩ ?_
      refine zV_mask [true, false, false, false, false] rfl ?_
      exact K
    · try simp only [if_neg c] at K
      refine zV_iconst dX0_follows_110 ⟨by decide, by decide⟩ ?_
      refine zV_goto (tgt := 115) dX0_follows_111 (by decide) ?_
      refine zV_mask [true, false, false, false, false] rfl ?_
      exact K
def P_C_follows (a1 : Int) (h : zH) (Q : Int → zH → Prop) : Prop :=
∀ h1 : zH, h1 = zw h 58 21 1 →
∀ h2 : zH, h2 = zw h1 76 1 0 →
∀ h3 : zH, h3 = zw h2 58 31 1073741824 →
(0 ≤ a1 ∧ a1 < 801) ∧
∀ x3_4 : Int, x3_4 = (zd h3 98 a1) →
∃ n37, P_C_follows_L37 a1 0 Q (fun h10 =>
P_C_follows_J93 1 h10 Q) (fun h18 =>
P_C_follows_J93 0 h18 Q) n37 x3_4 h3
theorem W_C_follows (a1 : Int) (h : zH) (Q : Int → zH → Prop) (hP : P_C_follows a1 h Q) : zC true zy_X0_follows 5 [zR 14, zI a1] h (zQ0 Q) := by
  unfold P_C_follows at hP
  refine zC.of (by decide) (Nat.le_of_ble_eq_true rfl) ?_
  show zV true zy_X0_follows 5 0 [zR 14, zI a1, zU, zU, zU] [] h (zQ0 Q)
  refine zV_aload_n dX0_follows_0 rfl ?_
  refine zV_sg dX0_follows_1 fm_14_22 sa_14 (by decide) fl_X0_58_0 rfl ?_
  refine zV_iconst dX0_follows_4 ⟨by decide, by decide⟩ ?_
  refine zV_pf dX0_follows_5 sa_58 (by decide) fl_X0_483_1 rfl rfl trivial (ki := 21) rfl (fun h1 e_h1 => ?_)
  have hP := hP h1 e_h1
  refine zV_aload_n dX0_follows_8 rfl ?_
  refine zV_sg dX0_follows_9 fm_14_22 sa_14 (by decide) fl_X0_58_0 rfl ?_
  refine zV_sg dX0_follows_12 fm_58_19 sa_58 (by decide) fl_X0_486_1 rfl ?_
  refine zV_iconst dX0_follows_15 ⟨by decide, by decide⟩ ?_
  refine zV_iconst dX0_follows_16 ⟨by decide, by decide⟩ ?_
  refine zV_ias dX0_follows_17 sa_76 (by decide) (fun h2 e_h2 => ?_)
  have hP := hP h2 e_h2
  refine zV_aload_n dX0_follows_18 rfl ?_
  refine zV_sg dX0_follows_19 fm_14_22 sa_14 (by decide) fl_X0_58_0 rfl ?_
  refine zV_ldcwc (x := 1073741824) dX0_follows_22 (by decide) q1793 ⟨by decide, by decide⟩ ?_
  refine zV_pf dX0_follows_25 sa_58 (by decide) fl_X0_467_1 rfl rfl trivial (ki := 31) rfl (fun h3 e_h3 => ?_)
  have hP := hP h3 e_h3
  refine zV_iconst dX0_follows_28 ⟨by decide, by decide⟩ ?_
  refine zV_istore_n (ls' := [zR 14, zI a1, zI 0, zU, zU]) dX0_follows_29 rfl (Nat.le_of_ble_eq_true rfl) rfl rfl ?_
  refine zV_aload_n dX0_follows_30 rfl ?_
  refine zV_sg dX0_follows_31 fm_14_36 sa_14 (by decide) fl_X0_84_0 rfl ?_
  refine zV_iload_n dX0_follows_34 rfl ?_
  obtain ⟨ob, hP⟩ := hP
  refine zV_ia dX0_follows_35 sa_98 ob ?_
  refine zV_top (fun x3_4 e_x3_4 => ?_)
  have hP := hP x3_4 e_x3_4
  refine zV_istore_n (ls' := [zR 14, zI a1, zI 0, zI x3_4, zU]) dX0_follows_36 rfl (Nat.le_of_ble_eq_true rfl) rfl rfl ?_
  obtain ⟨n37, hP⟩ := hP
  refine W_C_follows_L37 _ _ _ _ _ (fun h10 hP => ?_) (fun h18 hP => ?_) n37 _ _ hP
  · refine zV_iconst dX0_follows_65 ⟨by decide, by decide⟩ ?_
    refine zV_istore_n (ls' := [zR 14, zU, zI 1, zU, zU]) dX0_follows_66 rfl (Nat.le_of_ble_eq_true rfl) rfl rfl ?_
    refine zV_goto (tgt := 93) dX0_follows_67 (by decide) ?_
    exact W_C_follows_J93 _ _ _ hP
  · exact W_C_follows_J93 _ _ _ hP
def P_C_isLastGood_J87 (y2 : Int) (y4 : Int) (s0 : Int) (s1 : Int) (h : zH) (Q : Int → zH → Prop) (k55 : Int → Int → zH → Prop) : Prop :=
∀ x3_1 : Int, x3_1 = (zor s1 s0) →
∀ x4_2 : Int, x4_2 = w32 (y4 + 1) →
k55 x3_1 x4_2 h
theorem W_C_isLastGood_J87 (y2 : Int) (y4 : Int) (s0 : Int) (s1 : Int) (h : zH) (Q : Int → zH → Prop) (k55 : Int → Int → zH → Prop) (H55 : ∀ (v3 v4 : Int) (h' : zH), k55 v3 v4 h' → zV true zy_X0_isLastGood 1 55 [zR 14, zU, zI y2, zI v3, zI v4] [] h' (zQ0 Q)) (hP : P_C_isLastGood_J87 y2 y4 s0 s1 h Q k55) : zV true zy_X0_isLastGood 1 87 [zR 14, zU, zI y2, zU, zI y4] [zI s0, zI s1] h (zQ0 Q) := by
  unfold P_C_isLastGood_J87 at hP
  refine zV_ior dX0_isLastGood_87 ?_
  refine zV_top (fun x3_1 e_x3_1 => ?_)
  have hP := hP x3_1 e_x3_1
  refine zV_istore_n (ls' := [zR 14, zU, zI y2, zI x3_1, zI y4]) dX0_isLastGood_88 rfl (Nat.le_of_ble_eq_true rfl) rfl rfl ?_
  refine zV_inc (ls' := fun z => [zR 14, zU, zI y2, zI x3_1, zI z]) dX0_isLastGood_89 (Nat.le_of_ble_eq_true rfl) rfl rfl (fun _ => rfl) (fun x4_2 e_x4_2 => ?_)
  have hP := hP x4_2 e_x4_2
  refine zV_goto (tgt := 55) dX0_isLastGood_92 (by decide) ?_
  exact H55 _ _ _ hP
def P_C_isLastGood_L55 (y2 : Int) (Q : Int → zH → Prop) (k95 : Int → zH → Prop) : Nat → Int → Int → zH → Prop
| 0, _, _, _ => False
| n55 + 1, y3, y4, h =>
if zd h 14 25 ≤ y4 then
(k95 y3 h)
else
((0 ≤ y4 ∧ y4 < 20) ∧
(0 ≤ y2 ∧ y2 < 8000) ∧
P_C_isLastGood_J87 y2 y4 (if zd h 93 y4 = w32 (-(zd h 97 y2)) then 1 else 0) y3 h Q (P_C_isLastGood_L55 y2 Q k95 n55))
theorem W_C_isLastGood_L55 (y2 : Int) (Q : Int → zH → Prop) (k95 : Int → zH → Prop) (H95 : ∀ (v3 : Int) (h' : zH), k95 v3 h' → zV true zy_X0_isLastGood 1 95 [zR 14, zU, zI y2, zI v3, zU] [] h' (zQ0 Q)) : ∀ (n55 : Nat) (y3 y4 : Int) (h : zH), P_C_isLastGood_L55 y2 Q k95 n55 y3 y4 h → zV true zy_X0_isLastGood 1 55 [zR 14, zU, zI y2, zI y3, zI y4] [] h (zQ0 Q) := by
  intro n55
  induction n55 with
  | zero => intro y3 y4 h hP; exact absurd hP id
  | succ n55 ih =>
    intro y3 y4 h hP
    unfold P_C_isLastGood_L55 at hP
    refine zV_iload dX0_isLastGood_55 rfl ?_
    refine zV_aload_n dX0_isLastGood_57 rfl ?_
    refine zV_gf dX0_isLastGood_58 sa_14 (by decide) fl_X0_324_0 rfl (ki := 25) rfl ?_
    refine zV_icmp_ge (tgt := 95) dX0_isLastGood_61 (by decide) (fun c => ?_) (fun c => ?_)
    · have hP := zif_p hP c
      refine zV_mask [true, true, true, true, false] (ls' := [zR 14, zU, zI y2, zI y3, zU]) rfl ?_
      exact H95 _ _ hP
    · have hP := zif_n hP c
      refine zV_iload_n dX0_isLastGood_64 rfl ?_
      refine zV_aload_n dX0_isLastGood_65 rfl ?_
      refine zV_sg dX0_isLastGood_66 fm_14_24 sa_14 (by decide) fl_X0_68_0 rfl ?_
      refine zV_iload dX0_isLastGood_69 rfl ?_
      obtain ⟨ob, hP⟩ := hP
      refine zV_ia dX0_isLastGood_71 sa_93 ob ?_
      refine zV_aload_n dX0_isLastGood_72 rfl ?_
      refine zV_sg dX0_isLastGood_73 fm_14_35 sa_14 (by decide) fl_X0_81_0 rfl ?_
      refine zV_iload_n dX0_isLastGood_76 rfl ?_
      obtain ⟨ob, hP⟩ := hP
      refine zV_ia dX0_isLastGood_77 sa_97 ob ?_
      refine zV_ineg dX0_isLastGood_78 ?_
      have K : zV true zy_X0_isLastGood 1 87 [zR 14, zU, zI y2, zU, zI y4] [zI (if zd h 93 y4 = w32 (-(zd h 97 y2)) then 1 else 0), zI y3] h (zQ0 Q) := by
        exact W_C_isLastGood_J87 _ _ _ _ _ _ _ ih hP
      clear hP
      refine zV_icmp_ne (tgt := 86) dX0_isLastGood_79 (by decide) (fun c => ?_) (fun c => ?_)
      · try simp only [if_neg c] at K
        refine zV_iconst dX0_isLastGood_86 ⟨by decide, by decide⟩ ?_
        refine zV_mask [true, false, true, false, true] rfl ?_
        exact K
      · try simp only [if_pos c] at K
        refine zV_iconst dX0_isLastGood_82 ⟨by decide, by decide⟩ ?_
        refine zV_goto (tgt := 87) dX0_isLastGood_83 (by decide) ?_
        refine zV_mask [true, false, true, false, true] rfl ?_
        exact K
def P_C_isLastGood_L33 (Q : Int → zH → Prop) : Nat → Int → Int → zH → Prop
| 0, _, _, _ => False
| n33 + 1, y1, y2, h =>
if y1 = 0 then
((y1 = 0 ∨ y1 = 1) ∧ Q y1 h)
else
((0 ≤ zd h 14 37 ∧ zd h 14 37 < 801) ∧
if zd h 98 (zd h 14 37) ≤ y2 then
((y1 = 0 ∨ y1 = 1) ∧ Q y1 h)
else
(∃ n55, P_C_isLastGood_L55 y2 Q (fun u3_95 h3 =>
∀ x2_4 : Int, x2_4 = w32 (y2 + 1) →
P_C_isLastGood_L33 Q n33 u3_95 x2_4 h3) n55 0 0 h))
theorem W_C_isLastGood_L33 (Q : Int → zH → Prop) : ∀ (n33 : Nat) (y1 y2 : Int) (h : zH), P_C_isLastGood_L33 Q n33 y1 y2 h → zV true zy_X0_isLastGood 1 33 [zR 14, zI y1, zI y2, zU, zU] [] h (zQ0 Q) := by
  intro n33
  induction n33 with
  | zero => intro y1 y2 h hP; exact absurd hP id
  | succ n33 ih =>
    intro y1 y2 h hP
    unfold P_C_isLastGood_L33 at hP
    refine zV_iload_n dX0_isLastGood_33 rfl ?_
    refine zV_if_eq (tgt := 103) dX0_isLastGood_34 (by decide) (fun c => ?_) (fun c => ?_)
    · have hP := zif_p hP c
      refine zV_iload_n dX0_isLastGood_103 rfl ?_
      exact zV_ireturn dX0_isLastGood_104 rfl rfl (z01 hP.1) ⟨rfl, hP.2⟩
    · have hP := zif_n hP c
      refine zV_iload_n dX0_isLastGood_37 rfl ?_
      refine zV_aload_n dX0_isLastGood_38 rfl ?_
      refine zV_sg dX0_isLastGood_39 fm_14_36 sa_14 (by decide) fl_X0_84_0 rfl ?_
      refine zV_aload_n dX0_isLastGood_42 rfl ?_
      refine zV_gf dX0_isLastGood_43 sa_14 (by decide) fl_X0_480_0 rfl (ki := 37) rfl ?_
      obtain ⟨ob, hP⟩ := hP
      refine zV_ia dX0_isLastGood_46 sa_98 ob ?_
      refine zV_icmp_ge (tgt := 103) dX0_isLastGood_47 (by decide) (fun c => ?_) (fun c => ?_)
      · have hP := zif_p hP c
        refine zV_iload_n dX0_isLastGood_103 rfl ?_
        exact zV_ireturn dX0_isLastGood_104 rfl rfl (z01 hP.1) ⟨rfl, hP.2⟩
      · have hP := zif_n hP c
        refine zV_iconst dX0_isLastGood_50 ⟨by decide, by decide⟩ ?_
        refine zV_istore_n (ls' := [zR 14, zI y1, zI y2, zI 0, zU]) dX0_isLastGood_51 rfl (Nat.le_of_ble_eq_true rfl) rfl rfl ?_
        refine zV_iconst dX0_isLastGood_52 ⟨by decide, by decide⟩ ?_
        refine zV_istore (ls' := [zR 14, zI y1, zI y2, zI 0, zI 0]) dX0_isLastGood_53 (Nat.le_of_ble_eq_true rfl) rfl rfl ?_
        obtain ⟨n55, hP⟩ := hP
        refine zV_mask [true, false, true, true, true] (ls' := [zR 14, zU, zI y2, zI 0, zI 0]) rfl ?_
        refine W_C_isLastGood_L55 _ _ _ (fun u3_95 h3 hP => ?_) n55 _ _ _ hP
        refine zV_iload_n dX0_isLastGood_95 rfl ?_
        refine zV_istore_n (ls' := [zR 14, zI u3_95, zI y2, zI u3_95, zU]) dX0_isLastGood_96 rfl (Nat.le_of_ble_eq_true rfl) rfl rfl ?_
        refine zV_inc (ls' := fun z => [zR 14, zI u3_95, zI z, zI u3_95, zU]) dX0_isLastGood_97 (Nat.le_of_ble_eq_true rfl) rfl rfl (fun _ => rfl) (fun x2_4 e_x2_4 => ?_)
        have hP := hP x2_4 e_x2_4
        refine zV_goto (tgt := 33) dX0_isLastGood_100 (by decide) ?_
        refine zV_mask [true, true, true, false, true] (ls' := [zR 14, zI u3_95, zI x2_4, zU, zU]) rfl ?_
        exact ih _ _ _ hP
def P_C_isLastGood_J32 (y1 : Int) (s0 : Int) (h : zH) (Q : Int → zH → Prop) : Prop :=
∃ n33, P_C_isLastGood_L33 Q n33 y1 s0 h
theorem W_C_isLastGood_J32 (y1 : Int) (s0 : Int) (h : zH) (Q : Int → zH → Prop) (hP : P_C_isLastGood_J32 y1 s0 h Q) : zV true zy_X0_isLastGood 1 32 [zR 14, zI y1, zU, zU, zU] [zI s0] h (zQ0 Q) := by
  unfold P_C_isLastGood_J32 at hP
  refine zV_istore_n (ls' := [zR 14, zI y1, zI s0, zU, zU]) dX0_isLastGood_32 rfl (Nat.le_of_ble_eq_true rfl) rfl rfl ?_
  obtain ⟨n33, hP⟩ := hP
  refine W_C_isLastGood_L33 _ n33 _ _ _ hP
def P_C_isLastGood_J12 (s0 : Int) (h : zH) (Q : Int → zH → Prop) : Prop :=
(if s0 = 0 then True else (0 ≤ w32 ((zd h 14 37) - 1) ∧ w32 ((zd h 14 37) - 1) < 801) ∧ True) ∧
P_C_isLastGood_J32 s0 (if s0 = 0 then 0 else zd h 98 (w32 ((zd h 14 37) - 1))) h Q
theorem W_C_isLastGood_J12 (s0 : Int) (h : zH) (Q : Int → zH → Prop) (hP : P_C_isLastGood_J12 s0 h Q) : zV true zy_X0_isLastGood 1 12 [zR 14, zU, zU, zU, zU] [zI s0] h (zQ0 Q) := by
  unfold P_C_isLastGood_J12 at hP
  refine zV_istore_n (ls' := [zR 14, zI s0, zU, zU, zU]) dX0_isLastGood_12 rfl (Nat.le_of_ble_eq_true rfl) rfl rfl ?_
  refine zV_iload_n dX0_isLastGood_13 rfl ?_
  obtain ⟨hO, hP⟩ := hP
  have K : zV true zy_X0_isLastGood 1 32 [zR 14, zI s0, zU, zU, zU] [zI (if s0 = 0 then 0 else zd h 98 (w32 ((zd h 14 37) - 1)))] h (zQ0 Q) := by
    exact W_C_isLastGood_J32 _ _ _ _ hP
  clear hP
  refine zV_if_eq (tgt := 31) dX0_isLastGood_14 (by decide) (fun c => ?_) (fun c => ?_)
  · try simp only [if_pos c] at K
    have hO := zif_p hO c
    refine zV_iconst dX0_isLastGood_31 ⟨by decide, by decide⟩ ?_
    refine zV_mask [true, true, false, false, false] rfl ?_
    exact K
  · try simp only [if_neg c] at K
    have hO := zif_n hO c
    refine zV_aload_n dX0_isLastGood_17 rfl ?_
    refine zV_sg dX0_isLastGood_18 fm_14_36 sa_14 (by decide) fl_X0_84_0 rfl ?_
    refine zV_aload_n dX0_isLastGood_21 rfl ?_
    refine zV_gf dX0_isLastGood_22 sa_14 (by decide) fl_X0_480_0 rfl (ki := 37) rfl ?_
    refine zV_iconst dX0_isLastGood_25 ⟨by decide, by decide⟩ ?_
    refine zV_isub dX0_isLastGood_26 ?_
    obtain ⟨ob, hO⟩ := hO
    refine zV_ia dX0_isLastGood_27 sa_98 ob ?_
    refine zV_goto (tgt := 32) dX0_isLastGood_28 (by decide) ?_
    refine zV_mask [true, true, false, false, false] rfl ?_
    exact K
def P_C_isLastGood (h : zH) (Q : Int → zH → Prop) : Prop :=
P_C_isLastGood_J12 (if zd h 14 37 ≤ 0 then 0 else 1) h Q
theorem W_C_isLastGood (h : zH) (Q : Int → zH → Prop) (hP : P_C_isLastGood  h Q) : zC true zy_X0_isLastGood 1 [zR 14] h (zQ0 Q) := by
  unfold P_C_isLastGood at hP
  refine zC.of (by decide) (Nat.le_of_ble_eq_true rfl) ?_
  show zV true zy_X0_isLastGood 1 0 [zR 14, zU, zU, zU, zU] [] h (zQ0 Q)
  refine zV_aload_n dX0_isLastGood_0 rfl ?_
  refine zV_gf dX0_isLastGood_1 sa_14 (by decide) fl_X0_480_0 rfl (ki := 37) rfl ?_
  have K : zV true zy_X0_isLastGood 1 12 [zR 14, zU, zU, zU, zU] [zI (if zd h 14 37 ≤ 0 then 0 else 1)] h (zQ0 Q) := by
    exact W_C_isLastGood_J12 _ _ _ hP
  clear hP
  refine zV_if_le (tgt := 11) dX0_isLastGood_4 (by decide) (fun c => ?_) (fun c => ?_)
  · try simp only [if_pos c] at K
    refine zV_iconst dX0_isLastGood_11 ⟨by decide, by decide⟩ ?_
    refine zV_mask [true, false, false, false, false] rfl ?_
    exact K
  · try simp only [if_neg c] at K
    refine zV_iconst dX0_isLastGood_7 ⟨by decide, by decide⟩ ?_
    refine zV_goto (tgt := 12) dX0_isLastGood_8 (by decide) ?_
    refine zV_mask [true, false, false, false, false] rfl ?_
    exact K
def P_C_check_L24 (Q : Int → zH → Prop) (k83 : zH → Prop) : Nat → Int → zH → Prop
| 0, _, _ => False
| n24 + 1, y1, h =>
if zd h 14 37 ≤ y1 then
(k83 h)
else
(P_C_follows y1 h (fun r6 h7 =>
if r6 = 0 then
(∀ h11 : zH, h11 = zw h7 14 38 y1 →
Q 0 h11)
else
((0 ≤ y1 ∧ y1 < 801) ∧
(0 ≤ w32 (y1 + 1) ∧ w32 (y1 + 1) < 801) ∧
P_E_lay 58 (w32 (564 + y1)) 97 (zd h7 98 y1) (zd h7 98 (w32 (y1 + 1))) h7 (fun r8 h9 =>
∀ x1_10 : Int, x1_10 = w32 (y1 + 1) →
P_C_check_L24 Q k83 n24 x1_10 h9))))
theorem W_C_check_L24 (Q : Int → zH → Prop) (k83 : zH → Prop) (H83 : ∀ (h' : zH), k83 h' → zV true zy_X0_check 6 83 [zR 14, zU] [] h' (zQ0 Q)) : ∀ (n24 : Nat) (y1 : Int) (h : zH), P_C_check_L24 Q k83 n24 y1 h → zV true zy_X0_check 6 24 [zR 14, zI y1] [] h (zQ0 Q) := by
  intro n24
  induction n24 with
  | zero => intro y1 h hP; exact absurd hP id
  | succ n24 ih =>
    intro y1 h hP
    unfold P_C_check_L24 at hP
    refine zV_iload_n dX0_check_24 rfl ?_
    refine zV_aload_n dX0_check_25 rfl ?_
    refine zV_gf dX0_check_26 sa_14 (by decide) fl_X0_480_0 rfl (ki := 37) rfl ?_
    refine zV_icmp_ge (tgt := 83) dX0_check_29 (by decide) (fun c => ?_) (fun c => ?_)
    · have hP := zif_p hP c
      refine zV_mask [true, false] (ls' := [zR 14, zU]) rfl ?_
      exact H83 _ hP
    · have hP := zif_n hP c
      refine zV_aload_n dX0_check_32 rfl ?_
      refine zV_iload_n dX0_check_33 rfl ?_
      refine zV_cVk (As := [zI y1]) (rest := []) dX0_check_34 sa_14 (W_C_follows _ _ _ hP) mi_X0_follows ml_X0_502 (by decide) (Nat.le_of_ble_eq_true rfl) rfl rfl rfl (fun r6 h7 hP => ?_)
      refine zV_if_ne (tgt := 47) dX0_check_37 (by decide) (fun c => ?_) (fun c => ?_)
      · have hP := zif_n hP c
        refine zV_aload_n dX0_check_47 rfl ?_
        refine zV_sg dX0_check_48 fm_14_22 sa_14 (by decide) fl_X0_58_0 rfl ?_
        refine zV_sipush dX0_check_51 ⟨by decide, by decide, by decide⟩ ?_
        refine zV_iload_n dX0_check_54 rfl ?_
        refine zV_iadd dX0_check_55 ?_
        refine zV_aload_n dX0_check_56 rfl ?_
        refine zV_sg dX0_check_57 fm_14_35 sa_14 (by decide) fl_X0_81_0 rfl ?_
        refine zV_aload_n dX0_check_60 rfl ?_
        refine zV_sg dX0_check_61 fm_14_36 sa_14 (by decide) fl_X0_84_0 rfl ?_
        refine zV_iload_n dX0_check_64 rfl ?_
        obtain ⟨ob, hP⟩ := hP
        refine zV_ia dX0_check_65 sa_98 ob ?_
        refine zV_aload_n dX0_check_66 rfl ?_
        refine zV_sg dX0_check_67 fm_14_36 sa_14 (by decide) fl_X0_84_0 rfl ?_
        refine zV_iload_n dX0_check_70 rfl ?_
        refine zV_iconst dX0_check_71 ⟨by decide, by decide⟩ ?_
        refine zV_iadd dX0_check_72 ?_
        obtain ⟨ob, hP⟩ := hP
        refine zV_ia dX0_check_73 sa_98 ob ?_
        refine zV_cVv (As := [zI (w32 (564 + y1)), zR 97, zI (zd h7 98 y1), zI (zd h7 98 (w32 (y1 + 1)))]) (rest := []) dX0_check_74 sa_58 (W_E_lay 58 (Or.inr rfl) _ _ _ _ _ _ hP) mi_X1_lay ml_X0_505 (by decide) (Nat.le_of_ble_eq_true rfl) rfl rfl (fun r8 h9 hP => ?_)
        refine zV_inc (ls' := fun z => [zR 14, zI z]) dX0_check_77 (Nat.le_of_ble_eq_true rfl) rfl rfl (fun _ => rfl) (fun x1_10 e_x1_10 => ?_)
        have hP := hP x1_10 e_x1_10
        refine zV_goto (tgt := 24) dX0_check_80 (by decide) ?_
        exact ih _ _ hP
      · have hP := zif_p hP c
        refine zV_aload_n dX0_check_40 rfl ?_
        refine zV_iload_n dX0_check_41 rfl ?_
        refine zV_pf dX0_check_42 sa_14 (by decide) fl_X0_87_0 rfl rfl trivial (ki := 38) rfl (fun h11 e_h11 => ?_)
        have hP := hP h11 e_h11
        refine zV_iconst dX0_check_45 ⟨by decide, by decide⟩ ?_
        exact zV_ireturn dX0_check_46 rfl rfl rfl ⟨rfl, hP⟩
def P_C_check (h : zH) (Q : Int → zH → Prop) : Prop :=
P_E_clear 58 h (fun r1 h2 =>
P_E_layCase 58 0 h2 (fun r3 h4 =>
∀ h5 : zH, h5 = zw h4 14 38 (-1005) →
∃ n24, P_C_check_L24 Q (fun h12 =>
P_C_isLastGood h12 (fun r13 h14 =>
if r13 = 0 then
(∀ h15 : zH, h15 = zw h14 14 38 (zd h14 14 37) →
Q 0 h15)
else
(Q 1 h14))) n24 0 h5))
theorem W_C_check (h : zH) (Q : Int → zH → Prop) (hP : P_C_check  h Q) : zC true zy_X0_check 6 [zR 14] h (zQ0 Q) := by
  unfold P_C_check at hP
  refine zC.of (by decide) (Nat.le_of_ble_eq_true rfl) ?_
  show zV true zy_X0_check 6 0 [zR 14, zU] [] h (zQ0 Q)
  refine zV_aload_n dX0_check_0 rfl ?_
  refine zV_sg dX0_check_1 fm_14_22 sa_14 (by decide) fl_X0_58_0 rfl ?_
  refine zV_cVv (As := []) (rest := []) dX0_check_4 sa_58 (W_E_clear 58 (Or.inr rfl) _ _ hP) mi_X1_clear ml_X0_352 (by decide) (Nat.le_of_ble_eq_true rfl) rfl rfl (fun r1 h2 hP => ?_)
  refine zV_aload_n dX0_check_7 rfl ?_
  refine zV_sg dX0_check_8 fm_14_22 sa_14 (by decide) fl_X0_58_0 rfl ?_
  refine zV_null dX0_check_11 ?_
  refine zV_cVv (As := [zR 0]) (rest := []) dX0_check_12 sa_58 (W_E_layCase 58 (Or.inr rfl) _ _ _ hP) mi_X1_layCase ml_X0_355 (by decide) (Nat.le_of_ble_eq_true rfl) rfl rfl (fun r3 h4 hP => ?_)
  refine zV_aload_n dX0_check_15 rfl ?_
  refine zV_sipush dX0_check_16 ⟨by decide, by decide, by decide⟩ ?_
  refine zV_pf dX0_check_19 sa_14 (by decide) fl_X0_87_0 rfl rfl trivial (ki := 38) rfl (fun h5 e_h5 => ?_)
  have hP := hP h5 e_h5
  refine zV_iconst dX0_check_22 ⟨by decide, by decide⟩ ?_
  refine zV_istore_n (ls' := [zR 14, zI 0]) dX0_check_23 rfl (Nat.le_of_ble_eq_true rfl) rfl rfl ?_
  obtain ⟨n24, hP⟩ := hP
  refine W_C_check_L24 _ _ (fun h12 hP => ?_) n24 _ _ hP
  refine zV_aload_n dX0_check_83 rfl ?_
  refine zV_cVk (As := []) (rest := []) dX0_check_84 sa_14 (W_C_isLastGood _ _ hP) mi_X0_isLastGood ml_X0_508 (by decide) (Nat.le_of_ble_eq_true rfl) rfl rfl rfl (fun r13 h14 hP => ?_)
  refine zV_if_ne (tgt := 100) dX0_check_87 (by decide) (fun c => ?_) (fun c => ?_)
  · have hP := zif_n hP c
    refine zV_iconst dX0_check_100 ⟨by decide, by decide⟩ ?_
    exact zV_ireturn dX0_check_101 rfl rfl rfl ⟨rfl, hP⟩
  · have hP := zif_p hP c
    refine zV_aload_n dX0_check_90 rfl ?_
    refine zV_aload_n dX0_check_91 rfl ?_
    refine zV_gf dX0_check_92 sa_14 (by decide) fl_X0_480_0 rfl (ki := 37) rfl ?_
    refine zV_pf dX0_check_95 sa_14 (by decide) fl_X0_87_0 rfl rfl trivial (ki := 38) rfl (fun h15 e_h15 => ?_)
    have hP := hP h15 e_h15
    refine zV_iconst dX0_check_98 ⟨by decide, by decide⟩ ?_
    exact zV_ireturn dX0_check_99 rfl rfl rfl ⟨rfl, hP⟩
def P_C_refusedAt (h : zH) (Q : Int → zH → Prop) : Prop :=
Q (zd h 14 38) h
theorem W_C_refusedAt (h : zH) (Q : Int → zH → Prop) (hP : P_C_refusedAt  h Q) : zC true zy_X0_refusedAt 1 [zR 14] h (zQ0 Q) := by
  unfold P_C_refusedAt at hP
  refine zC.of (by decide) (Nat.le_of_ble_eq_true rfl) ?_
  show zV true zy_X0_refusedAt 1 0 [zR 14] [] h (zQ0 Q)
  refine zV_aload_n dX0_refusedAt_0 rfl ?_
  refine zV_gf dX0_refusedAt_1 sa_14 (by decide) fl_X0_87_0 rfl (ki := 38) rfl ?_
  exact zV_ireturn dX0_refusedAt_4 rfl rfl rfl ⟨rfl, hP⟩
def P_C_countedNames_J30 (y2 : Int) (s0 : Int) (s1 : Int) (h : zH) (Q : Int → zH → Prop) (k4 : Int → Int → zH → Prop) : Prop :=
∀ x1_1 : Int, x1_1 = (w32 (s1 + s0)) →
∀ x2_2 : Int, x2_2 = w32 (y2 + 1) →
k4 x1_1 x2_2 h
theorem W_C_countedNames_J30 (y2 : Int) (s0 : Int) (s1 : Int) (h : zH) (Q : Int → zH → Prop) (k4 : Int → Int → zH → Prop) (H4 : ∀ (v1 v2 : Int) (h' : zH), k4 v1 v2 h' → zV true zy_X0_countedNames 1 4 [zR 14, zI v1, zI v2] [] h' (zQ0 Q)) (hP : P_C_countedNames_J30 y2 s0 s1 h Q k4) : zV true zy_X0_countedNames 1 30 [zR 14, zU, zI y2] [zI s0, zI s1] h (zQ0 Q) := by
  unfold P_C_countedNames_J30 at hP
  refine zV_iadd dX0_countedNames_30 ?_
  refine zV_top (fun x1_1 e_x1_1 => ?_)
  have hP := hP x1_1 e_x1_1
  refine zV_istore_n (ls' := [zR 14, zI x1_1, zI y2]) dX0_countedNames_31 rfl (Nat.le_of_ble_eq_true rfl) rfl rfl ?_
  refine zV_inc (ls' := fun z => [zR 14, zI x1_1, zI z]) dX0_countedNames_32 (Nat.le_of_ble_eq_true rfl) rfl rfl (fun _ => rfl) (fun x2_2 e_x2_2 => ?_)
  have hP := hP x2_2 e_x2_2
  refine zV_goto (tgt := 4) dX0_countedNames_35 (by decide) ?_
  exact H4 _ _ _ hP
def P_C_countedNames_L4 (Q : Int → zH → Prop) : Nat → Int → Int → zH → Prop
| 0, _, _, _ => False
| n4 + 1, y1, y2, h =>
if zd h 14 2 ≤ y2 then
(Q y1 h)
else
((0 ≤ y2 ∧ y2 < 300) ∧
(zt h (zd h 15 y2) = 4) ∧
P_C_countedNames_J30 y2 (if zd h (zd h 15 y2) 2 = 0 then 0 else 1) y1 h Q (P_C_countedNames_L4 Q n4))
theorem W_C_countedNames_L4 (Q : Int → zH → Prop) : ∀ (n4 : Nat) (y1 y2 : Int) (h : zH), P_C_countedNames_L4 Q n4 y1 y2 h → zV true zy_X0_countedNames 1 4 [zR 14, zI y1, zI y2] [] h (zQ0 Q) := by
  intro n4
  induction n4 with
  | zero => intro y1 y2 h hP; exact absurd hP id
  | succ n4 ih =>
    intro y1 y2 h hP
    unfold P_C_countedNames_L4 at hP
    refine zV_iload_n dX0_countedNames_4 rfl ?_
    refine zV_aload_n dX0_countedNames_5 rfl ?_
    refine zV_gf dX0_countedNames_6 sa_14 (by decide) fl_X0_100_0 rfl (ki := 2) rfl ?_
    refine zV_icmp_ge (tgt := 38) dX0_countedNames_9 (by decide) (fun c => ?_) (fun c => ?_)
    · have hP := zif_p hP c
      refine zV_iload_n dX0_countedNames_38 rfl ?_
      exact zV_ireturn dX0_countedNames_39 rfl rfl rfl ⟨rfl, hP⟩
    · have hP := zif_n hP c
      refine zV_iload_n dX0_countedNames_12 rfl ?_
      refine zV_aload_n dX0_countedNames_13 rfl ?_
      refine zV_sg dX0_countedNames_14 fm_14_1 sa_14 (by decide) fl_X0_11_0 rfl ?_
      refine zV_iload_n dX0_countedNames_17 rfl ?_
      obtain ⟨ob, hP⟩ := hP
      refine zV_aa dX0_countedNames_18 sa_15 (by decide) ob ?_
      obtain ⟨ob, hP⟩ := hP
      refine zV_gD dX0_countedNames_19 ob (by decide) fl_X0_511_4 rfl (ki := 2) rfl ?_
      have K : zV true zy_X0_countedNames 1 30 [zR 14, zU, zI y2] [zI (if zd h (zd h 15 y2) 2 = 0 then 0 else 1), zI y1] h (zQ0 Q) := by
        exact W_C_countedNames_J30 _ _ _ _ _ _ ih hP
      clear hP
      refine zV_if_eq (tgt := 29) dX0_countedNames_22 (by decide) (fun c => ?_) (fun c => ?_)
      · try simp only [if_pos c] at K
        refine zV_iconst dX0_countedNames_29 ⟨by decide, by decide⟩ ?_
        refine zV_mask [true, false, true] rfl ?_
        exact K
      · try simp only [if_neg c] at K
        refine zV_iconst dX0_countedNames_25 ⟨by decide, by decide⟩ ?_
        refine zV_goto (tgt := 30) dX0_countedNames_26 (by decide) ?_
        refine zV_mask [true, false, true] rfl ?_
        exact K
def P_C_countedNames (h : zH) (Q : Int → zH → Prop) : Prop :=
∃ n4, P_C_countedNames_L4 Q n4 0 0 h
theorem W_C_countedNames (h : zH) (Q : Int → zH → Prop) (hP : P_C_countedNames  h Q) : zC true zy_X0_countedNames 1 [zR 14] h (zQ0 Q) := by
  unfold P_C_countedNames at hP
  refine zC.of (by decide) (Nat.le_of_ble_eq_true rfl) ?_
  show zV true zy_X0_countedNames 1 0 [zR 14, zU, zU] [] h (zQ0 Q)
  refine zV_iconst dX0_countedNames_0 ⟨by decide, by decide⟩ ?_
  refine zV_istore_n (ls' := [zR 14, zI 0, zU]) dX0_countedNames_1 rfl (Nat.le_of_ble_eq_true rfl) rfl rfl ?_
  refine zV_iconst dX0_countedNames_2 ⟨by decide, by decide⟩ ?_
  refine zV_istore_n (ls' := [zR 14, zI 0, zI 0]) dX0_countedNames_3 rfl (Nat.le_of_ble_eq_true rfl) rfl rfl ?_
  obtain ⟨n4, hP⟩ := hP
  refine W_C_countedNames_L4 _ n4 _ _ _ hP
def P_C_counted_J53 (y1 : Int) (y2 : Int) (y3 : Int) (h : zH) (Q : Int → zH → Prop) : Prop :=
(0 ≤ w32 (y1 - 1) ∧ w32 (y1 - 1) < 300) ∧
(zt h (zd h 15 (w32 (y1 - 1))) = 4) ∧
(y2 = 0 ∨ y2 = 1) ∧
∀ h4 : zH, h4 = zw h (zd h 15 (w32 (y1 - 1))) 2 y2 →
Q (if y3 = 0 then 0 else 1) h4
theorem W_C_counted_J53 (y1 : Int) (y2 : Int) (y3 : Int) (h : zH) (Q : Int → zH → Prop) (hP : P_C_counted_J53 y1 y2 y3 h Q) : zV true zy_X0_counted 3 53 [zR 14, zI y1, zI y2, zI y3] [] h (zQ0 Q) := by
  unfold P_C_counted_J53 at hP
  refine zV_aload_n dX0_counted_53 rfl ?_
  refine zV_sg dX0_counted_54 fm_14_1 sa_14 (by decide) fl_X0_11_0 rfl ?_
  refine zV_iload_n dX0_counted_57 rfl ?_
  refine zV_iconst dX0_counted_58 ⟨by decide, by decide⟩ ?_
  refine zV_isub dX0_counted_59 ?_
  obtain ⟨ob, hP⟩ := hP
  refine zV_aa dX0_counted_60 sa_15 (by decide) ob ?_
  refine zV_iload_n dX0_counted_61 rfl ?_
  obtain ⟨obt, hP⟩ := hP
  obtain ⟨ob, hP⟩ := hP
  refine zV_pD dX0_counted_62 obt (by decide) fl_X0_511_4 (Or.inl rfl) (Or.inl rfl) rfl ob (ki := 2) rfl (fun h4 e_h4 => ?_)
  have hP := hP h4 e_h4
  refine zV_iload_n dX0_counted_65 rfl ?_
  have K : zV true zy_X0_counted 3 74 [zU, zU, zU, zU] [zI (if y3 = 0 then 0 else 1)] h4 (zQ0 Q) := by
    exact zV_ireturn dX0_counted_74 rfl rfl rfl ⟨rfl, hP⟩
  clear hP
  refine zV_if_eq (tgt := 73) dX0_counted_66 (by decide) (fun c => ?_) (fun c => ?_)
  · try simp only [if_pos c] at K
    refine zV_iconst dX0_counted_73 ⟨by decide, by decide⟩ ?_
    refine zV_mask [false, false, false, false] rfl ?_
    exact K
  · try simp only [if_neg c] at K
    refine zV_iconst dX0_counted_69 ⟨by decide, by decide⟩ ?_
    refine zV_goto (tgt := 74) dX0_counted_70 (by decide) ?_
    refine zV_mask [false, false, false, false] rfl ?_
    exact K
def P_C_counted (a1 : Int) (a2 : Int) (h : zH) (Q : Int → zH → Prop) : Prop :=
P_C_isName a1 h (fun r1 h2 =>
if r1 = 0 then
(P_C_refused (-1001) h2 (fun r9 h10 =>
Q r9 h10))
else
((0 ≤ w32 (a1 - 1) ∧ w32 (a1 - 1) < 300) ∧
(zt h2 (zd h2 15 (w32 (a1 - 1))) = 4) ∧
∀ x3_3 : Int, x3_3 = (zd h2 (zd h2 15 (w32 (a1 - 1))) 2) →
if a2 = 0 then
(P_C_counted_J53 a1 a2 x3_3 h2 Q)
else
(if x3_3 = 0 then
(P_C_countedNames h2 (fun r5 h6 =>
if r5 = 20 then
(P_C_refused (-1003) h6 (fun r7 h8 =>
Q r7 h8))
else
(P_C_counted_J53 a1 a2 x3_3 h6 Q)))
else
(P_C_counted_J53 a1 a2 x3_3 h2 Q))))
theorem W_C_counted (a1 : Int) (a2 : Int) (h : zH) (Q : Int → zH → Prop) (hP : P_C_counted a1 a2 h Q) : zC true zy_X0_counted 3 [zR 14, zI a1, zI a2] h (zQ0 Q) := by
  unfold P_C_counted at hP
  refine zC.of (by decide) (Nat.le_of_ble_eq_true rfl) ?_
  show zV true zy_X0_counted 3 0 [zR 14, zI a1, zI a2, zU] [] h (zQ0 Q)
  refine zV_aload_n dX0_counted_0 rfl ?_
  refine zV_iload_n dX0_counted_1 rfl ?_
  refine zV_cVk (As := [zI a1]) (rest := []) dX0_counted_2 sa_14 (W_C_isName _ _ _ hP) mi_X0_isName ml_X0_327 (by decide) (Nat.le_of_ble_eq_true rfl) rfl rfl rfl (fun r1 h2 hP => ?_)
  refine zV_if_ne (tgt := 16) dX0_counted_5 (by decide) (fun c => ?_) (fun c => ?_)
  · have hP := zif_n hP c
    refine zV_aload_n dX0_counted_16 rfl ?_
    refine zV_sg dX0_counted_17 fm_14_1 sa_14 (by decide) fl_X0_11_0 rfl ?_
    refine zV_iload_n dX0_counted_20 rfl ?_
    refine zV_iconst dX0_counted_21 ⟨by decide, by decide⟩ ?_
    refine zV_isub dX0_counted_22 ?_
    obtain ⟨ob, hP⟩ := hP
    refine zV_aa dX0_counted_23 sa_15 (by decide) ob ?_
    obtain ⟨ob, hP⟩ := hP
    refine zV_gD dX0_counted_24 ob (by decide) fl_X0_511_4 rfl (ki := 2) rfl ?_
    refine zV_top (fun x3_3 e_x3_3 => ?_)
    have hP := hP x3_3 e_x3_3
    refine zV_istore_n (ls' := [zR 14, zI a1, zI a2, zI x3_3]) dX0_counted_27 rfl (Nat.le_of_ble_eq_true rfl) rfl rfl ?_
    refine zV_iload_n dX0_counted_28 rfl ?_
    refine zV_if_eq (tgt := 53) dX0_counted_29 (by decide) (fun c => ?_) (fun c => ?_)
    · have hP := zif_p hP c
      exact W_C_counted_J53 _ _ _ _ _ hP
    · have hP := zif_n hP c
      refine zV_iload_n dX0_counted_32 rfl ?_
      refine zV_if_ne (tgt := 53) dX0_counted_33 (by decide) (fun c => ?_) (fun c => ?_)
      · have hP := zif_n hP c
        exact W_C_counted_J53 _ _ _ _ _ hP
      · have hP := zif_p hP c
        refine zV_aload_n dX0_counted_36 rfl ?_
        refine zV_cVk (As := []) (rest := []) dX0_counted_37 sa_14 (W_C_countedNames _ _ hP) mi_X0_countedNames ml_X0_514 (by decide) (Nat.le_of_ble_eq_true rfl) rfl rfl rfl (fun r5 h6 hP => ?_)
        refine zV_bipush dX0_counted_40 ⟨by decide, by decide, by decide⟩ ?_
        refine zV_icmp_ne (tgt := 53) dX0_counted_42 (by decide) (fun c => ?_) (fun c => ?_)
        · have hP := zif_n hP c
          exact W_C_counted_J53 _ _ _ _ _ hP
        · have hP := zif_p hP c
          refine zV_aload_n dX0_counted_45 rfl ?_
          refine zV_sipush dX0_counted_46 ⟨by decide, by decide, by decide⟩ ?_
          refine zV_cVk (As := [zI (-1003)]) (rest := []) dX0_counted_49 sa_14 (W_C_refused _ _ _ hP) mi_X0_refused ml_X0_124 (by decide) (Nat.le_of_ble_eq_true rfl) rfl rfl rfl (fun r7 h8 hP => ?_)
          exact zV_ireturn dX0_counted_52 rfl rfl rfl ⟨rfl, hP⟩
  · have hP := zif_p hP c
    refine zV_aload_n dX0_counted_8 rfl ?_
    refine zV_sipush dX0_counted_9 ⟨by decide, by decide, by decide⟩ ?_
    refine zV_cVk (As := [zI (-1001)]) (rest := []) dX0_counted_12 sa_14 (W_C_refused _ _ _ hP) mi_X0_refused ml_X0_124 (by decide) (Nat.le_of_ble_eq_true rfl) rfl rfl rfl (fun r9 h10 hP => ?_)
    exact zV_ireturn dX0_counted_15 rfl rfl rfl ⟨rfl, hP⟩
def P_C_barBy_J59 (y1 : Int) (y2 : Int) (y4 : Int) (y5 : Int) (h : zH) (Q : Int → zH → Prop) (k6 : Int → Int → zH → Prop) : Prop :=
∀ x5_1 : Int, x5_1 = w32 (y5 + 1) →
k6 y4 x5_1 h
theorem W_C_barBy_J59 (y1 : Int) (y2 : Int) (y4 : Int) (y5 : Int) (h : zH) (Q : Int → zH → Prop) (k6 : Int → Int → zH → Prop) (H6 : ∀ (v4 v5 : Int) (h' : zH), k6 v4 v5 h' → zV true zy_X0_barBy 1 6 [zR 14, zR y1, zR y2, zU, zI v4, zI v5] [] h' (zQ0 Q)) (hP : P_C_barBy_J59 y1 y2 y4 y5 h Q k6) : zV true zy_X0_barBy 1 59 [zR 14, zR y1, zR y2, zU, zI y4, zI y5] [] h (zQ0 Q) := by
  unfold P_C_barBy_J59 at hP
  refine zV_inc (ls' := fun z => [zR 14, zR y1, zR y2, zU, zI y4, zI z]) dX0_barBy_59 (Nat.le_of_ble_eq_true rfl) rfl rfl (fun _ => rfl) (fun x5_1 e_x5_1 => ?_)
  have hP := hP x5_1 e_x5_1
  refine zV_goto (tgt := 6) dX0_barBy_62 (by decide) ?_
  exact H6 _ _ _ hP
def P_C_barBy_J58 (y1 : Int) (y2 : Int) (y4 : Int) (y5 : Int) (s0 : Int) (s1 : Int) (s2 : Int) (h : zH) (Q : Int → zH → Prop) (k6 : Int → Int → zH → Prop) : Prop :=
(zt h s2 = 50 ∧ 0 ≤ s1 ∧ s1 < zl h s2) ∧
∀ h3 : zH, h3 = zw h s2 s1 s0 →
P_C_barBy_J59 y1 y2 y4 y5 h3 Q k6
theorem W_C_barBy_J58 (y1 : Int) (y2 : Int) (y4 : Int) (y5 : Int) (s0 : Int) (s1 : Int) (s2 : Int) (h : zH) (Q : Int → zH → Prop) (k6 : Int → Int → zH → Prop) (H6 : ∀ (v4 v5 : Int) (h' : zH), k6 v4 v5 h' → zV true zy_X0_barBy 1 6 [zR 14, zR y1, zR y2, zU, zI v4, zI v5] [] h' (zQ0 Q)) (hP : P_C_barBy_J58 y1 y2 y4 y5 s0 s1 s2 h Q k6) : zV true zy_X0_barBy 1 58 [zR 14, zR y1, zR y2, zU, zI y4, zI y5] [zI s0, zI s1, zR s2] h (zQ0 Q) := by
  unfold P_C_barBy_J58 at hP
  obtain ⟨ob, hP⟩ := hP
  refine zV_iasD dX0_barBy_58 ob (fun h3 e_h3 => ?_)
  have hP := hP h3 e_h3
  exact W_C_barBy_J59 _ _ _ _ _ _ _ H6 hP
def P_C_barBy_L6 (y1 : Int) (y2 : Int) (Q : Int → zH → Prop) : Nat → Int → Int → zH → Prop
| 0, _, _, _ => False
| n6 + 1, y4, y5, h =>
if zd h 14 2 ≤ y5 then
(Q y4 h)
else
((0 ≤ y5 ∧ y5 < 300) ∧
(zt h (zd h 15 y5) = 4) ∧
if zd h (zd h 15 y5) 2 = 0 then
(P_C_barBy_J59 y1 y2 y4 y5 h Q (P_C_barBy_L6 y1 y2 Q n6))
else
(∀ x4_2 : Int, x4_2 = w32 (y4 + 1) →
(zt h y1 = 1) ∧
(zt h (zd h y1 56) = 50 ∧ 0 ≤ w32 (y5 + 1) ∧ w32 (y5 + 1) < zl h (zd h y1 56)) ∧
P_C_barBy_J58 y1 y2 x4_2 y5 (if zd h (zd h y1 56) (w32 (y5 + 1)) ≤ 0 then w32 (y5 + 1) else w32 (-(w32 (y5 + 1)))) y4 y2 h Q (P_C_barBy_L6 y1 y2 Q n6)))
theorem W_C_barBy_L6 (y1 : Int) (y2 : Int) (Q : Int → zH → Prop) : ∀ (n6 : Nat) (y4 y5 : Int) (h : zH), P_C_barBy_L6 y1 y2 Q n6 y4 y5 h → zV true zy_X0_barBy 1 6 [zR 14, zR y1, zR y2, zU, zI y4, zI y5] [] h (zQ0 Q) := by
  intro n6
  induction n6 with
  | zero => intro y4 y5 h hP; exact absurd hP id
  | succ n6 ih =>
    intro y4 y5 h hP
    unfold P_C_barBy_L6 at hP
    refine zV_iload dX0_barBy_6 rfl ?_
    refine zV_aload_n dX0_barBy_8 rfl ?_
    refine zV_gf dX0_barBy_9 sa_14 (by decide) fl_X0_100_0 rfl (ki := 2) rfl ?_
    refine zV_icmp_ge (tgt := 65) dX0_barBy_12 (by decide) (fun c => ?_) (fun c => ?_)
    · have hP := zif_p hP c
      refine zV_iload dX0_barBy_65 rfl ?_
      exact zV_ireturn dX0_barBy_67 rfl rfl rfl ⟨rfl, hP⟩
    · have hP := zif_n hP c
      refine zV_aload_n dX0_barBy_15 rfl ?_
      refine zV_sg dX0_barBy_16 fm_14_1 sa_14 (by decide) fl_X0_11_0 rfl ?_
      refine zV_iload dX0_barBy_19 rfl ?_
      obtain ⟨ob, hP⟩ := hP
      refine zV_aa dX0_barBy_21 sa_15 (by decide) ob ?_
      obtain ⟨ob, hP⟩ := hP
      refine zV_gD dX0_barBy_22 ob (by decide) fl_X0_511_4 rfl (ki := 2) rfl ?_
      refine zV_if_eq (tgt := 59) dX0_barBy_25 (by decide) (fun c => ?_) (fun c => ?_)
      · have hP := zif_p hP c
        exact W_C_barBy_J59 _ _ _ _ _ _ _ ih hP
      · have hP := zif_n hP c
        refine zV_aload_n dX0_barBy_28 rfl ?_
        refine zV_iload dX0_barBy_29 rfl ?_
        refine zV_inc (ls' := fun z => [zR 14, zR y1, zR y2, zU, zI z, zI y5]) dX0_barBy_31 (Nat.le_of_ble_eq_true rfl) rfl rfl (fun _ => rfl) (fun x4_2 e_x4_2 => ?_)
        have hP := hP x4_2 e_x4_2
        refine zV_aload_n dX0_barBy_34 rfl ?_
        obtain ⟨ob, hP⟩ := hP
        refine zV_gD dX0_barBy_35 ob (by decide) fl_X0_366_1 rfl (ki := 56) rfl ?_
        refine zV_iload dX0_barBy_38 rfl ?_
        refine zV_iconst dX0_barBy_40 ⟨by decide, by decide⟩ ?_
        refine zV_iadd dX0_barBy_41 ?_
        obtain ⟨ob, hP⟩ := hP
        refine zV_iaD dX0_barBy_42 ob ?_
        have K : zV true zy_X0_barBy 1 58 [zR 14, zR y1, zR y2, zU, zI x4_2, zI y5] [zI (if zd h (zd h y1 56) (w32 (y5 + 1)) ≤ 0 then w32 (y5 + 1) else w32 (-(w32 (y5 + 1)))), zI y4, zR y2] h (zQ0 Q) := by
          exact W_C_barBy_J58 _ _ _ _ _ _ _ _ _ _ ih hP
        clear hP
        refine zV_if_le (tgt := 54) dX0_barBy_43 (by decide) (fun c => ?_) (fun c => ?_)
        · try simp only [if_pos c] at K
          refine zV_iload dX0_barBy_54 rfl ?_
          refine zV_iconst dX0_barBy_56 ⟨by decide, by decide⟩ ?_
          refine zV_iadd dX0_barBy_57 ?_
          refine zV_mask [true, true, true, false, true, true] rfl ?_
          exact K
        · try simp only [if_neg c] at K
          refine zV_iload dX0_barBy_46 rfl ?_
          refine zV_iconst dX0_barBy_48 ⟨by decide, by decide⟩ ?_
          refine zV_iadd dX0_barBy_49 ?_
          refine zV_ineg dX0_barBy_50 ?_
          refine zV_goto (tgt := 58) dX0_barBy_51 (by decide) ?_
          refine zV_mask [true, true, true, false, true, true] rfl ?_
          exact K
def P_C_barBy (a1 : Int) (a2 : Int) (a3 : Int) (h : zH) (Q : Int → zH → Prop) : Prop :=
∃ n6, P_C_barBy_L6 a1 a2 Q n6 a3 0 h
theorem W_C_barBy (a1 : Int) (a2 : Int) (a3 : Int) (h : zH) (Q : Int → zH → Prop) (hP : P_C_barBy a1 a2 a3 h Q) : zC true zy_X0_barBy 1 [zR 14, zR a1, zR a2, zI a3] h (zQ0 Q) := by
  unfold P_C_barBy at hP
  refine zC.of (by decide) (Nat.le_of_ble_eq_true rfl) ?_
  show zV true zy_X0_barBy 1 0 [zR 14, zR a1, zR a2, zI a3, zU, zU] [] h (zQ0 Q)
  refine zV_iload_n dX0_barBy_0 rfl ?_
  refine zV_istore (ls' := [zR 14, zR a1, zR a2, zI a3, zI a3, zU]) dX0_barBy_1 (Nat.le_of_ble_eq_true rfl) rfl rfl ?_
  refine zV_iconst dX0_barBy_3 ⟨by decide, by decide⟩ ?_
  refine zV_istore (ls' := [zR 14, zR a1, zR a2, zI a3, zI a3, zI 0]) dX0_barBy_4 (Nat.le_of_ble_eq_true rfl) rfl rfl ?_
  obtain ⟨n6, hP⟩ := hP
  refine zV_mask [true, true, true, false, true, true] (ls' := [zR 14, zR a1, zR a2, zU, zI a3, zI 0]) rfl ?_
  refine W_C_barBy_L6 _ _ _ n6 _ _ _ hP
def P_C_next_L43 (y1 : Int) (Q : Int → zH → Prop) (k87 : zH → Prop) : Nat → Int → zH → Prop
| 0, _, _ => False
| n43 + 1, y2, h =>
if zd h 14 33 ≤ y2 then
(k87 h)
else
((0 ≤ y2 ∧ y2 < 65) ∧
(0 ≤ w32 (y2 + 1) ∧ w32 (y2 + 1) < 65) ∧
P_E_lay 25 (w32 (500 + y2)) 94 (zd h 95 y2) (zd h 95 (w32 (y2 + 1))) h (fun r5 h6 =>
∀ x2_7 : Int, x2_7 = w32 (y2 + 1) →
P_C_next_L43 y1 Q k87 n43 x2_7 h6))
theorem W_C_next_L43 (y1 : Int) (Q : Int → zH → Prop) (k87 : zH → Prop) (H87 : ∀ (h' : zH), k87 h' → zV true zy_X0_next 9 87 [zR 14, zI y1, zU] [] h' (zQ0 Q)) : ∀ (n43 : Nat) (y2 : Int) (h : zH), P_C_next_L43 y1 Q k87 n43 y2 h → zV true zy_X0_next 9 43 [zR 14, zI y1, zI y2] [] h (zQ0 Q) := by
  intro n43
  induction n43 with
  | zero => intro y2 h hP; exact absurd hP id
  | succ n43 ih =>
    intro y2 h hP
    unfold P_C_next_L43 at hP
    refine zV_iload_n dX0_next_43 rfl ?_
    refine zV_aload_n dX0_next_44 rfl ?_
    refine zV_gf dX0_next_45 sa_14 (by decide) fl_X0_428_0 rfl (ki := 33) rfl ?_
    refine zV_icmp_ge (tgt := 87) dX0_next_48 (by decide) (fun c => ?_) (fun c => ?_)
    · have hP := zif_p hP c
      refine zV_mask [true, true, false] (ls' := [zR 14, zI y1, zU]) rfl ?_
      exact H87 _ hP
    · have hP := zif_n hP c
      refine zV_aload_n dX0_next_51 rfl ?_
      refine zV_sg dX0_next_52 fm_14_21 sa_14 (by decide) fl_X0_54_0 rfl ?_
      refine zV_sipush dX0_next_55 ⟨by decide, by decide, by decide⟩ ?_
      refine zV_iload_n dX0_next_58 rfl ?_
      refine zV_iadd dX0_next_59 ?_
      refine zV_aload_n dX0_next_60 rfl ?_
      refine zV_sg dX0_next_61 fm_14_31 sa_14 (by decide) fl_X0_71_0 rfl ?_
      refine zV_aload_n dX0_next_64 rfl ?_
      refine zV_sg dX0_next_65 fm_14_32 sa_14 (by decide) fl_X0_74_0 rfl ?_
      refine zV_iload_n dX0_next_68 rfl ?_
      obtain ⟨ob, hP⟩ := hP
      refine zV_ia dX0_next_69 sa_95 ob ?_
      refine zV_aload_n dX0_next_70 rfl ?_
      refine zV_sg dX0_next_71 fm_14_32 sa_14 (by decide) fl_X0_74_0 rfl ?_
      refine zV_iload_n dX0_next_74 rfl ?_
      refine zV_iconst dX0_next_75 ⟨by decide, by decide⟩ ?_
      refine zV_iadd dX0_next_76 ?_
      obtain ⟨ob, hP⟩ := hP
      refine zV_ia dX0_next_77 sa_95 ob ?_
      refine zV_cVv (As := [zI (w32 (500 + y2)), zR 94, zI (zd h 95 y2), zI (zd h 95 (w32 (y2 + 1)))]) (rest := []) dX0_next_78 sa_25 (W_E_lay 25 (Or.inl rfl) _ _ _ _ _ _ hP) mi_X1_lay ml_X0_505 (by decide) (Nat.le_of_ble_eq_true rfl) rfl rfl (fun r5 h6 hP => ?_)
      refine zV_inc (ls' := fun z => [zR 14, zI y1, zI z]) dX0_next_81 (Nat.le_of_ble_eq_true rfl) rfl rfl (fun _ => rfl) (fun x2_7 e_x2_7 => ?_)
      have hP := hP x2_7 e_x2_7
      refine zV_goto (tgt := 43) dX0_next_84 (by decide) ?_
      exact ih _ _ hP
def P_C_next (a1 : Int) (h : zH) (Q : Int → zH → Prop) : Prop :=
P_C_isIn a1 1 5000 h (fun r1 h2 =>
if r1 = 0 then
(P_C_refused (-1001) h2 (fun r19 h20 =>
Q r19 h20))
else
(if zd h2 14 33 = 64 then
(P_C_refused (-1003) h2 (fun r17 h18 =>
Q r17 h18))
else
(P_C_beginMain h2 (fun r3 h4 =>
∃ n43, P_C_next_L43 a1 Q (fun h8 =>
∀ h9 : zH, h9 = zw h8 14 28 0 →
∀ h10 : zH, h10 = zw h9 14 29 1 →
P_C_searched a1 h10 (fun r11 h12 =>
if r11 = 1 then
((0 ≤ zd h12 14 33 ∧ zd h12 14 33 < 65) ∧
P_C_barBy 25 94 (zd h12 95 (zd h12 14 33)) h12 (fun r13 h14 =>
(0 ≤ w32 ((zd h12 14 33) + 1) ∧ w32 ((zd h12 14 33) + 1) < 65) ∧
∀ h15 : zH, h15 = zw h14 95 (w32 ((zd h12 14 33) + 1)) r13 →
∀ h16 : zH, h16 = zw h15 14 33 (w32 ((zd h15 14 33) + 1)) →
Q r11 h16))
else
(Q r11 h12))) n43 0 h4))))
theorem W_C_next (a1 : Int) (h : zH) (Q : Int → zH → Prop) (hP : P_C_next a1 h Q) : zC true zy_X0_next 9 [zR 14, zI a1] h (zQ0 Q) := by
  unfold P_C_next at hP
  refine zC.of (by decide) (Nat.le_of_ble_eq_true rfl) ?_
  show zV true zy_X0_next 9 0 [zR 14, zI a1, zU] [] h (zQ0 Q)
  refine zV_iload_n dX0_next_0 rfl ?_
  refine zV_i2l dX0_next_1 ?_
  refine zV_lconst (x := 1) dX0_next_2 rfl ?_
  refine zV_ldc2c (x := 5000) dX0_next_3 (by decide) q1520 ⟨by decide, by decide⟩ ?_
  refine zV_cSk (As := [zJ a1, zJ 1, zJ 5000]) (rest := []) dX0_next_6 (W_C_isIn _ _ _ _ _ hP) mi_X0_isIn ml_X0_109 (by decide) (Nat.le_of_ble_eq_true rfl) rfl rfl rfl (fun r1 h2 hP => ?_)
  refine zV_if_ne (tgt := 20) dX0_next_9 (by decide) (fun c => ?_) (fun c => ?_)
  · have hP := zif_n hP c
    refine zV_aload_n dX0_next_20 rfl ?_
    refine zV_gf dX0_next_21 sa_14 (by decide) fl_X0_428_0 rfl (ki := 33) rfl ?_
    refine zV_bipush dX0_next_24 ⟨by decide, by decide, by decide⟩ ?_
    refine zV_icmp_ne (tgt := 37) dX0_next_26 (by decide) (fun c => ?_) (fun c => ?_)
    · have hP := zif_n hP c
      refine zV_aload_n dX0_next_37 rfl ?_
      refine zV_cVv (As := []) (rest := []) dX0_next_38 sa_14 (W_C_beginMain _ _ hP) mi_X0_beginMain ml_X0_371 (by decide) (Nat.le_of_ble_eq_true rfl) rfl rfl (fun r3 h4 hP => ?_)
      refine zV_iconst dX0_next_41 ⟨by decide, by decide⟩ ?_
      refine zV_istore_n (ls' := [zR 14, zI a1, zI 0]) dX0_next_42 rfl (Nat.le_of_ble_eq_true rfl) rfl rfl ?_
      obtain ⟨n43, hP⟩ := hP
      refine W_C_next_L43 _ _ _ (fun h8 hP => ?_) n43 _ _ hP
      refine zV_aload_n dX0_next_87 rfl ?_
      refine zV_iconst dX0_next_88 ⟨by decide, by decide⟩ ?_
      refine zV_pf dX0_next_89 sa_14 (by decide) fl_X0_382_0 rfl rfl z0 (ki := 28) rfl (fun h9 e_h9 => ?_)
      have hP := hP h9 e_h9
      refine zV_aload_n dX0_next_92 rfl ?_
      refine zV_iconst dX0_next_93 ⟨by decide, by decide⟩ ?_
      refine zV_pf dX0_next_94 sa_14 (by decide) fl_X0_374_0 rfl rfl z1 (ki := 29) rfl (fun h10 e_h10 => ?_)
      have hP := hP h10 e_h10
      refine zV_aload_n dX0_next_97 rfl ?_
      refine zV_iload_n dX0_next_98 rfl ?_
      refine zV_cVk (As := [zI a1]) (rest := []) dX0_next_99 sa_14 (W_C_searched _ _ _ hP) mi_X0_searched ml_X0_379 (by decide) (Nat.le_of_ble_eq_true rfl) rfl rfl rfl (fun r11 h12 hP => ?_)
      refine zV_istore_n (ls' := [zR 14, zI a1, zI r11]) dX0_next_102 rfl (Nat.le_of_ble_eq_true rfl) rfl rfl ?_
      refine zV_iload_n dX0_next_103 rfl ?_
      refine zV_iconst dX0_next_104 ⟨by decide, by decide⟩ ?_
      refine zV_icmp_ne (tgt := 150) dX0_next_105 (by decide) (fun c => ?_) (fun c => ?_)
      · have hP := zif_n hP c
        refine zV_iload_n dX0_next_150 rfl ?_
        exact zV_ireturn dX0_next_151 rfl rfl rfl ⟨rfl, hP⟩
      · have hP := zif_p hP c
        refine zV_aload_n dX0_next_108 rfl ?_
        refine zV_sg dX0_next_109 fm_14_32 sa_14 (by decide) fl_X0_74_0 rfl ?_
        refine zV_aload_n dX0_next_112 rfl ?_
        refine zV_gf dX0_next_113 sa_14 (by decide) fl_X0_428_0 rfl (ki := 33) rfl ?_
        refine zV_iconst dX0_next_116 ⟨by decide, by decide⟩ ?_
        refine zV_iadd dX0_next_117 ?_
        refine zV_aload_n dX0_next_118 rfl ?_
        refine zV_aload_n dX0_next_119 rfl ?_
        refine zV_sg dX0_next_120 fm_14_21 sa_14 (by decide) fl_X0_54_0 rfl ?_
        refine zV_aload_n dX0_next_123 rfl ?_
        refine zV_sg dX0_next_124 fm_14_31 sa_14 (by decide) fl_X0_71_0 rfl ?_
        refine zV_aload_n dX0_next_127 rfl ?_
        refine zV_sg dX0_next_128 fm_14_32 sa_14 (by decide) fl_X0_74_0 rfl ?_
        refine zV_aload_n dX0_next_131 rfl ?_
        refine zV_gf dX0_next_132 sa_14 (by decide) fl_X0_428_0 rfl (ki := 33) rfl ?_
        obtain ⟨ob, hP⟩ := hP
        refine zV_ia dX0_next_135 sa_95 ob ?_
        refine zV_cVk (As := [zR 25, zR 94, zI (zd h12 95 (zd h12 14 33))]) (rest := [zI (w32 ((zd h12 14 33) + 1)), zR 95]) dX0_next_136 sa_14 (W_C_barBy _ _ _ _ _ hP) mi_X0_barBy ml_X0_517 (by decide) (Nat.le_of_ble_eq_true rfl) rfl rfl rfl (fun r13 h14 hP => ?_)
        obtain ⟨ob, hP⟩ := hP
        refine zV_ias dX0_next_139 sa_95 ob (fun h15 e_h15 => ?_)
        have hP := hP h15 e_h15
        refine zV_aload_n dX0_next_140 rfl ?_
        refine zV_dup dX0_next_141 (Nat.ne_of_beq_eq_false rfl) ?_
        refine zV_gf dX0_next_142 sa_14 (by decide) fl_X0_428_0 rfl (ki := 33) rfl ?_
        refine zV_iconst dX0_next_145 ⟨by decide, by decide⟩ ?_
        refine zV_iadd dX0_next_146 ?_
        refine zV_pf dX0_next_147 sa_14 (by decide) fl_X0_428_0 rfl rfl trivial (ki := 33) rfl (fun h16 e_h16 => ?_)
        have hP := hP h16 e_h16
        refine zV_iload_n dX0_next_150 rfl ?_
        exact zV_ireturn dX0_next_151 rfl rfl rfl ⟨rfl, hP⟩
    · have hP := zif_p hP c
      refine zV_aload_n dX0_next_29 rfl ?_
      refine zV_sipush dX0_next_30 ⟨by decide, by decide, by decide⟩ ?_
      refine zV_cVk (As := [zI (-1003)]) (rest := []) dX0_next_33 sa_14 (W_C_refused _ _ _ hP) mi_X0_refused ml_X0_124 (by decide) (Nat.le_of_ble_eq_true rfl) rfl rfl rfl (fun r17 h18 hP => ?_)
      exact zV_ireturn dX0_next_36 rfl rfl rfl ⟨rfl, hP⟩
  · have hP := zif_p hP c
    refine zV_aload_n dX0_next_12 rfl ?_
    refine zV_sipush dX0_next_13 ⟨by decide, by decide, by decide⟩ ?_
    refine zV_cVk (As := [zI (-1001)]) (rest := []) dX0_next_16 sa_14 (W_C_refused _ _ _ hP) mi_X0_refused ml_X0_124 (by decide) (Nat.le_of_ble_eq_true rfl) rfl rfl rfl (fun r19 h20 hP => ?_)
    exact zV_ireturn dX0_next_19 rfl rfl rfl ⟨rfl, hP⟩
def P_C_unbar (h : zH) (Q : Int → zH → Prop) : Prop :=
∀ x1_1 : Int, x1_1 = (zd h 14 33) →
∀ h2 : zH, h2 = zw h 14 33 0 →
Q x1_1 h2
theorem W_C_unbar (h : zH) (Q : Int → zH → Prop) (hP : P_C_unbar  h Q) : zC true zy_X0_unbar 1 [zR 14] h (zQ0 Q) := by
  unfold P_C_unbar at hP
  refine zC.of (by decide) (Nat.le_of_ble_eq_true rfl) ?_
  show zV true zy_X0_unbar 1 0 [zR 14, zU] [] h (zQ0 Q)
  refine zV_aload_n dX0_unbar_0 rfl ?_
  refine zV_gf dX0_unbar_1 sa_14 (by decide) fl_X0_428_0 rfl (ki := 33) rfl ?_
  refine zV_top (fun x1_1 e_x1_1 => ?_)
  have hP := hP x1_1 e_x1_1
  refine zV_istore_n (ls' := [zR 14, zI x1_1]) dX0_unbar_4 rfl (Nat.le_of_ble_eq_true rfl) rfl rfl ?_
  refine zV_aload_n dX0_unbar_5 rfl ?_
  refine zV_iconst dX0_unbar_6 ⟨by decide, by decide⟩ ?_
  refine zV_pf dX0_unbar_7 sa_14 (by decide) fl_X0_428_0 rfl rfl trivial (ki := 33) rfl (fun h2 e_h2 => ?_)
  have hP := hP h2 e_h2
  refine zV_iload_n dX0_unbar_10 rfl ?_
  exact zV_ireturn dX0_unbar_11 rfl rfl rfl ⟨rfl, hP⟩
def P_C_count_L61 (y1 : Int) (y3 : Int) (y4 : Int) (Q : Int → zH → Prop) (k107 : zH → Prop) : Nat → Int → zH → Prop
| 0, _, _ => False
| n61 + 1, y5, h =>
if y4 ≤ y5 then
(k107 h)
else
((0 ≤ y5 ∧ y5 < 65) ∧
(0 ≤ w32 (y5 + 1) ∧ w32 (y5 + 1) < 65) ∧
P_E_lay 58 (w32 (500 + y5)) 99 (zd h 100 y5) (zd h 100 (w32 (y5 + 1))) h (fun r11 h12 =>
∀ x5_13 : Int, x5_13 = w32 (y5 + 1) →
P_C_count_L61 y1 y3 y4 Q k107 n61 x5_13 h12))
theorem W_C_count_L61 (y1 : Int) (y3 : Int) (y4 : Int) (Q : Int → zH → Prop) (k107 : zH → Prop) (H107 : ∀ (h' : zH), k107 h' → zV true zy_X0_count 8 107 [zR 14, zI y1, zU, zI y3, zI y4, zU] [] h' (zQ0 Q)) : ∀ (n61 : Nat) (y5 : Int) (h : zH), P_C_count_L61 y1 y3 y4 Q k107 n61 y5 h → zV true zy_X0_count 8 61 [zR 14, zI y1, zU, zI y3, zI y4, zI y5] [] h (zQ0 Q) := by
  intro n61
  induction n61 with
  | zero => intro y5 h hP; exact absurd hP id
  | succ n61 ih =>
    intro y5 h hP
    unfold P_C_count_L61 at hP
    refine zV_iload dX0_count_61 rfl ?_
    refine zV_iload dX0_count_63 rfl ?_
    refine zV_icmp_ge (tgt := 107) dX0_count_65 (by decide) (fun c => ?_) (fun c => ?_)
    · have hP := zif_p hP c
      refine zV_mask [true, true, true, true, true, false] (ls' := [zR 14, zI y1, zU, zI y3, zI y4, zU]) rfl ?_
      exact H107 _ hP
    · have hP := zif_n hP c
      refine zV_aload_n dX0_count_68 rfl ?_
      refine zV_sg dX0_count_69 fm_14_22 sa_14 (by decide) fl_X0_58_0 rfl ?_
      refine zV_sipush dX0_count_72 ⟨by decide, by decide, by decide⟩ ?_
      refine zV_iload dX0_count_75 rfl ?_
      refine zV_iadd dX0_count_77 ?_
      refine zV_aload_n dX0_count_78 rfl ?_
      refine zV_sg dX0_count_79 fm_14_39 sa_14 (by decide) fl_X0_91_0 rfl ?_
      refine zV_aload_n dX0_count_82 rfl ?_
      refine zV_sg dX0_count_83 fm_14_40 sa_14 (by decide) fl_X0_94_0 rfl ?_
      refine zV_iload dX0_count_86 rfl ?_
      obtain ⟨ob, hP⟩ := hP
      refine zV_ia dX0_count_88 sa_100 ob ?_
      refine zV_aload_n dX0_count_89 rfl ?_
      refine zV_sg dX0_count_90 fm_14_40 sa_14 (by decide) fl_X0_94_0 rfl ?_
      refine zV_iload dX0_count_93 rfl ?_
      refine zV_iconst dX0_count_95 ⟨by decide, by decide⟩ ?_
      refine zV_iadd dX0_count_96 ?_
      obtain ⟨ob, hP⟩ := hP
      refine zV_ia dX0_count_97 sa_100 ob ?_
      refine zV_cVv (As := [zI (w32 (500 + y5)), zR 99, zI (zd h 100 y5), zI (zd h 100 (w32 (y5 + 1)))]) (rest := []) dX0_count_98 sa_58 (W_E_lay 58 (Or.inr rfl) _ _ _ _ _ _ hP) mi_X1_lay ml_X0_505 (by decide) (Nat.le_of_ble_eq_true rfl) rfl rfl (fun r11 h12 hP => ?_)
      refine zV_inc (ls' := fun z => [zR 14, zI y1, zU, zI y3, zI y4, zI z]) dX0_count_101 (Nat.le_of_ble_eq_true rfl) rfl rfl (fun _ => rfl) (fun x5_13 e_x5_13 => ?_)
      have hP := hP x5_13 e_x5_13
      refine zV_goto (tgt := 61) dX0_count_104 (by decide) ?_
      exact ih _ _ hP
def P_C_count_L37 (y1 : Int) (Q : Int → zH → Prop) (k131 : Int → Int → zH → Prop) : Nat → Int → Int → zH → Prop
| 0, _, _, _ => False
| n37 + 1, y3, y4, h =>
if y1 ≤ y4 then
(Q y1 h)
else
(P_E_clear 58 h (fun r7 h8 =>
P_E_layCase 58 0 h8 (fun r9 h10 =>
∃ n61, P_C_count_L61 y1 y3 y4 Q (fun h14 =>
P_E_search 58 y3 h14 (fun r15 h16 =>
∀ x3_17 : Int, x3_17 = (zd h16 58 31) →
if r15 = 1 then
((0 ≤ y4 ∧ y4 < 65) ∧
P_C_barBy 58 99 (zd h16 100 y4) h16 (fun r18 h19 =>
(0 ≤ w32 (y4 + 1) ∧ w32 (y4 + 1) < 65) ∧
∀ h20 : zH, h20 = zw h19 100 (w32 (y4 + 1)) r18 →
∀ x4_21 : Int, x4_21 = w32 (y4 + 1) →
P_C_count_L37 y1 Q k131 n37 x3_17 x4_21 h20))
else
(k131 y4 r15 h16))) n61 0 h10)))
theorem W_C_count_L37 (y1 : Int) (Q : Int → zH → Prop) (k131 : Int → Int → zH → Prop) (H131 : ∀ (v4 v5 : Int) (h' : zH), k131 v4 v5 h' → zV true zy_X0_count 8 131 [zU, zU, zU, zU, zI v4, zI v5] [] h' (zQ0 Q)) : ∀ (n37 : Nat) (y3 y4 : Int) (h : zH), P_C_count_L37 y1 Q k131 n37 y3 y4 h → zV true zy_X0_count 8 37 [zR 14, zI y1, zU, zI y3, zI y4, zU] [] h (zQ0 Q) := by
  intro n37
  induction n37 with
  | zero => intro y3 y4 h hP; exact absurd hP id
  | succ n37 ih =>
    intro y3 y4 h hP
    unfold P_C_count_L37 at hP
    refine zV_iload dX0_count_37 rfl ?_
    refine zV_iload_n dX0_count_39 rfl ?_
    refine zV_icmp_ge (tgt := 178) dX0_count_40 (by decide) (fun c => ?_) (fun c => ?_)
    · have hP := zif_p hP c
      refine zV_iload_n dX0_count_178 rfl ?_
      exact zV_ireturn dX0_count_179 rfl rfl rfl ⟨rfl, hP⟩
    · have hP := zif_n hP c
      refine zV_aload_n dX0_count_43 rfl ?_
      refine zV_sg dX0_count_44 fm_14_22 sa_14 (by decide) fl_X0_58_0 rfl ?_
      refine zV_cVv (As := []) (rest := []) dX0_count_47 sa_58 (W_E_clear 58 (Or.inr rfl) _ _ hP) mi_X1_clear ml_X0_352 (by decide) (Nat.le_of_ble_eq_true rfl) rfl rfl (fun r7 h8 hP => ?_)
      refine zV_aload_n dX0_count_50 rfl ?_
      refine zV_sg dX0_count_51 fm_14_22 sa_14 (by decide) fl_X0_58_0 rfl ?_
      refine zV_null dX0_count_54 ?_
      refine zV_cVv (As := [zR 0]) (rest := []) dX0_count_55 sa_58 (W_E_layCase 58 (Or.inr rfl) _ _ _ hP) mi_X1_layCase ml_X0_355 (by decide) (Nat.le_of_ble_eq_true rfl) rfl rfl (fun r9 h10 hP => ?_)
      refine zV_iconst dX0_count_58 ⟨by decide, by decide⟩ ?_
      refine zV_istore (ls' := [zR 14, zI y1, zU, zI y3, zI y4, zI 0]) dX0_count_59 (Nat.le_of_ble_eq_true rfl) rfl rfl ?_
      obtain ⟨n61, hP⟩ := hP
      refine W_C_count_L61 _ _ _ _ _ (fun h14 hP => ?_) n61 _ _ hP
      refine zV_aload_n dX0_count_107 rfl ?_
      refine zV_sg dX0_count_108 fm_14_22 sa_14 (by decide) fl_X0_58_0 rfl ?_
      refine zV_iload_n dX0_count_111 rfl ?_
      refine zV_cVk (As := [zI y3]) (rest := []) dX0_count_112 sa_58 (W_E_search 58 (Or.inr rfl) _ _ _ hP) mi_X1_search ml_X0_360 (by decide) (Nat.le_of_ble_eq_true rfl) rfl rfl rfl (fun r15 h16 hP => ?_)
      refine zV_istore (ls' := [zR 14, zI y1, zU, zI y3, zI y4, zI r15]) dX0_count_115 (Nat.le_of_ble_eq_true rfl) rfl rfl ?_
      refine zV_aload_n dX0_count_117 rfl ?_
      refine zV_sg dX0_count_118 fm_14_22 sa_14 (by decide) fl_X0_58_0 rfl ?_
      refine zV_gf dX0_count_121 sa_58 (by decide) fl_X0_467_1 rfl (ki := 31) rfl ?_
      refine zV_top (fun x3_17 e_x3_17 => ?_)
      have hP := hP x3_17 e_x3_17
      refine zV_istore_n (ls' := [zR 14, zI y1, zU, zI x3_17, zI y4, zI r15]) dX0_count_124 rfl (Nat.le_of_ble_eq_true rfl) rfl rfl ?_
      refine zV_iload dX0_count_125 rfl ?_
      refine zV_iconst dX0_count_127 ⟨by decide, by decide⟩ ?_
      refine zV_icmp_eq (tgt := 144) dX0_count_128 (by decide) (fun c => ?_) (fun c => ?_)
      · have hP := zif_p hP c
        refine zV_aload_n dX0_count_144 rfl ?_
        refine zV_sg dX0_count_145 fm_14_40 sa_14 (by decide) fl_X0_94_0 rfl ?_
        refine zV_iload dX0_count_148 rfl ?_
        refine zV_iconst dX0_count_150 ⟨by decide, by decide⟩ ?_
        refine zV_iadd dX0_count_151 ?_
        refine zV_aload_n dX0_count_152 rfl ?_
        refine zV_aload_n dX0_count_153 rfl ?_
        refine zV_sg dX0_count_154 fm_14_22 sa_14 (by decide) fl_X0_58_0 rfl ?_
        refine zV_aload_n dX0_count_157 rfl ?_
        refine zV_sg dX0_count_158 fm_14_39 sa_14 (by decide) fl_X0_91_0 rfl ?_
        refine zV_aload_n dX0_count_161 rfl ?_
        refine zV_sg dX0_count_162 fm_14_40 sa_14 (by decide) fl_X0_94_0 rfl ?_
        refine zV_iload dX0_count_165 rfl ?_
        obtain ⟨ob, hP⟩ := hP
        refine zV_ia dX0_count_167 sa_100 ob ?_
        refine zV_cVk (As := [zR 58, zR 99, zI (zd h16 100 y4)]) (rest := [zI (w32 (y4 + 1)), zR 100]) dX0_count_168 sa_14 (W_C_barBy _ _ _ _ _ hP) mi_X0_barBy ml_X0_517 (by decide) (Nat.le_of_ble_eq_true rfl) rfl rfl rfl (fun r18 h19 hP => ?_)
        obtain ⟨ob, hP⟩ := hP
        refine zV_ias dX0_count_171 sa_100 ob (fun h20 e_h20 => ?_)
        have hP := hP h20 e_h20
        refine zV_inc (ls' := fun z => [zR 14, zI y1, zU, zI x3_17, zI z, zI r15]) dX0_count_172 (Nat.le_of_ble_eq_true rfl) rfl rfl (fun _ => rfl) (fun x4_21 e_x4_21 => ?_)
        have hP := hP x4_21 e_x4_21
        refine zV_goto (tgt := 37) dX0_count_175 (by decide) ?_
        refine zV_mask [true, true, true, true, true, false] (ls' := [zR 14, zI y1, zU, zI x3_17, zI x4_21, zU]) rfl ?_
        exact ih _ _ _ hP
      · have hP := zif_n hP c
        refine zV_mask [false, false, true, false, true, true] (ls' := [zU, zU, zU, zU, zI y4, zI r15]) rfl ?_
        exact H131 _ _ _ hP
def P_C_count (a1 : Int) (a2 : Int) (h : zH) (Q : Int → zH → Prop) : Prop :=
P_C_isIn a1 1 64 h (fun r1 h2 =>
if r1 = 0 then
(P_C_refused (-1001) h2 (fun r3 h4 =>
Q r3 h4))
else
(P_C_isIn a2 1 5000 h2 (fun r5 h6 =>
if r5 = 0 then
(P_C_refused (-1001) h6 (fun r23 h24 =>
Q r23 h24))
else
(∃ n37, P_C_count_L37 a1 Q (fun u4_131 u5_131 h22 =>
Q (if u5_131 = 0 then u4_131 else u5_131) h22) n37 a2 0 h6))))
theorem W_C_count (a1 : Int) (a2 : Int) (h : zH) (Q : Int → zH → Prop) (hP : P_C_count a1 a2 h Q) : zC true zy_X0_count 8 [zR 14, zI a1, zI a2] h (zQ0 Q) := by
  unfold P_C_count at hP
  refine zC.of (by decide) (Nat.le_of_ble_eq_true rfl) ?_
  show zV true zy_X0_count 8 0 [zR 14, zI a1, zI a2, zU, zU, zU] [] h (zQ0 Q)
  refine zV_iload_n dX0_count_0 rfl ?_
  refine zV_i2l dX0_count_1 ?_
  refine zV_lconst (x := 1) dX0_count_2 rfl ?_
  refine zV_ldc2c (x := 64) dX0_count_3 (by decide) q1831 ⟨by decide, by decide⟩ ?_
  refine zV_cSk (As := [zJ a1, zJ 1, zJ 64]) (rest := []) dX0_count_6 (W_C_isIn _ _ _ _ _ hP) mi_X0_isIn ml_X0_109 (by decide) (Nat.le_of_ble_eq_true rfl) rfl rfl rfl (fun r1 h2 hP => ?_)
  refine zV_if_eq (tgt := 24) dX0_count_9 (by decide) (fun c => ?_) (fun c => ?_)
  · have hP := zif_p hP c
    refine zV_aload_n dX0_count_24 rfl ?_
    refine zV_sipush dX0_count_25 ⟨by decide, by decide, by decide⟩ ?_
    refine zV_cVk (As := [zI (-1001)]) (rest := []) dX0_count_28 sa_14 (W_C_refused _ _ _ hP) mi_X0_refused ml_X0_124 (by decide) (Nat.le_of_ble_eq_true rfl) rfl rfl rfl (fun r3 h4 hP => ?_)
    exact zV_ireturn dX0_count_31 rfl rfl rfl ⟨rfl, hP⟩
  · have hP := zif_n hP c
    refine zV_iload_n dX0_count_12 rfl ?_
    refine zV_i2l dX0_count_13 ?_
    refine zV_lconst (x := 1) dX0_count_14 rfl ?_
    refine zV_ldc2c (x := 5000) dX0_count_15 (by decide) q1520 ⟨by decide, by decide⟩ ?_
    refine zV_cSk (As := [zJ a2, zJ 1, zJ 5000]) (rest := []) dX0_count_18 (W_C_isIn _ _ _ _ _ hP) mi_X0_isIn ml_X0_109 (by decide) (Nat.le_of_ble_eq_true rfl) rfl rfl rfl (fun r5 h6 hP => ?_)
    refine zV_if_ne (tgt := 32) dX0_count_21 (by decide) (fun c => ?_) (fun c => ?_)
    · have hP := zif_n hP c
      refine zV_iload_n dX0_count_32 rfl ?_
      refine zV_istore_n (ls' := [zR 14, zI a1, zI a2, zI a2, zU, zU]) dX0_count_33 rfl (Nat.le_of_ble_eq_true rfl) rfl rfl ?_
      refine zV_iconst dX0_count_34 ⟨by decide, by decide⟩ ?_
      refine zV_istore (ls' := [zR 14, zI a1, zI a2, zI a2, zI 0, zU]) dX0_count_35 (Nat.le_of_ble_eq_true rfl) rfl rfl ?_
      obtain ⟨n37, hP⟩ := hP
      refine zV_mask [true, true, false, true, true, true] (ls' := [zR 14, zI a1, zU, zI a2, zI 0, zU]) rfl ?_
      refine W_C_count_L37 _ _ _ (fun u4_131 u5_131 h22 hP => ?_) n37 _ _ _ hP
      refine zV_iload dX0_count_131 rfl ?_
      have K : zV true zy_X0_count 8 143 [zU, zU, zU, zU, zU, zU] [zI (if u5_131 = 0 then u4_131 else u5_131)] h22 (zQ0 Q) := by
        exact zV_ireturn dX0_count_143 rfl rfl rfl ⟨rfl, hP⟩
      clear hP
      refine zV_if_ne (tgt := 141) dX0_count_133 (by decide) (fun c => ?_) (fun c => ?_)
      · try simp only [if_neg c] at K
        refine zV_iload dX0_count_141 rfl ?_
        refine zV_mask [false, false, false, false, false, false] rfl ?_
        exact K
      · try simp only [if_pos c] at K
        refine zV_iload dX0_count_136 rfl ?_
        refine zV_goto (tgt := 143) dX0_count_138 (by decide) ?_
        refine zV_mask [false, false, false, false, false, false] rfl ?_
        exact K
    · have hP := zif_p hP c
      refine zV_aload_n dX0_count_24 rfl ?_
      refine zV_sipush dX0_count_25 ⟨by decide, by decide, by decide⟩ ?_
      refine zV_cVk (As := [zI (-1001)]) (rest := []) dX0_count_28 sa_14 (W_C_refused _ _ _ hP) mi_X0_refused ml_X0_124 (by decide) (Nat.le_of_ble_eq_true rfl) rfl rfl rfl (fun r23 h24 hP => ?_)
      exact zV_ireturn dX0_count_31 rfl rfl rfl ⟨rfl, hP⟩
def P_C_forcing (h : zH) (Q : Int → zH → Prop) : Prop :=
P_E_clear 58 h (fun r1 h2 =>
P_E_layCase 58 0 h2 (fun r3 h4 =>
∀ h5 : zH, h5 = zw h4 58 31 1073741824 →
P_E_force 58 h5 (fun r6 h7 =>
Q r6 h7)))
theorem W_C_forcing (h : zH) (Q : Int → zH → Prop) (hP : P_C_forcing  h Q) : zC true zy_X0_forcing 5 [zR 14] h (zQ0 Q) := by
  unfold P_C_forcing at hP
  refine zC.of (by decide) (Nat.le_of_ble_eq_true rfl) ?_
  show zV true zy_X0_forcing 5 0 [zR 14] [] h (zQ0 Q)
  refine zV_aload_n dX0_forcing_0 rfl ?_
  refine zV_sg dX0_forcing_1 fm_14_22 sa_14 (by decide) fl_X0_58_0 rfl ?_
  refine zV_cVv (As := []) (rest := []) dX0_forcing_4 sa_58 (W_E_clear 58 (Or.inr rfl) _ _ hP) mi_X1_clear ml_X0_352 (by decide) (Nat.le_of_ble_eq_true rfl) rfl rfl (fun r1 h2 hP => ?_)
  refine zV_aload_n dX0_forcing_7 rfl ?_
  refine zV_sg dX0_forcing_8 fm_14_22 sa_14 (by decide) fl_X0_58_0 rfl ?_
  refine zV_null dX0_forcing_11 ?_
  refine zV_cVv (As := [zR 0]) (rest := []) dX0_forcing_12 sa_58 (W_E_layCase 58 (Or.inr rfl) _ _ _ hP) mi_X1_layCase ml_X0_355 (by decide) (Nat.le_of_ble_eq_true rfl) rfl rfl (fun r3 h4 hP => ?_)
  refine zV_aload_n dX0_forcing_15 rfl ?_
  refine zV_sg dX0_forcing_16 fm_14_22 sa_14 (by decide) fl_X0_58_0 rfl ?_
  refine zV_ldcwc (x := 1073741824) dX0_forcing_19 (by decide) q1793 ⟨by decide, by decide⟩ ?_
  refine zV_pf dX0_forcing_22 sa_58 (by decide) fl_X0_467_1 rfl rfl trivial (ki := 31) rfl (fun h5 e_h5 => ?_)
  have hP := hP h5 e_h5
  refine zV_aload_n dX0_forcing_25 rfl ?_
  refine zV_sg dX0_forcing_26 fm_14_22 sa_14 (by decide) fl_X0_58_0 rfl ?_
  refine zV_cVk (As := []) (rest := []) dX0_forcing_29 sa_58 (W_E_force 58 (Or.inr rfl) _ _ hP) mi_X1_force ml_X0_496 (by decide) (Nat.le_of_ble_eq_true rfl) rfl rfl rfl (fun r6 h7 hP => ?_)
  exact zV_ireturn dX0_forcing_32 rfl rfl rfl ⟨rfl, hP⟩
def P_C_forced (h : zH) (Q : Int → zH → Prop) : Prop :=
P_C_forcing h (fun r1 h2 =>
Q (if r1 = (-1005) then zd h2 58 20 else (-1005)) h2)
theorem W_C_forced (h : zH) (Q : Int → zH → Prop) (hP : P_C_forced  h Q) : zC true zy_X0_forced 6 [zR 14] h (zQ0 Q) := by
  unfold P_C_forced at hP
  refine zC.of (by decide) (Nat.le_of_ble_eq_true rfl) ?_
  show zV true zy_X0_forced 6 0 [zR 14] [] h (zQ0 Q)
  refine zV_aload_n dX0_forced_0 rfl ?_
  refine zV_cVk (As := []) (rest := []) dX0_forced_1 sa_14 (W_C_forcing _ _ hP) mi_X0_forcing ml_X0_523 (by decide) (Nat.le_of_ble_eq_true rfl) rfl rfl rfl (fun r1 h2 hP => ?_)
  refine zV_sipush dX0_forced_4 ⟨by decide, by decide, by decide⟩ ?_
  have K : zV true zy_X0_forced 6 23 [zU] [zI (if r1 = (-1005) then zd h2 58 20 else (-1005))] h2 (zQ0 Q) := by
    exact zV_ireturn dX0_forced_23 rfl rfl rfl ⟨rfl, hP⟩
  clear hP
  refine zV_icmp_ne (tgt := 20) dX0_forced_7 (by decide) (fun c => ?_) (fun c => ?_)
  · try simp only [if_neg c] at K
    refine zV_sipush dX0_forced_20 ⟨by decide, by decide, by decide⟩ ?_
    refine zV_mask [false] rfl ?_
    exact K
  · try simp only [if_pos c] at K
    refine zV_aload_n dX0_forced_10 rfl ?_
    refine zV_sg dX0_forced_11 fm_14_22 sa_14 (by decide) fl_X0_58_0 rfl ?_
    refine zV_gf dX0_forced_14 sa_58 (by decide) fl_X0_526_1 rfl (ki := 20) rfl ?_
    refine zV_goto (tgt := 23) dX0_forced_17 (by decide) ?_
    refine zV_mask [false] rfl ?_
    exact K
def P_C_forcedAt (a1 : Int) (h : zH) (Q : Int → zH → Prop) : Prop :=
P_C_forcing h (fun r1 h2 =>
P_C_isIn a1 0 (w32 ((zd h2 58 20) - 1)) h2 (fun r3 h4 =>
(if r3 = 0 then True else (0 ≤ a1 ∧ a1 < 300) ∧ True) ∧
Q (if r3 = 0 then (-1005) else zd h4 75 a1) h4))
theorem W_C_forcedAt (a1 : Int) (h : zH) (Q : Int → zH → Prop) (hP : P_C_forcedAt a1 h Q) : zC true zy_X0_forcedAt 6 [zR 14, zI a1] h (zQ0 Q) := by
  unfold P_C_forcedAt at hP
  refine zC.of (by decide) (Nat.le_of_ble_eq_true rfl) ?_
  show zV true zy_X0_forcedAt 6 0 [zR 14, zI a1] [] h (zQ0 Q)
  refine zV_aload_n dX0_forcedAt_0 rfl ?_
  refine zV_cVk (As := []) (rest := []) dX0_forcedAt_1 sa_14 (W_C_forcing _ _ hP) mi_X0_forcing ml_X0_523 (by decide) (Nat.le_of_ble_eq_true rfl) rfl rfl rfl (fun r1 h2 hP => ?_)
  refine zV_pop dX0_forcedAt_4 (Nat.ne_of_beq_eq_false rfl) ?_
  refine zV_iload_n dX0_forcedAt_5 rfl ?_
  refine zV_i2l dX0_forcedAt_6 ?_
  refine zV_lconst (x := 0) dX0_forcedAt_7 rfl ?_
  refine zV_aload_n dX0_forcedAt_8 rfl ?_
  refine zV_sg dX0_forcedAt_9 fm_14_22 sa_14 (by decide) fl_X0_58_0 rfl ?_
  refine zV_gf dX0_forcedAt_12 sa_58 (by decide) fl_X0_526_1 rfl (ki := 20) rfl ?_
  refine zV_iconst dX0_forcedAt_15 ⟨by decide, by decide⟩ ?_
  refine zV_isub dX0_forcedAt_16 ?_
  refine zV_i2l dX0_forcedAt_17 ?_
  refine zV_cSk (As := [zJ a1, zJ 0, zJ (w32 ((zd h2 58 20) - 1))]) (rest := []) dX0_forcedAt_18 (W_C_isIn _ _ _ _ _ hP) mi_X0_isIn ml_X0_109 (by decide) (Nat.le_of_ble_eq_true rfl) rfl rfl rfl (fun r3 h4 hP => ?_)
  obtain ⟨hO, hP⟩ := hP
  have K : zV true zy_X0_forcedAt 6 39 [zU, zU] [zI (if r3 = 0 then (-1005) else zd h4 75 a1)] h4 (zQ0 Q) := by
    exact zV_ireturn dX0_forcedAt_39 rfl rfl rfl ⟨rfl, hP⟩
  clear hP
  refine zV_if_eq (tgt := 36) dX0_forcedAt_21 (by decide) (fun c => ?_) (fun c => ?_)
  · try simp only [if_pos c] at K
    have hO := zif_p hO c
    refine zV_sipush dX0_forcedAt_36 ⟨by decide, by decide, by decide⟩ ?_
    refine zV_mask [false, false] rfl ?_
    exact K
  · try simp only [if_neg c] at K
    have hO := zif_n hO c
    refine zV_aload_n dX0_forcedAt_24 rfl ?_
    refine zV_sg dX0_forcedAt_25 fm_14_22 sa_14 (by decide) fl_X0_58_0 rfl ?_
    refine zV_sg dX0_forcedAt_28 fm_58_18 sa_58 (by decide) fl_X0_529_1 rfl ?_
    refine zV_iload_n dX0_forcedAt_31 rfl ?_
    obtain ⟨ob, hO⟩ := hO
    refine zV_ia dX0_forcedAt_32 sa_75 ob ?_
    refine zV_goto (tgt := 39) dX0_forcedAt_33 (by decide) ?_
    refine zV_mask [false, false] rfl ?_
    exact K
def P_C_why (a1 : Int) (h : zH) (Q : Int → zH → Prop) : Prop :=
P_C_isName a1 h (fun r1 h2 =>
if r1 = 0 then
(P_C_refused (-1001) h2 (fun r5 h6 =>
Q r5 h6))
else
(P_C_forcing h2 (fun r3 h4 =>
(0 ≤ a1 ∧ a1 < 301) ∧
(if zd h4 69 a1 = 0 then True else (0 ≤ a1 ∧ a1 < 301) ∧ True) ∧
Q (if zd h4 69 a1 = 0 then (-1005) else zd h4 71 a1) h4)))
theorem W_C_why (a1 : Int) (h : zH) (Q : Int → zH → Prop) (hP : P_C_why a1 h Q) : zC true zy_X0_why 6 [zR 14, zI a1] h (zQ0 Q) := by
  unfold P_C_why at hP
  refine zC.of (by decide) (Nat.le_of_ble_eq_true rfl) ?_
  show zV true zy_X0_why 6 0 [zR 14, zI a1] [] h (zQ0 Q)
  refine zV_aload_n dX0_why_0 rfl ?_
  refine zV_iload_n dX0_why_1 rfl ?_
  refine zV_cVk (As := [zI a1]) (rest := []) dX0_why_2 sa_14 (W_C_isName _ _ _ hP) mi_X0_isName ml_X0_327 (by decide) (Nat.le_of_ble_eq_true rfl) rfl rfl rfl (fun r1 h2 hP => ?_)
  refine zV_if_ne (tgt := 16) dX0_why_5 (by decide) (fun c => ?_) (fun c => ?_)
  · have hP := zif_n hP c
    refine zV_aload_n dX0_why_16 rfl ?_
    refine zV_cVk (As := []) (rest := []) dX0_why_17 sa_14 (W_C_forcing _ _ hP) mi_X0_forcing ml_X0_523 (by decide) (Nat.le_of_ble_eq_true rfl) rfl rfl rfl (fun r3 h4 hP => ?_)
    refine zV_pop dX0_why_20 (Nat.ne_of_beq_eq_false rfl) ?_
    refine zV_aload_n dX0_why_21 rfl ?_
    refine zV_sg dX0_why_22 fm_14_22 sa_14 (by decide) fl_X0_58_0 rfl ?_
    refine zV_sg dX0_why_25 fm_58_12 sa_58 (by decide) fl_X0_532_1 rfl ?_
    refine zV_iload_n dX0_why_28 rfl ?_
    obtain ⟨ob, hP⟩ := hP
    refine zV_ia dX0_why_29 sa_69 ob ?_
    obtain ⟨hO, hP⟩ := hP
    have K : zV true zy_X0_why 6 48 [zU, zU] [zI (if zd h4 69 a1 = 0 then (-1005) else zd h4 71 a1)] h4 (zQ0 Q) := by
      exact zV_ireturn dX0_why_48 rfl rfl rfl ⟨rfl, hP⟩
    clear hP
    refine zV_if_eq (tgt := 45) dX0_why_30 (by decide) (fun c => ?_) (fun c => ?_)
    · try simp only [if_pos c] at K
      have hO := zif_p hO c
      refine zV_sipush dX0_why_45 ⟨by decide, by decide, by decide⟩ ?_
      refine zV_mask [false, false] rfl ?_
      exact K
    · try simp only [if_neg c] at K
      have hO := zif_n hO c
      refine zV_aload_n dX0_why_33 rfl ?_
      refine zV_sg dX0_why_34 fm_14_22 sa_14 (by decide) fl_X0_58_0 rfl ?_
      refine zV_sg dX0_why_37 fm_58_14 sa_58 (by decide) fl_X0_535_1 rfl ?_
      refine zV_iload_n dX0_why_40 rfl ?_
      obtain ⟨ob, hO⟩ := hO
      refine zV_ia dX0_why_41 sa_71 ob ?_
      refine zV_goto (tgt := 48) dX0_why_42 (by decide) ?_
      refine zV_mask [false, false] rfl ?_
      exact K
  · have hP := zif_p hP c
    refine zV_aload_n dX0_why_8 rfl ?_
    refine zV_sipush dX0_why_9 ⟨by decide, by decide, by decide⟩ ?_
    refine zV_cVk (As := [zI (-1001)]) (rest := []) dX0_why_12 sa_14 (W_C_refused _ _ _ hP) mi_X0_refused ml_X0_124 (by decide) (Nat.le_of_ble_eq_true rfl) rfl rfl rfl (fun r5 h6 hP => ?_)
    exact zV_ireturn dX0_why_15 rfl rfl rfl ⟨rfl, hP⟩
def P_C_sum (a1 : Int) (h : zH) (Q : Int → zH → Prop) : Prop :=
∀ h1 : zH, h1 = zw h 14 41 (w64 ((w64 (31 * (zd h 14 41))) + a1)) →
Q 0 h1
theorem W_C_sum (a1 : Int) (h : zH) (Q : Int → zH → Prop) (hP : P_C_sum a1 h Q) : zC true zy_X0_sum 1 [zR 14, zI a1] h (zQ0 Q) := by
  unfold P_C_sum at hP
  refine zC.of (by decide) (Nat.le_of_ble_eq_true rfl) ?_
  show zV true zy_X0_sum 1 0 [zR 14, zI a1] [] h (zQ0 Q)
  refine zV_aload_n dX0_sum_0 rfl ?_
  refine zV_ldc2c (x := 31) dX0_sum_1 (by decide) q1857 ⟨by decide, by decide⟩ ?_
  refine zV_aload_n dX0_sum_4 rfl ?_
  refine zV_gf dX0_sum_5 sa_14 (by decide) fl_X0_540_0 rfl (ki := 41) rfl ?_
  refine zV_lmul dX0_sum_8 ?_
  refine zV_iload_n dX0_sum_9 rfl ?_
  refine zV_i2l dX0_sum_10 ?_
  refine zV_ladd dX0_sum_11 ?_
  refine zV_pf dX0_sum_12 sa_14 (by decide) fl_X0_540_0 rfl rfl trivial (ki := 41) rfl (fun h1 e_h1 => ?_)
  have hP := hP h1 e_h1
  exact zV_return dX0_sum_15 rfl ⟨rfl, hP⟩
def P_C_digest_L17 (Q : Int → zH → Prop) (k44 : zH → Prop) : Nat → Int → zH → Prop
| 0, _, _ => False
| n17 + 1, y1, h =>
if zd h 14 2 ≤ y1 then
(k44 h)
else
((0 ≤ y1 ∧ y1 < 300) ∧
(zt h (zd h 15 y1) = 4) ∧
P_C_sum (zd h (zd h 15 y1) 1) h (fun r4 h5 =>
∀ x1_6 : Int, x1_6 = w32 (y1 + 1) →
P_C_digest_L17 Q k44 n17 x1_6 h5))
theorem W_C_digest_L17 (Q : Int → zH → Prop) (k44 : zH → Prop) (H44 : ∀ (h' : zH), k44 h' → zV true zy_X0_digest 2 44 [zR 14, zU, zU, zU, zU, zU] [] h' (zQ0 Q)) : ∀ (n17 : Nat) (y1 : Int) (h : zH), P_C_digest_L17 Q k44 n17 y1 h → zV true zy_X0_digest 2 17 [zR 14, zI y1, zU, zU, zU, zU] [] h (zQ0 Q) := by
  intro n17
  induction n17 with
  | zero => intro y1 h hP; exact absurd hP id
  | succ n17 ih =>
    intro y1 h hP
    unfold P_C_digest_L17 at hP
    refine zV_iload_n dX0_digest_17 rfl ?_
    refine zV_aload_n dX0_digest_18 rfl ?_
    refine zV_gf dX0_digest_19 sa_14 (by decide) fl_X0_100_0 rfl (ki := 2) rfl ?_
    refine zV_icmp_ge (tgt := 44) dX0_digest_22 (by decide) (fun c => ?_) (fun c => ?_)
    · have hP := zif_p hP c
      refine zV_mask [true, false, true, true, true, true] (ls' := [zR 14, zU, zU, zU, zU, zU]) rfl ?_
      exact H44 _ hP
    · have hP := zif_n hP c
      refine zV_aload_n dX0_digest_25 rfl ?_
      refine zV_aload_n dX0_digest_26 rfl ?_
      refine zV_sg dX0_digest_27 fm_14_1 sa_14 (by decide) fl_X0_11_0 rfl ?_
      refine zV_iload_n dX0_digest_30 rfl ?_
      obtain ⟨ob, hP⟩ := hP
      refine zV_aa dX0_digest_31 sa_15 (by decide) ob ?_
      obtain ⟨ob, hP⟩ := hP
      refine zV_gD dX0_digest_32 ob (by decide) fl_X0_332_4 rfl (ki := 1) rfl ?_
      refine zV_cVv (As := [zI (zd h (zd h 15 y1) 1)]) (rest := []) dX0_digest_35 sa_14 (W_C_sum _ _ _ hP) mi_X0_sum ml_X0_546 (by decide) (Nat.le_of_ble_eq_true rfl) rfl rfl (fun r4 h5 hP => ?_)
      refine zV_inc (ls' := fun z => [zR 14, zI z, zU, zU, zU, zU]) dX0_digest_38 (Nat.le_of_ble_eq_true rfl) rfl rfl (fun _ => rfl) (fun x1_6 e_x1_6 => ?_)
      have hP := hP x1_6 e_x1_6
      refine zV_goto (tgt := 17) dX0_digest_41 (by decide) ?_
      exact ih _ _ hP
def P_C_digest_L61 (y1 : Int) (Q : Int → zH → Prop) (k89 : zH → Prop) : Nat → Int → zH → Prop
| 0, _, _ => False
| n61 + 1, y2, h =>
(0 ≤ w32 (y1 + 1) ∧ w32 (y1 + 1) < 501) ∧
if zd h 23 (w32 (y1 + 1)) ≤ y2 then
(k89 h)
else
((0 ≤ y2 ∧ y2 < 2500) ∧
P_C_sum (zd h 22 y2) h (fun r9 h10 =>
∀ x2_11 : Int, x2_11 = w32 (y2 + 1) →
P_C_digest_L61 y1 Q k89 n61 x2_11 h10))
theorem W_C_digest_L61 (y1 : Int) (Q : Int → zH → Prop) (k89 : zH → Prop) (H89 : ∀ (h' : zH), k89 h' → zV true zy_X0_digest 2 89 [zR 14, zI y1, zU, zU, zU, zU] [] h' (zQ0 Q)) : ∀ (n61 : Nat) (y2 : Int) (h : zH), P_C_digest_L61 y1 Q k89 n61 y2 h → zV true zy_X0_digest 2 61 [zR 14, zI y1, zI y2, zU, zU, zU] [] h (zQ0 Q) := by
  intro n61
  induction n61 with
  | zero => intro y2 h hP; exact absurd hP id
  | succ n61 ih =>
    intro y2 h hP
    unfold P_C_digest_L61 at hP
    refine zV_iload_n dX0_digest_61 rfl ?_
    refine zV_aload_n dX0_digest_62 rfl ?_
    refine zV_sg dX0_digest_63 fm_14_17 sa_14 (by decide) fl_X0_40_0 rfl ?_
    refine zV_iload_n dX0_digest_66 rfl ?_
    refine zV_iconst dX0_digest_67 ⟨by decide, by decide⟩ ?_
    refine zV_iadd dX0_digest_68 ?_
    obtain ⟨ob, hP⟩ := hP
    refine zV_ia dX0_digest_69 sa_23 ob ?_
    refine zV_icmp_ge (tgt := 89) dX0_digest_70 (by decide) (fun c => ?_) (fun c => ?_)
    · have hP := zif_p hP c
      refine zV_mask [true, true, false, true, true, true] (ls' := [zR 14, zI y1, zU, zU, zU, zU]) rfl ?_
      exact H89 _ hP
    · have hP := zif_n hP c
      refine zV_aload_n dX0_digest_73 rfl ?_
      refine zV_aload_n dX0_digest_74 rfl ?_
      refine zV_sg dX0_digest_75 fm_14_16 sa_14 (by decide) fl_X0_37_0 rfl ?_
      refine zV_iload_n dX0_digest_78 rfl ?_
      obtain ⟨ob, hP⟩ := hP
      refine zV_ia dX0_digest_79 sa_22 ob ?_
      refine zV_cVv (As := [zI (zd h 22 y2)]) (rest := []) dX0_digest_80 sa_14 (W_C_sum _ _ _ hP) mi_X0_sum ml_X0_546 (by decide) (Nat.le_of_ble_eq_true rfl) rfl rfl (fun r9 h10 hP => ?_)
      refine zV_inc (ls' := fun z => [zR 14, zI y1, zI z, zU, zU, zU]) dX0_digest_83 (Nat.le_of_ble_eq_true rfl) rfl rfl (fun _ => rfl) (fun x2_11 e_x2_11 => ?_)
      have hP := hP x2_11 e_x2_11
      refine zV_goto (tgt := 61) dX0_digest_86 (by decide) ?_
      exact ih _ _ hP
def P_C_digest_L46 (Q : Int → zH → Prop) (k100 : zH → Prop) : Nat → Int → zH → Prop
| 0, _, _ => False
| n46 + 1, y1, h =>
if zd h 14 18 ≤ y1 then
(k100 h)
else
((0 ≤ y1 ∧ y1 < 501) ∧
∀ x2_8 : Int, x2_8 = (zd h 23 y1) →
∃ n61, P_C_digest_L61 y1 Q (fun h12 =>
P_C_sum 0 h12 (fun r13 h14 =>
∀ x1_15 : Int, x1_15 = w32 (y1 + 1) →
P_C_digest_L46 Q k100 n46 x1_15 h14)) n61 x2_8 h)
theorem W_C_digest_L46 (Q : Int → zH → Prop) (k100 : zH → Prop) (H100 : ∀ (h' : zH), k100 h' → zV true zy_X0_digest 2 100 [zR 14, zU, zU, zU, zU, zU] [] h' (zQ0 Q)) : ∀ (n46 : Nat) (y1 : Int) (h : zH), P_C_digest_L46 Q k100 n46 y1 h → zV true zy_X0_digest 2 46 [zR 14, zI y1, zU, zU, zU, zU] [] h (zQ0 Q) := by
  intro n46
  induction n46 with
  | zero => intro y1 h hP; exact absurd hP id
  | succ n46 ih =>
    intro y1 h hP
    unfold P_C_digest_L46 at hP
    refine zV_iload_n dX0_digest_46 rfl ?_
    refine zV_aload_n dX0_digest_47 rfl ?_
    refine zV_gf dX0_digest_48 sa_14 (by decide) fl_X0_202_0 rfl (ki := 18) rfl ?_
    refine zV_icmp_ge (tgt := 100) dX0_digest_51 (by decide) (fun c => ?_) (fun c => ?_)
    · have hP := zif_p hP c
      refine zV_mask [true, false, true, true, true, true] (ls' := [zR 14, zU, zU, zU, zU, zU]) rfl ?_
      exact H100 _ hP
    · have hP := zif_n hP c
      refine zV_aload_n dX0_digest_54 rfl ?_
      refine zV_sg dX0_digest_55 fm_14_17 sa_14 (by decide) fl_X0_40_0 rfl ?_
      refine zV_iload_n dX0_digest_58 rfl ?_
      obtain ⟨ob, hP⟩ := hP
      refine zV_ia dX0_digest_59 sa_23 ob ?_
      refine zV_top (fun x2_8 e_x2_8 => ?_)
      have hP := hP x2_8 e_x2_8
      refine zV_istore_n (ls' := [zR 14, zI y1, zI x2_8, zU, zU, zU]) dX0_digest_60 rfl (Nat.le_of_ble_eq_true rfl) rfl rfl ?_
      obtain ⟨n61, hP⟩ := hP
      refine W_C_digest_L61 _ _ _ (fun h12 hP => ?_) n61 _ _ hP
      refine zV_aload_n dX0_digest_89 rfl ?_
      refine zV_iconst dX0_digest_90 ⟨by decide, by decide⟩ ?_
      refine zV_cVv (As := [zI 0]) (rest := []) dX0_digest_91 sa_14 (W_C_sum _ _ _ hP) mi_X0_sum ml_X0_546 (by decide) (Nat.le_of_ble_eq_true rfl) rfl rfl (fun r13 h14 hP => ?_)
      refine zV_inc (ls' := fun z => [zR 14, zI z, zU, zU, zU, zU]) dX0_digest_94 (Nat.le_of_ble_eq_true rfl) rfl rfl (fun _ => rfl) (fun x1_15 e_x1_15 => ?_)
      have hP := hP x1_15 e_x1_15
      refine zV_goto (tgt := 46) dX0_digest_97 (by decide) ?_
      exact ih _ _ hP
def P_C_digest_L102 (Q : Int → zH → Prop) (k126 : zH → Prop) : Nat → Int → zH → Prop
| 0, _, _ => False
| n102 + 1, y1, h =>
if zd h 14 25 ≤ y1 then
(k126 h)
else
((0 ≤ y1 ∧ y1 < 20) ∧
P_C_sum (zd h 93 y1) h (fun r17 h18 =>
∀ x1_19 : Int, x1_19 = w32 (y1 + 1) →
P_C_digest_L102 Q k126 n102 x1_19 h18))
theorem W_C_digest_L102 (Q : Int → zH → Prop) (k126 : zH → Prop) (H126 : ∀ (h' : zH), k126 h' → zV true zy_X0_digest 2 126 [zR 14, zU, zU, zU, zU, zU] [] h' (zQ0 Q)) : ∀ (n102 : Nat) (y1 : Int) (h : zH), P_C_digest_L102 Q k126 n102 y1 h → zV true zy_X0_digest 2 102 [zR 14, zI y1, zU, zU, zU, zU] [] h (zQ0 Q) := by
  intro n102
  induction n102 with
  | zero => intro y1 h hP; exact absurd hP id
  | succ n102 ih =>
    intro y1 h hP
    unfold P_C_digest_L102 at hP
    refine zV_iload_n dX0_digest_102 rfl ?_
    refine zV_aload_n dX0_digest_103 rfl ?_
    refine zV_gf dX0_digest_104 sa_14 (by decide) fl_X0_324_0 rfl (ki := 25) rfl ?_
    refine zV_icmp_ge (tgt := 126) dX0_digest_107 (by decide) (fun c => ?_) (fun c => ?_)
    · have hP := zif_p hP c
      refine zV_mask [true, false, true, true, true, true] (ls' := [zR 14, zU, zU, zU, zU, zU]) rfl ?_
      exact H126 _ hP
    · have hP := zif_n hP c
      refine zV_aload_n dX0_digest_110 rfl ?_
      refine zV_aload_n dX0_digest_111 rfl ?_
      refine zV_sg dX0_digest_112 fm_14_24 sa_14 (by decide) fl_X0_68_0 rfl ?_
      refine zV_iload_n dX0_digest_115 rfl ?_
      obtain ⟨ob, hP⟩ := hP
      refine zV_ia dX0_digest_116 sa_93 ob ?_
      refine zV_cVv (As := [zI (zd h 93 y1)]) (rest := []) dX0_digest_117 sa_14 (W_C_sum _ _ _ hP) mi_X0_sum ml_X0_546 (by decide) (Nat.le_of_ble_eq_true rfl) rfl rfl (fun r17 h18 hP => ?_)
      refine zV_inc (ls' := fun z => [zR 14, zI z, zU, zU, zU, zU]) dX0_digest_120 (Nat.le_of_ble_eq_true rfl) rfl rfl (fun _ => rfl) (fun x1_19 e_x1_19 => ?_)
      have hP := hP x1_19 e_x1_19
      refine zV_goto (tgt := 102) dX0_digest_123 (by decide) ?_
      exact ih _ _ hP
def P_C_digest_L170 (y2 : Int) (y3 : Int) (y4 : Int) (Q : Int → zH → Prop) (k198 : zH → Prop) : Nat → Int → zH → Prop
| 0, _, _ => False
| n170 + 1, y5, h =>
if y4 = 0 then
(k198 h)
else
((zt h y4 = 50) ∧
if zl h y4 ≤ y5 then
(k198 h)
else
((zt h y4 = 50 ∧ 0 ≤ y5 ∧ y5 < zl h y4) ∧
P_C_sum (zd h y4 y5) h (fun r26 h27 =>
∀ x5_28 : Int, x5_28 = w32 (y5 + 1) →
P_C_digest_L170 y2 y3 y4 Q k198 n170 x5_28 h27)))
theorem W_C_digest_L170 (y2 : Int) (y3 : Int) (y4 : Int) (Q : Int → zH → Prop) (k198 : zH → Prop) (H198 : ∀ (h' : zH), k198 h' → zV true zy_X0_digest 2 198 [zR 14, zR 16, zI y2, zI y3, zU, zU] [] h' (zQ0 Q)) : ∀ (n170 : Nat) (y5 : Int) (h : zH), P_C_digest_L170 y2 y3 y4 Q k198 n170 y5 h → zV true zy_X0_digest 2 170 [zR 14, zR 16, zI y2, zI y3, zR y4, zI y5] [] h (zQ0 Q) := by
  intro n170
  induction n170 with
  | zero => intro y5 h hP; exact absurd hP id
  | succ n170 ih =>
    intro y5 h hP
    unfold P_C_digest_L170 at hP
    refine zV_aload dX0_digest_170 rfl ?_
    refine zV_ifnull (tgt := 198) dX0_digest_172 (by decide) (fun c => ?_) (fun c => ?_)
    · have hP := zif_p hP c
      refine zV_mask [true, true, true, true, false, false] (ls' := [zR 14, zR 16, zI y2, zI y3, zU, zU]) rfl ?_
      exact H198 _ hP
    · have hP := zif_n hP c
      refine zV_iload dX0_digest_175 rfl ?_
      refine zV_aload dX0_digest_177 rfl ?_
      obtain ⟨ob, hP⟩ := hP
      refine zV_alD dX0_digest_179 (Or.inl ob) ?_
      refine zV_icmp_ge (tgt := 198) dX0_digest_180 (by decide) (fun c => ?_) (fun c => ?_)
      · have hP := zif_p hP c
        refine zV_mask [true, true, true, true, false, false] (ls' := [zR 14, zR 16, zI y2, zI y3, zU, zU]) rfl ?_
        exact H198 _ hP
      · have hP := zif_n hP c
        refine zV_aload_n dX0_digest_183 rfl ?_
        refine zV_aload dX0_digest_184 rfl ?_
        refine zV_iload dX0_digest_186 rfl ?_
        obtain ⟨ob, hP⟩ := hP
        refine zV_iaD dX0_digest_188 ob ?_
        refine zV_cVv (As := [zI (zd h y4 y5)]) (rest := []) dX0_digest_189 sa_14 (W_C_sum _ _ _ hP) mi_X0_sum ml_X0_546 (by decide) (Nat.le_of_ble_eq_true rfl) rfl rfl (fun r26 h27 hP => ?_)
        refine zV_inc (ls' := fun z => [zR 14, zR 16, zI y2, zI y3, zR y4, zI z]) dX0_digest_192 (Nat.le_of_ble_eq_true rfl) rfl rfl (fun _ => rfl) (fun x5_28 e_x5_28 => ?_)
        have hP := hP x5_28 e_x5_28
        refine zV_goto (tgt := 170) dX0_digest_195 (by decide) ?_
        exact ih _ _ hP
def P_C_digest_J198 (y2 : Int) (y3 : Int) (h : zH) (Q : Int → zH → Prop) (k141 : Int → zH → Prop) : Prop :=
∀ x3_30 : Int, x3_30 = w32 (y3 + 1) →
k141 x3_30 h
theorem W_C_digest_J198 (y2 : Int) (y3 : Int) (h : zH) (Q : Int → zH → Prop) (k141 : Int → zH → Prop) (H141 : ∀ (v3 : Int) (h' : zH), k141 v3 h' → zV true zy_X0_digest 2 141 [zR 14, zR 16, zI y2, zI v3, zU, zU] [] h' (zQ0 Q)) (hP : P_C_digest_J198 y2 y3 h Q k141) : zV true zy_X0_digest 2 198 [zR 14, zR 16, zI y2, zI y3, zU, zU] [] h (zQ0 Q) := by
  unfold P_C_digest_J198 at hP
  refine zV_inc (ls' := fun z => [zR 14, zR 16, zI y2, zI z, zU, zU]) dX0_digest_198 (Nat.le_of_ble_eq_true rfl) rfl rfl (fun _ => rfl) (fun x3_30 e_x3_30 => ?_)
  have hP := hP x3_30 e_x3_30
  refine zV_goto (tgt := 141) dX0_digest_201 (by decide) ?_
  exact H141 _ _ hP
def P_C_digest_J164 (y2 : Int) (y3 : Int) (y4 : Int) (s0 : Int) (h : zH) (Q : Int → zH → Prop) (k141 : Int → zH → Prop) : Prop :=
P_C_sum s0 h (fun r24 h25 =>
∃ n170, P_C_digest_L170 y2 y3 y4 Q (fun h29 =>
P_C_digest_J198 y2 y3 h29 Q k141) n170 0 h25)
theorem W_C_digest_J164 (y2 : Int) (y3 : Int) (y4 : Int) (s0 : Int) (h : zH) (Q : Int → zH → Prop) (k141 : Int → zH → Prop) (H141 : ∀ (v3 : Int) (h' : zH), k141 v3 h' → zV true zy_X0_digest 2 141 [zR 14, zR 16, zI y2, zI v3, zU, zU] [] h' (zQ0 Q)) (hP : P_C_digest_J164 y2 y3 y4 s0 h Q k141) : zV true zy_X0_digest 2 164 [zR 14, zR 16, zI y2, zI y3, zR y4, zU] [zI s0, zR 14] h (zQ0 Q) := by
  unfold P_C_digest_J164 at hP
  refine zV_cVv (As := [zI s0]) (rest := []) dX0_digest_164 sa_14 (W_C_sum _ _ _ hP) mi_X0_sum ml_X0_546 (by decide) (Nat.le_of_ble_eq_true rfl) rfl rfl (fun r24 h25 hP => ?_)
  refine zV_iconst dX0_digest_167 ⟨by decide, by decide⟩ ?_
  refine zV_istore (ls' := [zR 14, zR 16, zI y2, zI y3, zR y4, zI 0]) dX0_digest_168 (Nat.le_of_ble_eq_true rfl) rfl rfl ?_
  obtain ⟨n170, hP⟩ := hP
  refine W_C_digest_L170 _ _ _ _ _ (fun h29 hP => ?_) n170 _ _ hP
  exact W_C_digest_J198 _ _ _ _ _ H141 hP
def P_C_digest_L141 (y2 : Int) (Q : Int → zH → Prop) (k204 : zH → Prop) : Nat → Int → zH → Prop
| 0, _, _ => False
| n141 + 1, y3, h =>
if y2 ≤ y3 then
(k204 h)
else
((0 ≤ y3 ∧ y3 < 40) ∧
∀ x4_23 : Int, x4_23 = (zd h 16 y3) →
(if x4_23 = 0 then True else (zt h x4_23 = 50) ∧ True) ∧
P_C_digest_J164 y2 y3 x4_23 (if x4_23 = 0 then (-1) else zl h x4_23) h Q (P_C_digest_L141 y2 Q k204 n141))
theorem W_C_digest_L141 (y2 : Int) (Q : Int → zH → Prop) (k204 : zH → Prop) (H204 : ∀ (h' : zH), k204 h' → zV true zy_X0_digest 2 204 [zR 14, zU, zU, zU, zU, zU] [] h' (zQ0 Q)) : ∀ (n141 : Nat) (y3 : Int) (h : zH), P_C_digest_L141 y2 Q k204 n141 y3 h → zV true zy_X0_digest 2 141 [zR 14, zR 16, zI y2, zI y3, zU, zU] [] h (zQ0 Q) := by
  intro n141
  induction n141 with
  | zero => intro y3 h hP; exact absurd hP id
  | succ n141 ih =>
    intro y3 h hP
    unfold P_C_digest_L141 at hP
    refine zV_iload_n dX0_digest_141 rfl ?_
    refine zV_iload_n dX0_digest_142 rfl ?_
    refine zV_icmp_ge (tgt := 204) dX0_digest_143 (by decide) (fun c => ?_) (fun c => ?_)
    · have hP := zif_p hP c
      refine zV_mask [true, false, false, false, true, true] (ls' := [zR 14, zU, zU, zU, zU, zU]) rfl ?_
      exact H204 _ hP
    · have hP := zif_n hP c
      refine zV_aload_n dX0_digest_146 rfl ?_
      refine zV_iload_n dX0_digest_147 rfl ?_
      obtain ⟨ob, hP⟩ := hP
      refine zV_aa dX0_digest_148 sa_16 (by decide) ob ?_
      refine zV_top (fun x4_23 e_x4_23 => ?_)
      have hP := hP x4_23 e_x4_23
      refine zV_astore (ls' := [zR 14, zR 16, zI y2, zI y3, zR x4_23, zU]) dX0_digest_149 (Nat.le_of_ble_eq_true rfl) rfl rfl ?_
      refine zV_aload_n dX0_digest_151 rfl ?_
      refine zV_aload dX0_digest_152 rfl ?_
      obtain ⟨hO, hP⟩ := hP
      have K : zV true zy_X0_digest 2 164 [zR 14, zR 16, zI y2, zI y3, zR x4_23, zU] [zI (if x4_23 = 0 then (-1) else zl h x4_23), zR 14] h (zQ0 Q) := by
        exact W_C_digest_J164 _ _ _ _ _ _ _ ih hP
      clear hP
      refine zV_ifnonnull (tgt := 161) dX0_digest_154 (by decide) (fun c => ?_) (fun c => ?_)
      · try simp only [if_neg c] at K
        have hO := zif_n hO c
        refine zV_aload dX0_digest_161 rfl ?_
        obtain ⟨ob, hO⟩ := hO
        refine zV_alD dX0_digest_163 (Or.inl ob) ?_
        refine zV_mask [true, true, true, true, true, false] rfl ?_
        exact K
      · try simp only [if_pos c] at K
        have hO := zif_p hO c
        refine zV_iconst dX0_digest_157 ⟨by decide, by decide⟩ ?_
        refine zV_goto (tgt := 164) dX0_digest_158 (by decide) ?_
        refine zV_mask [true, true, true, true, true, false] rfl ?_
        exact K
def P_C_digest_J248 (y1 : Int) (s0 : Int) (h : zH) (Q : Int → zH → Prop) (k222 : Int → zH → Prop) : Prop :=
P_C_sum s0 h (fun r38 h39 =>
∀ x1_40 : Int, x1_40 = w32 (y1 + 1) →
k222 x1_40 h39)
theorem W_C_digest_J248 (y1 : Int) (s0 : Int) (h : zH) (Q : Int → zH → Prop) (k222 : Int → zH → Prop) (H222 : ∀ (v1 : Int) (h' : zH), k222 v1 h' → zV true zy_X0_digest 2 222 [zR 14, zI v1, zU, zU, zU, zU] [] h' (zQ0 Q)) (hP : P_C_digest_J248 y1 s0 h Q k222) : zV true zy_X0_digest 2 248 [zR 14, zI y1, zU, zU, zU, zU] [zI s0, zR 14] h (zQ0 Q) := by
  unfold P_C_digest_J248 at hP
  refine zV_cVv (As := [zI s0]) (rest := []) dX0_digest_248 sa_14 (W_C_sum _ _ _ hP) mi_X0_sum ml_X0_546 (by decide) (Nat.le_of_ble_eq_true rfl) rfl rfl (fun r38 h39 hP => ?_)
  refine zV_inc (ls' := fun z => [zR 14, zI z, zU, zU, zU, zU]) dX0_digest_251 (Nat.le_of_ble_eq_true rfl) rfl rfl (fun _ => rfl) (fun x1_40 e_x1_40 => ?_)
  have hP := hP x1_40 e_x1_40
  refine zV_goto (tgt := 222) dX0_digest_254 (by decide) ?_
  exact H222 _ _ hP
def P_C_digest_L222 (Q : Int → zH → Prop) : Nat → Int → zH → Prop
| 0, _, _ => False
| n222 + 1, y1, h =>
if zd h 14 2 ≤ y1 then
(P_C_sum (zd h 14 33) h (fun r36 h37 =>
Q (zd h37 14 41) h37))
else
((0 ≤ y1 ∧ y1 < 300) ∧
(zt h (zd h 15 y1) = 4) ∧
P_C_digest_J248 y1 (if zd h (zd h 15 y1) 2 = 0 then 0 else 1) h Q (P_C_digest_L222 Q n222))
theorem W_C_digest_L222 (Q : Int → zH → Prop) : ∀ (n222 : Nat) (y1 : Int) (h : zH), P_C_digest_L222 Q n222 y1 h → zV true zy_X0_digest 2 222 [zR 14, zI y1, zU, zU, zU, zU] [] h (zQ0 Q) := by
  intro n222
  induction n222 with
  | zero => intro y1 h hP; exact absurd hP id
  | succ n222 ih =>
    intro y1 h hP
    unfold P_C_digest_L222 at hP
    refine zV_iload_n dX0_digest_222 rfl ?_
    refine zV_aload_n dX0_digest_223 rfl ?_
    refine zV_gf dX0_digest_224 sa_14 (by decide) fl_X0_100_0 rfl (ki := 2) rfl ?_
    refine zV_icmp_ge (tgt := 257) dX0_digest_227 (by decide) (fun c => ?_) (fun c => ?_)
    · have hP := zif_p hP c
      refine zV_aload_n dX0_digest_257 rfl ?_
      refine zV_aload_n dX0_digest_258 rfl ?_
      refine zV_gf dX0_digest_259 sa_14 (by decide) fl_X0_428_0 rfl (ki := 33) rfl ?_
      refine zV_cVv (As := [zI (zd h 14 33)]) (rest := []) dX0_digest_262 sa_14 (W_C_sum _ _ _ hP) mi_X0_sum ml_X0_546 (by decide) (Nat.le_of_ble_eq_true rfl) rfl rfl (fun r36 h37 hP => ?_)
      refine zV_aload_n dX0_digest_265 rfl ?_
      refine zV_gf dX0_digest_266 sa_14 (by decide) fl_X0_540_0 rfl (ki := 41) rfl ?_
      exact zV_lreturn dX0_digest_269 rfl ⟨rfl, hP⟩
    · have hP := zif_n hP c
      refine zV_aload_n dX0_digest_230 rfl ?_
      refine zV_aload_n dX0_digest_231 rfl ?_
      refine zV_sg dX0_digest_232 fm_14_1 sa_14 (by decide) fl_X0_11_0 rfl ?_
      refine zV_iload_n dX0_digest_235 rfl ?_
      obtain ⟨ob, hP⟩ := hP
      refine zV_aa dX0_digest_236 sa_15 (by decide) ob ?_
      obtain ⟨ob, hP⟩ := hP
      refine zV_gD dX0_digest_237 ob (by decide) fl_X0_511_4 rfl (ki := 2) rfl ?_
      have K : zV true zy_X0_digest 2 248 [zR 14, zI y1, zU, zU, zU, zU] [zI (if zd h (zd h 15 y1) 2 = 0 then 0 else 1), zR 14] h (zQ0 Q) := by
        exact W_C_digest_J248 _ _ _ _ _ ih hP
      clear hP
      refine zV_if_eq (tgt := 247) dX0_digest_240 (by decide) (fun c => ?_) (fun c => ?_)
      · try simp only [if_pos c] at K
        refine zV_iconst dX0_digest_247 ⟨by decide, by decide⟩ ?_
        refine zV_mask [true, true, false, false, false, false] rfl ?_
        exact K
      · try simp only [if_neg c] at K
        refine zV_iconst dX0_digest_243 ⟨by decide, by decide⟩ ?_
        refine zV_goto (tgt := 248) dX0_digest_244 (by decide) ?_
        refine zV_mask [true, true, false, false, false, false] rfl ?_
        exact K
def P_C_digest (h : zH) (Q : Int → zH → Prop) : Prop :=
∀ h1 : zH, h1 = zw h 14 41 7 →
P_C_sum (zd h1 14 2) h1 (fun r2 h3 =>
∃ n17, P_C_digest_L17 Q (fun h7 =>
∃ n46, P_C_digest_L46 Q (fun h16 =>
∃ n102, P_C_digest_L102 Q (fun h20 =>
P_C_sum 0 h20 (fun r21 h22 =>
∃ n141, P_C_digest_L141 40 Q (fun h31 =>
P_C_sum (zd h31 14 26) h31 (fun r32 h33 =>
P_C_sum (zd h33 14 27) h33 (fun r34 h35 =>
∃ n222, P_C_digest_L222 Q n222 0 h35))) n141 0 h22)) n102 0 h16) n46 0 h7) n17 0 h3)
theorem W_C_digest (h : zH) (Q : Int → zH → Prop) (hP : P_C_digest  h Q) : zC true zy_X0_digest 2 [zR 14] h (zQ0 Q) := by
  unfold P_C_digest at hP
  refine zC.of (by decide) (Nat.le_of_ble_eq_true rfl) ?_
  show zV true zy_X0_digest 2 0 [zR 14, zU, zU, zU, zU, zU] [] h (zQ0 Q)
  refine zV_aload_n dX0_digest_0 rfl ?_
  refine zV_ldc2c (x := 7) dX0_digest_1 (by decide) q1852 ⟨by decide, by decide⟩ ?_
  refine zV_pf dX0_digest_4 sa_14 (by decide) fl_X0_540_0 rfl rfl trivial (ki := 41) rfl (fun h1 e_h1 => ?_)
  have hP := hP h1 e_h1
  refine zV_aload_n dX0_digest_7 rfl ?_
  refine zV_aload_n dX0_digest_8 rfl ?_
  refine zV_gf dX0_digest_9 sa_14 (by decide) fl_X0_100_0 rfl (ki := 2) rfl ?_
  refine zV_cVv (As := [zI (zd h1 14 2)]) (rest := []) dX0_digest_12 sa_14 (W_C_sum _ _ _ hP) mi_X0_sum ml_X0_546 (by decide) (Nat.le_of_ble_eq_true rfl) rfl rfl (fun r2 h3 hP => ?_)
  refine zV_iconst dX0_digest_15 ⟨by decide, by decide⟩ ?_
  refine zV_istore_n (ls' := [zR 14, zI 0, zU, zU, zU, zU]) dX0_digest_16 rfl (Nat.le_of_ble_eq_true rfl) rfl rfl ?_
  obtain ⟨n17, hP⟩ := hP
  refine W_C_digest_L17 _ _ (fun h7 hP => ?_) n17 _ _ hP
  refine zV_iconst dX0_digest_44 ⟨by decide, by decide⟩ ?_
  refine zV_istore_n (ls' := [zR 14, zI 0, zU, zU, zU, zU]) dX0_digest_45 rfl (Nat.le_of_ble_eq_true rfl) rfl rfl ?_
  obtain ⟨n46, hP⟩ := hP
  refine W_C_digest_L46 _ _ (fun h16 hP => ?_) n46 _ _ hP
  refine zV_iconst dX0_digest_100 ⟨by decide, by decide⟩ ?_
  refine zV_istore_n (ls' := [zR 14, zI 0, zU, zU, zU, zU]) dX0_digest_101 rfl (Nat.le_of_ble_eq_true rfl) rfl rfl ?_
  obtain ⟨n102, hP⟩ := hP
  refine W_C_digest_L102 _ _ (fun h20 hP => ?_) n102 _ _ hP
  refine zV_aload_n dX0_digest_126 rfl ?_
  refine zV_iconst dX0_digest_127 ⟨by decide, by decide⟩ ?_
  refine zV_cVv (As := [zI 0]) (rest := []) dX0_digest_128 sa_14 (W_C_sum _ _ _ hP) mi_X0_sum ml_X0_546 (by decide) (Nat.le_of_ble_eq_true rfl) rfl rfl (fun r21 h22 hP => ?_)
  refine zV_aload_n dX0_digest_131 rfl ?_
  refine zV_sg dX0_digest_132 fm_14_4 sa_14 (by decide) fl_X0_17_0 rfl ?_
  refine zV_astore_n (ls' := [zR 14, zR 16, zU, zU, zU, zU]) dX0_digest_135 rfl (Nat.le_of_ble_eq_true rfl) rfl rfl ?_
  refine zV_aload_n dX0_digest_136 rfl ?_
  refine zV_al dX0_digest_137 sa_16 (by decide) ?_
  refine zV_istore_n (ls' := [zR 14, zR 16, zI 40, zU, zU, zU]) dX0_digest_138 rfl (Nat.le_of_ble_eq_true rfl) rfl rfl ?_
  refine zV_iconst dX0_digest_139 ⟨by decide, by decide⟩ ?_
  refine zV_istore_n (ls' := [zR 14, zR 16, zI 40, zI 0, zU, zU]) dX0_digest_140 rfl (Nat.le_of_ble_eq_true rfl) rfl rfl ?_
  obtain ⟨n141, hP⟩ := hP
  refine W_C_digest_L141 _ _ _ (fun h31 hP => ?_) n141 _ _ hP
  refine zV_aload_n dX0_digest_204 rfl ?_
  refine zV_aload_n dX0_digest_205 rfl ?_
  refine zV_gf dX0_digest_206 sa_14 (by decide) fl_X0_344_0 rfl (ki := 26) rfl ?_
  refine zV_cVv (As := [zI (zd h31 14 26)]) (rest := []) dX0_digest_209 sa_14 (W_C_sum _ _ _ hP) mi_X0_sum ml_X0_546 (by decide) (Nat.le_of_ble_eq_true rfl) rfl rfl (fun r32 h33 hP => ?_)
  refine zV_aload_n dX0_digest_212 rfl ?_
  refine zV_aload_n dX0_digest_213 rfl ?_
  refine zV_gf dX0_digest_214 sa_14 (by decide) fl_X0_349_0 rfl (ki := 27) rfl ?_
  refine zV_cVv (As := [zI (zd h33 14 27)]) (rest := []) dX0_digest_217 sa_14 (W_C_sum _ _ _ hP) mi_X0_sum ml_X0_546 (by decide) (Nat.le_of_ble_eq_true rfl) rfl rfl (fun r34 h35 hP => ?_)
  refine zV_iconst dX0_digest_220 ⟨by decide, by decide⟩ ?_
  refine zV_istore_n (ls' := [zR 14, zI 0, zU, zU, zU, zU]) dX0_digest_221 rfl (Nat.le_of_ble_eq_true rfl) rfl rfl ?_
  obtain ⟨n222, hP⟩ := hP
  refine W_C_digest_L222 _ n222 _ _ hP
def P_C_status (h : zH) (Q : Int → zH → Prop) : Prop :=
Q (zd h 14 0) h
theorem W_C_status (h : zH) (Q : Int → zH → Prop) (hP : P_C_status  h Q) : zC true zy_X0_status 1 [zR 14] h (zQ0 Q) := by
  unfold P_C_status at hP
  refine zC.of (by decide) (Nat.le_of_ble_eq_true rfl) ?_
  show zV true zy_X0_status 1 0 [zR 14] [] h (zQ0 Q)
  refine zV_aload_n dX0_status_0 rfl ?_
  refine zV_gf dX0_status_1 sa_14 (by decide) fl_X0_97_0 rfl (ki := 0) rfl ?_
  exact zV_ireturn dX0_status_4 rfl rfl rfl ⟨rfl, hP⟩
def P_C_about (a1 : Int) (h : zH) (Q : Int → zH → Prop) : Prop :=
if a1 = 0 then
(Q (zd h 14 2) h)
else
(if a1 = 1 then
(Q (zd h 14 20) h)
else
(if a1 = 2 then
(Q (zd h 14 18) h)
else
(if a1 = 3 then
((0 ≤ zd h 14 18 ∧ zd h 14 18 < 501) ∧
Q (zd h 23 (zd h 14 18)) h)
else
(if a1 = 4 then
(Q (zd h 14 25) h)
else
(if a1 = 5 then
(Q (zd h 14 33) h)
else
(if a1 = 6 then
(Q (zd h 14 37) h)
else
(if a1 = 7 then
(P_C_countedNames h (fun r1 h2 =>
Q r1 h2))
else
(if a1 = 8 then
(Q (zd h 14 6) h)
else
(if a1 = 9 then
(Q (zd h 14 10) h)
else
(P_C_refused (-1001) h (fun r3 h4 =>
Q r3 h4)))))))))))
theorem W_C_about (a1 : Int) (h : zH) (Q : Int → zH → Prop) (hP : P_C_about a1 h Q) : zC true zy_X0_about 2 [zR 14, zI a1] h (zQ0 Q) := by
  unfold P_C_about at hP
  refine zC.of (by decide) (Nat.le_of_ble_eq_true rfl) ?_
  show zV true zy_X0_about 2 0 [zR 14, zI a1] [] h (zQ0 Q)
  refine zV_iload_n dX0_about_0 rfl ?_
  by_cases c : a1 = 0
  · have hP := zif_p hP c
    refine zV_ts (tgt := 56) dX0_about_1 0 c ⟨by decide, by decide⟩ rfl (by decide) ?_
    refine zV_aload_n dX0_about_56 rfl ?_
    refine zV_gf dX0_about_57 sa_14 (by decide) fl_X0_100_0 rfl (ki := 2) rfl ?_
    exact zV_ireturn dX0_about_60 rfl rfl rfl ⟨rfl, hP⟩
  · have hP := zif_n hP c
    have n0 := c
    by_cases c : a1 = 1
    · have hP := zif_p hP c
      refine zV_ts (tgt := 61) dX0_about_1 1 c ⟨by decide, by decide⟩ rfl (by decide) ?_
      refine zV_aload_n dX0_about_61 rfl ?_
      refine zV_gf dX0_about_62 sa_14 (by decide) fl_X0_199_0 rfl (ki := 20) rfl ?_
      exact zV_ireturn dX0_about_65 rfl rfl rfl ⟨rfl, hP⟩
    · have hP := zif_n hP c
      have n1 := c
      by_cases c : a1 = 2
      · have hP := zif_p hP c
        refine zV_ts (tgt := 66) dX0_about_1 2 c ⟨by decide, by decide⟩ rfl (by decide) ?_
        refine zV_aload_n dX0_about_66 rfl ?_
        refine zV_gf dX0_about_67 sa_14 (by decide) fl_X0_202_0 rfl (ki := 18) rfl ?_
        exact zV_ireturn dX0_about_70 rfl rfl rfl ⟨rfl, hP⟩
      · have hP := zif_n hP c
        have n2 := c
        by_cases c : a1 = 3
        · have hP := zif_p hP c
          refine zV_ts (tgt := 71) dX0_about_1 3 c ⟨by decide, by decide⟩ rfl (by decide) ?_
          refine zV_aload_n dX0_about_71 rfl ?_
          refine zV_sg dX0_about_72 fm_14_17 sa_14 (by decide) fl_X0_40_0 rfl ?_
          refine zV_aload_n dX0_about_75 rfl ?_
          refine zV_gf dX0_about_76 sa_14 (by decide) fl_X0_202_0 rfl (ki := 18) rfl ?_
          obtain ⟨ob, hP⟩ := hP
          refine zV_ia dX0_about_79 sa_23 ob ?_
          exact zV_ireturn dX0_about_80 rfl rfl rfl ⟨rfl, hP⟩
        · have hP := zif_n hP c
          have n3 := c
          by_cases c : a1 = 4
          · have hP := zif_p hP c
            refine zV_ts (tgt := 81) dX0_about_1 4 c ⟨by decide, by decide⟩ rfl (by decide) ?_
            refine zV_aload_n dX0_about_81 rfl ?_
            refine zV_gf dX0_about_82 sa_14 (by decide) fl_X0_324_0 rfl (ki := 25) rfl ?_
            exact zV_ireturn dX0_about_85 rfl rfl rfl ⟨rfl, hP⟩
          · have hP := zif_n hP c
            have n4 := c
            by_cases c : a1 = 5
            · have hP := zif_p hP c
              refine zV_ts (tgt := 86) dX0_about_1 5 c ⟨by decide, by decide⟩ rfl (by decide) ?_
              refine zV_aload_n dX0_about_86 rfl ?_
              refine zV_gf dX0_about_87 sa_14 (by decide) fl_X0_428_0 rfl (ki := 33) rfl ?_
              exact zV_ireturn dX0_about_90 rfl rfl rfl ⟨rfl, hP⟩
            · have hP := zif_n hP c
              have n5 := c
              by_cases c : a1 = 6
              · have hP := zif_p hP c
                refine zV_ts (tgt := 91) dX0_about_1 6 c ⟨by decide, by decide⟩ rfl (by decide) ?_
                refine zV_aload_n dX0_about_91 rfl ?_
                refine zV_gf dX0_about_92 sa_14 (by decide) fl_X0_480_0 rfl (ki := 37) rfl ?_
                exact zV_ireturn dX0_about_95 rfl rfl rfl ⟨rfl, hP⟩
              · have hP := zif_n hP c
                have n6 := c
                by_cases c : a1 = 7
                · have hP := zif_p hP c
                  refine zV_ts (tgt := 96) dX0_about_1 7 c ⟨by decide, by decide⟩ rfl (by decide) ?_
                  refine zV_aload_n dX0_about_96 rfl ?_
                  refine zV_cVk (As := []) (rest := []) dX0_about_97 sa_14 (W_C_countedNames _ _ hP) mi_X0_countedNames ml_X0_514 (by decide) (Nat.le_of_ble_eq_true rfl) rfl rfl rfl (fun r1 h2 hP => ?_)
                  exact zV_ireturn dX0_about_100 rfl rfl rfl ⟨rfl, hP⟩
                · have hP := zif_n hP c
                  have n7 := c
                  by_cases c : a1 = 8
                  · have hP := zif_p hP c
                    refine zV_ts (tgt := 101) dX0_about_1 8 c ⟨by decide, by decide⟩ rfl (by decide) ?_
                    refine zV_aload_n dX0_about_101 rfl ?_
                    refine zV_gf dX0_about_102 sa_14 (by decide) fl_X0_152_0 rfl (ki := 6) rfl ?_
                    exact zV_ireturn dX0_about_105 rfl rfl rfl ⟨rfl, hP⟩
                  · have hP := zif_n hP c
                    have n8 := c
                    by_cases c : a1 = 9
                    · have hP := zif_p hP c
                      refine zV_ts (tgt := 106) dX0_about_1 9 c ⟨by decide, by decide⟩ rfl (by decide) ?_
                      refine zV_aload_n dX0_about_106 rfl ?_
                      refine zV_gf dX0_about_107 sa_14 (by decide) fl_X0_162_0 rfl (ki := 10) rfl ?_
                      exact zV_ireturn dX0_about_110 rfl rfl rfl ⟨rfl, hP⟩
                    · have hP := zif_n hP c
                      have n9 := c
                      refine zV_tsd (tgt := 111) dX0_about_1 (by omega) (by decide) ?_
                      refine zV_aload_n dX0_about_111 rfl ?_
                      refine zV_sipush dX0_about_112 ⟨by decide, by decide, by decide⟩ ?_
                      refine zV_cVk (As := [zI (-1001)]) (rest := []) dX0_about_115 sa_14 (W_C_refused _ _ _ hP) mi_X0_refused ml_X0_124 (by decide) (Nat.le_of_ble_eq_true rfl) rfl rfl rfl (fun r3 h4 hP => ?_)
                      exact zV_ireturn dX0_about_118 rfl rfl rfl ⟨rfl, hP⟩
