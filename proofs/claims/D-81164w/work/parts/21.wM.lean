/-! printed by gen.py: what the methods of ClauseCourtModel do, and that the machine does it -/
set_option maxRecDepth 100000
abbrev zy_X3_in : zM := (yX3_in, cX3_in, 3, some .boolean)
theorem mi_X3_in : zMS zy_X3_in 3 := ⟨by decide +kernel, ⟨q2226, q160, zcw_in (by decide +kernel) q2227⟩, ⟨by decide +kernel, by decide +kernel, by decide +kernel⟩, Nat.le_of_ble_eq_true rfl⟩
abbrev zy_X3_fail : zM := (yX3_fail, cX3_fail, 2, some .int)
theorem mi_X3_fail : zMI zy_X3_fail 3 1 := ⟨⟨RX3, TX3, 116, rfl, rfl, q2230, qs79, q160, zcw_in (by decide +kernel) q2231⟩, ⟨by decide +kernel, by decide +kernel, by decide +kernel⟩, Nat.le_of_ble_eq_true rfl, by decide⟩
theorem fl_X3_235_3 : zFL RX3 235 3 0 := ⟨RX3, TX3, 116, "ClauseCourtModel", rfl, by decide, Or.inl q1872, Or.inl rfl, in_X3⟩
theorem sa_101 : zSA 101 3 0 := by unfold zSA; decide +kernel
abbrev zy_X3_names : zM := (yX3_names, cX3_names, 2, some .int)
theorem mi_X3_names : zMI zy_X3_names 3 1 := ⟨⟨RX3, TX3, 116, rfl, rfl, q2222, q2223, q160, zcw_in (by decide +kernel) q2224⟩, ⟨by decide +kernel, by decide +kernel, by decide +kernel⟩, Nat.le_of_ble_eq_true rfl, by decide⟩
theorem ml_X3_238 : zML RX3 238 zy_X3_in := Or.inl q2225
theorem fl_X3_246_3 : zFL RX3 246 3 1 := ⟨RX3, TX3, 116, "ClauseCourtModel", rfl, by decide, Or.inl q1873, Or.inl rfl, in_X3⟩
theorem fl_X3_249_3 : zFL RX3 249 3 57 := ⟨RX3, TX3, 116, "ClauseCourtModel", rfl, by decide, Or.inl q1929, Or.inl rfl, in_X3⟩
theorem ml_X3_242 : zML RX3 242 zy_X3_fail := Or.inl q2228
abbrev zy_X3_isRow : zM := (yX3_isRow, cX3_isRow, 1, some .boolean)
theorem mi_X3_isRow : zMS zy_X3_isRow 1 := ⟨by decide +kernel, ⟨q2237, q160, zcw_in (by decide +kernel) q2238⟩, ⟨by decide +kernel, by decide +kernel, by decide +kernel⟩, Nat.le_of_ble_eq_true rfl⟩
abbrev zy_X3_row : zM := (yX3_row, cX3_row, 4, some .int)
theorem mi_X3_row : zMI zy_X3_row 3 2 := ⟨⟨RX3, TX3, 116, rfl, rfl, q2233, q2234, q160, zcw_in (by decide +kernel) q2235⟩, ⟨by decide +kernel, by decide +kernel, by decide +kernel⟩, Nat.le_of_ble_eq_true rfl, by decide⟩
theorem ml_X3_253 : zML RX3 253 zy_X3_isRow := Or.inl q2236
theorem fl_X3_17_3 : zFL RX3 17 3 5 := ⟨RX3, TX3, 116, "ClauseCourtModel", rfl, by decide, Or.inl q1877, Or.inl rfl, in_X3⟩
theorem fm_101_5 : ((101, ((5 : Nat) : Int), 104) : Int × Int × Int) ∈ zFin := by decide +kernel
theorem sa_104 : zSA 104 50 40 := by unfold zSA; decide +kernel
theorem fl_X3_20_3 : zFL RX3 20 3 6 := ⟨RX3, TX3, 116, "ClauseCourtModel", rfl, by decide, Or.inl q1878, Or.inl rfl, in_X3⟩
theorem fm_101_6 : ((101, ((6 : Nat) : Int), 105) : Int × Int × Int) ∈ zFin := by decide +kernel
theorem sa_105 : zSA 105 50 480 := by unfold zSA; decide +kernel
abbrev zy_X3_drop : zM := (yX3_drop, cX3_drop, 2, some .int)
theorem mi_X3_drop : zMI zy_X3_drop 3 1 := ⟨⟨RX3, TX3, 116, rfl, rfl, q2240, q2241, q160, zcw_in (by decide +kernel) q2242⟩, ⟨by decide +kernel, by decide +kernel, by decide +kernel⟩, Nat.le_of_ble_eq_true rfl, by decide⟩
abbrev zy_X3_put : zM := (yX3_put, cX3_put, 4, some .int)
theorem mi_X3_put : zMI zy_X3_put 3 3 := ⟨⟨RX3, TX3, 116, rfl, rfl, q2244, q2245, q160, zcw_in (by decide +kernel) q2246⟩, ⟨by decide +kernel, by decide +kernel, by decide +kernel⟩, Nat.le_of_ble_eq_true rfl, by decide⟩
abbrev zy_X3_get : zM := (yX3_get, cX3_get, 4, some .long)
theorem mi_X3_get : zMI zy_X3_get 3 2 := ⟨⟨RX3, TX3, 116, rfl, rfl, q2248, q2249, q160, zcw_in (by decide +kernel) q2250⟩, ⟨by decide +kernel, by decide +kernel, by decide +kernel⟩, Nat.le_of_ble_eq_true rfl, by decide⟩
abbrev zy_X3_copy : zM := (yX3_copy, cX3_copy, 7, some .int)
theorem mi_X3_copy : zMI zy_X3_copy 3 5 := ⟨⟨RX3, TX3, 116, rfl, rfl, q2253, q2254, q160, zcw_in (by decide +kernel) q2255⟩, ⟨by decide +kernel, by decide +kernel, by decide +kernel⟩, Nat.le_of_ble_eq_true rfl, by decide⟩
theorem fl_X3_80_3 : zFL RX3 80 3 35 := ⟨RX3, TX3, 116, "ClauseCourtModel", rfl, by decide, Or.inl q1907, Or.inl rfl, in_X3⟩
theorem fm_101_35 : ((101, ((35 : Nat) : Int), 125) : Int × Int × Int) ∈ zFin := by decide +kernel
theorem sa_125 : zSA 125 50 12 := by unfold zSA; decide +kernel
abbrev zy_X3_cut : zM := (yX3_cut, cX3_cut, 3, some .int)
theorem mi_X3_cut : zMI zy_X3_cut 3 2 := ⟨⟨RX3, TX3, 116, rfl, rfl, q2257, q2258, q160, zcw_in (by decide +kernel) q2259⟩, ⟨by decide +kernel, by decide +kernel, by decide +kernel⟩, Nat.le_of_ble_eq_true rfl, by decide⟩
abbrev zy_X3_feed : zM := (yX3_feed, cX3_feed, 5, some .int)
theorem mi_X3_feed : zMI zy_X3_feed 3 2 := ⟨⟨RX3, TX3, 116, rfl, rfl, q2261, q2262, q160, zcw_in (by decide +kernel) q2263⟩, ⟨by decide +kernel, by decide +kernel, by decide +kernel⟩, Nat.le_of_ble_eq_true rfl, by decide⟩
theorem fl_X3_259_3 : zFL RX3 259 3 8 := ⟨RX3, TX3, 116, "ClauseCourtModel", rfl, by decide, Or.inl q1880, Or.inl rfl, in_X3⟩
theorem fl_X3_23_3 : zFL RX3 23 3 7 := ⟨RX3, TX3, 116, "ClauseCourtModel", rfl, by decide, Or.inl q1879, Or.inl rfl, in_X3⟩
theorem fm_101_7 : ((101, ((7 : Nat) : Int), 106) : Int × Int × Int) ∈ zFin := by decide +kernel
theorem sa_106 : zSA 106 50 60 := by unfold zSA; decide +kernel
abbrev zy_X3_wipe : zM := (yX3_wipe, cX3_wipe, 2, some .int)
theorem mi_X3_wipe : zMI zy_X3_wipe 3 0 := ⟨⟨RX3, TX3, 116, rfl, rfl, q2266, q2267, q160, zcw_in (by decide +kernel) q2268⟩, ⟨by decide +kernel, by decide +kernel, by decide +kernel⟩, Nat.le_of_ble_eq_true rfl, by decide⟩
abbrev zy_X3_nameOf : zM := (yX3_nameOf, cX3_nameOf, 1, some .int)
theorem mi_X3_nameOf : zMS zy_X3_nameOf 1 := ⟨by decide +kernel, ⟨q2282, q160, zcw_in (by decide +kernel) q2283⟩, ⟨by decide +kernel, by decide +kernel, by decide +kernel⟩, Nat.le_of_ble_eq_true rfl⟩
abbrev zy_X3_wrongItem : zM := (yX3_wrongItem, cX3_wrongItem, 2, some .int)
theorem mi_X3_wrongItem : zMI zy_X3_wrongItem 3 1 := ⟨⟨RX3, TX3, 116, rfl, rfl, q2279, qs81, q160, zcw_in (by decide +kernel) q2280⟩, ⟨by decide +kernel, by decide +kernel, by decide +kernel⟩, Nat.le_of_ble_eq_true rfl, by decide⟩
theorem ml_X3_289 : zML RX3 289 zy_X3_nameOf := Or.inl q2281
abbrev zy_X3_takeItems : zM := (yX3_takeItems, cX3_takeItems, 4, some .int)
theorem mi_X3_takeItems : zMI zy_X3_takeItems 3 1 := ⟨⟨RX3, TX3, 116, rfl, rfl, q2275, qs80, q160, zcw_in (by decide +kernel) q2276⟩, ⟨by decide +kernel, by decide +kernel, by decide +kernel⟩, Nat.le_of_ble_eq_true rfl, by decide⟩
theorem fl_X3_292_3 : zFL RX3 292 3 42 := ⟨RX3, TX3, 116, "ClauseCourtModel", rfl, by decide, Or.inl q1914, Or.inl rfl, in_X3⟩
theorem fl_X3_86_3 : zFL RX3 86 3 41 := ⟨RX3, TX3, 116, "ClauseCourtModel", rfl, by decide, Or.inl q1913, Or.inl rfl, in_X3⟩
theorem fm_101_41 : ((101, ((41 : Nat) : Int), 127) : Int × Int × Int) ∈ zFin := by decide +kernel
theorem sa_127 : zSA 127 50 40 := by unfold zSA; decide +kernel
theorem ml_X3_295 : zML RX3 295 zy_X3_wrongItem := Or.inl q2277
abbrev zy_X3_beginLaying : zM := (yX3_beginLaying, cX3_beginLaying, 1, none)
theorem mi_X3_beginLaying : zMI zy_X3_beginLaying 3 0 := ⟨⟨RX3, TX3, 116, rfl, rfl, q2286, qs82, q160, zcw_in (by decide +kernel) q2287⟩, ⟨by decide +kernel, by decide +kernel, by decide +kernel⟩, Nat.le_of_ble_eq_true rfl, by decide⟩
theorem fl_X3_264_3 : zFL RX3 264 3 11 := ⟨RX3, TX3, 116, "ClauseCourtModel", rfl, by decide, Or.inl q1883, Or.inl rfl, in_X3⟩
theorem fl_X3_267_3 : zFL RX3 267 3 36 := ⟨RX3, TX3, 116, "ClauseCourtModel", rfl, by decide, Or.inl q1908, Or.inl rfl, in_X3⟩
theorem fl_X3_270_3 : zFL RX3 270 3 37 := ⟨RX3, TX3, 116, "ClauseCourtModel", rfl, by decide, Or.inl q1909, Or.inl rfl, in_X3⟩
theorem fl_X3_273_3 : zFL RX3 273 3 23 := ⟨RX3, TX3, 116, "ClauseCourtModel", rfl, by decide, Or.inl q1895, Or.inl rfl, in_X3⟩
theorem fl_X3_276_3 : zFL RX3 276 3 38 := ⟨RX3, TX3, 116, "ClauseCourtModel", rfl, by decide, Or.inl q1910, Or.inl rfl, in_X3⟩
theorem fl_X3_279_3 : zFL RX3 279 3 40 := ⟨RX3, TX3, 116, "ClauseCourtModel", rfl, by decide, Or.inl q1912, Or.inl rfl, in_X3⟩
abbrev zy_X3_lay : zM := (yX3_lay, cX3_lay, 4, none)
theorem mi_X3_lay : zMI zy_X3_lay 3 1 := ⟨⟨RX3, TX3, 116, rfl, rfl, q2290, qs83, q160, zcw_in (by decide +kernel) q2291⟩, ⟨by decide +kernel, by decide +kernel, by decide +kernel⟩, Nat.le_of_ble_eq_true rfl, by decide⟩
theorem fl_X3_83_3 : zFL RX3 83 3 39 := ⟨RX3, TX3, 116, "ClauseCourtModel", rfl, by decide, Or.inl q1911, Or.inl rfl, in_X3⟩
theorem fm_101_39 : ((101, ((39 : Nat) : Int), 126) : Int × Int × Int) ∈ zFin := by decide +kernel
theorem sa_126 : zSA 126 50 40 := by unfold zSA; decide +kernel
abbrev zy_X3_endRow : zM := (yX3_endRow, cX3_endRow, 2, none)
theorem mi_X3_endRow : zMI zy_X3_endRow 3 0 := ⟨⟨RX3, TX3, 116, rfl, rfl, q2294, qs84, q160, zcw_in (by decide +kernel) q2295⟩, ⟨by decide +kernel, by decide +kernel, by decide +kernel⟩, Nat.le_of_ble_eq_true rfl, by decide⟩
theorem fl_X3_62_3 : zFL RX3 62 3 24 := ⟨RX3, TX3, 116, "ClauseCourtModel", rfl, by decide, Or.inl q1896, Or.inl rfl, in_X3⟩
theorem fm_101_24 : ((101, ((24 : Nat) : Int), 119) : Int × Int × Int) ∈ zFin := by decide +kernel
theorem sa_119 : zSA 119 50 501 := by unfold zSA; decide +kernel
theorem fl_X3_65_3 : zFL RX3 65 3 25 := ⟨RX3, TX3, 116, "ClauseCourtModel", rfl, by decide, Or.inl q1897, Or.inl rfl, in_X3⟩
theorem fm_101_25 : ((101, ((25 : Nat) : Int), 120) : Int × Int × Int) ∈ zFin := by decide +kernel
theorem sa_120 : zSA 120 50 2600 := by unfold zSA; decide +kernel
abbrev zy_X3_keepRule : zM := (yX3_keepRule, cX3_keepRule, 6, some .int)
theorem mi_X3_keepRule : zMI zy_X3_keepRule 3 3 := ⟨⟨RX3, TX3, 116, rfl, rfl, q2298, qs85, q160, zcw_in (by decide +kernel) q2299⟩, ⟨by decide +kernel, by decide +kernel, by decide +kernel⟩, Nat.le_of_ble_eq_true rfl, by decide⟩
theorem fl_X3_29_3 : zFL RX3 29 3 12 := ⟨RX3, TX3, 116, "ClauseCourtModel", rfl, by decide, Or.inl q1884, Or.inl rfl, in_X3⟩
theorem fm_101_12 : ((101, ((12 : Nat) : Int), 108) : Int × Int × Int) ∈ zFin := by decide +kernel
theorem sa_108 : zSA 108 50 60 := by unfold zSA; decide +kernel
theorem fl_X3_32_3 : zFL RX3 32 3 13 := ⟨RX3, TX3, 116, "ClauseCourtModel", rfl, by decide, Or.inl q1885, Or.inl rfl, in_X3⟩
theorem fm_101_13 : ((101, ((13 : Nat) : Int), 109) : Int × Int × Int) ∈ zFin := by decide +kernel
theorem sa_109 : zSA 109 50 60 := by unfold zSA; decide +kernel
theorem fl_X3_35_3 : zFL RX3 35 3 14 := ⟨RX3, TX3, 116, "ClauseCourtModel", rfl, by decide, Or.inl q1886, Or.inl rfl, in_X3⟩
theorem fm_101_14 : ((101, ((14 : Nat) : Int), 110) : Int × Int × Int) ∈ zFin := by decide +kernel
theorem sa_110 : zSA 110 52 60 := by unfold zSA; decide +kernel
theorem fl_X3_38_3 : zFL RX3 38 3 15 := ⟨RX3, TX3, 116, "ClauseCourtModel", rfl, by decide, Or.inl q1887, Or.inl rfl, in_X3⟩
theorem fm_101_15 : ((101, ((15 : Nat) : Int), 111) : Int × Int × Int) ∈ zFin := by decide +kernel
theorem sa_111 : zSA 111 50 60 := by unfold zSA; decide +kernel
theorem fl_X3_41_3 : zFL RX3 41 3 16 := ⟨RX3, TX3, 116, "ClauseCourtModel", rfl, by decide, Or.inl q1888, Or.inl rfl, in_X3⟩
theorem fm_101_16 : ((101, ((16 : Nat) : Int), 112) : Int × Int × Int) ∈ zFin := by decide +kernel
theorem sa_112 : zSA 112 50 1800 := by unfold zSA; decide +kernel
theorem fl_X3_44_3 : zFL RX3 44 3 17 := ⟨RX3, TX3, 116, "ClauseCourtModel", rfl, by decide, Or.inl q1889, Or.inl rfl, in_X3⟩
theorem fm_101_17 : ((101, ((17 : Nat) : Int), 113) : Int × Int × Int) ∈ zFin := by decide +kernel
theorem sa_113 : zSA 113 50 60 := by unfold zSA; decide +kernel
theorem fl_X3_47_3 : zFL RX3 47 3 18 := ⟨RX3, TX3, 116, "ClauseCourtModel", rfl, by decide, Or.inl q1890, Or.inl rfl, in_X3⟩
theorem fm_101_18 : ((101, ((18 : Nat) : Int), 114) : Int × Int × Int) ∈ zFin := by decide +kernel
theorem sa_114 : zSA 114 50 60 := by unfold zSA; decide +kernel
abbrev zy_X3_clause : zM := (yX3_clause, cX3_clause, 4, some .int)
theorem mi_X3_clause : zMI zy_X3_clause 3 1 := ⟨⟨RX3, TX3, 116, rfl, rfl, q2270, q2271, q160, zcw_in (by decide +kernel) q2272⟩, ⟨by decide +kernel, by decide +kernel, by decide +kernel⟩, Nat.le_of_ble_eq_true rfl, by decide⟩
theorem ml_X3_310 : zML RX3 310 zy_X3_takeItems := Or.inl q2273
theorem ml_X3_313 : zML RX3 313 zy_X3_beginLaying := Or.inl q2284
theorem ml_X3_286 : zML RX3 286 zy_X3_endRow := Or.inl q2292
theorem ml_X3_316 : zML RX3 316 zy_X3_keepRule := Or.inl q2296
theorem ml_X3_282 : zML RX3 282 zy_X3_lay := Or.inl q2288
abbrev zy_X3_newName : zM := (yX3_newName, cX3_newName, 1, some .int)
theorem mi_X3_newName : zMI zy_X3_newName 3 0 := ⟨⟨RX3, TX3, 116, rfl, rfl, q2314, qs88, q160, zcw_in (by decide +kernel) q2315⟩, ⟨by decide +kernel, by decide +kernel, by decide +kernel⟩, Nat.le_of_ble_eq_true rfl, by decide⟩
abbrev zy_X3_layTwo : zM := (yX3_layTwo, cX3_layTwo, 3, none)
theorem mi_X3_layTwo : zMI zy_X3_layTwo 3 2 := ⟨⟨RX3, TX3, 116, rfl, rfl, q2318, qs89, q160, zcw_in (by decide +kernel) q2319⟩, ⟨by decide +kernel, by decide +kernel, by decide +kernel⟩, Nat.le_of_ble_eq_true rfl, by decide⟩
abbrev zy_X3_layThree : zM := (yX3_layThree, cX3_layThree, 4, none)
theorem mi_X3_layThree : zMI zy_X3_layThree 3 3 := ⟨⟨RX3, TX3, 116, rfl, rfl, q2322, qs90, q160, zcw_in (by decide +kernel) q2323⟩, ⟨by decide +kernel, by decide +kernel, by decide +kernel⟩, Nat.le_of_ble_eq_true rfl, by decide⟩
abbrev zy_X3_layAtMost : zM := (yX3_layAtMost, cX3_layAtMost, 9, none)
theorem mi_X3_layAtMost : zMI zy_X3_layAtMost 3 2 := ⟨⟨RX3, TX3, 116, rfl, rfl, q2310, qs87, q160, zcw_in (by decide +kernel) q2311⟩, ⟨by decide +kernel, by decide +kernel, by decide +kernel⟩, Nat.le_of_ble_eq_true rfl, by decide⟩
theorem ml_X3_298 : zML RX3 298 zy_X3_newName := Or.inl q2312
theorem fl_X3_92_3 : zFL RX3 92 3 44 := ⟨RX3, TX3, 116, "ClauseCourtModel", rfl, by decide, Or.inl q1916, Or.inl rfl, in_X3⟩
theorem fm_101_44 : ((101, ((44 : Nat) : Int), 129) : Int × Int × Int) ∈ zFin := by decide +kernel
theorem sa_129 : zSA 129 50 14 := by unfold zSA; decide +kernel
theorem ml_X3_306 : zML RX3 306 zy_X3_layThree := Or.inl q2320
theorem fl_X3_89_3 : zFL RX3 89 3 43 := ⟨RX3, TX3, 116, "ClauseCourtModel", rfl, by decide, Or.inl q1915, Or.inl rfl, in_X3⟩
theorem fm_101_43 : ((101, ((43 : Nat) : Int), 128) : Int × Int × Int) ∈ zFin := by decide +kernel
theorem sa_128 : zSA 128 50 14 := by unfold zSA; decide +kernel
theorem ml_X3_302 : zML RX3 302 zy_X3_layTwo := Or.inl q2316
abbrev zy_X3_summed : zM := (yX3_summed, cX3_summed, 5, some .int)
theorem mi_X3_summed : zMI zy_X3_summed 3 3 := ⟨⟨RX3, TX3, 116, rfl, rfl, q2306, qs86, q160, zcw_in (by decide +kernel) q2307⟩, ⟨by decide +kernel, by decide +kernel, by decide +kernel⟩, Nat.le_of_ble_eq_true rfl, by decide⟩
theorem ml_X3_320 : zML RX3 320 zy_X3_layAtMost := Or.inl q2308
abbrev zy_X3_atMost : zM := (yX3_atMost, cX3_atMost, 3, some .int)
theorem mi_X3_atMost : zMI zy_X3_atMost 3 2 := ⟨⟨RX3, TX3, 116, rfl, rfl, q2301, q2302, q160, zcw_in (by decide +kernel) q2303⟩, ⟨by decide +kernel, by decide +kernel, by decide +kernel⟩, Nat.le_of_ble_eq_true rfl, by decide⟩
theorem ml_X3_324 : zML RX3 324 zy_X3_summed := Or.inl q2304
abbrev zy_X3_group : zM := (yX3_group, cX3_group, 3, some .int)
theorem mi_X3_group : zMI zy_X3_group 3 2 := ⟨⟨RX3, TX3, 116, rfl, rfl, q2325, q2326, q160, zcw_in (by decide +kernel) q2327⟩, ⟨by decide +kernel, by decide +kernel, by decide +kernel⟩, Nat.le_of_ble_eq_true rfl, by decide⟩
abbrev zy_X3_layParity : zM := (yX3_layParity, cX3_layParity, 6, none)
theorem mi_X3_layParity : zMI zy_X3_layParity 3 1 := ⟨⟨RX3, TX3, 116, rfl, rfl, q2334, qs91, q160, zcw_in (by decide +kernel) q2335⟩, ⟨by decide +kernel, by decide +kernel, by decide +kernel⟩, Nat.le_of_ble_eq_true rfl, by decide⟩
abbrev zy_X3_parity : zM := (yX3_parity, cX3_parity, 4, some .int)
theorem mi_X3_parity : zMI zy_X3_parity 3 2 := ⟨⟨RX3, TX3, 116, rfl, rfl, q2329, q2330, q160, zcw_in (by decide +kernel) q2331⟩, ⟨by decide +kernel, by decide +kernel, by decide +kernel⟩, Nat.le_of_ble_eq_true rfl, by decide⟩
theorem ml_X3_327 : zML RX3 327 zy_X3_layParity := Or.inl q2332
abbrev zy_X3_byteAt : zM := (yX3_byteAt, cX3_byteAt, 2, some .int)
theorem mi_X3_byteAt : zMI zy_X3_byteAt 3 1 := ⟨⟨RX3, TX3, 116, rfl, rfl, q2350, qs94, q160, zcw_in (by decide +kernel) q2351⟩, ⟨by decide +kernel, by decide +kernel, by decide +kernel⟩, Nat.le_of_ble_eq_true rfl, by decide⟩
abbrev zy_X3_isDigit : zM := (yX3_isDigit, cX3_isDigit, 1, some .boolean)
theorem mi_X3_isDigit : zMS zy_X3_isDigit 1 := ⟨by decide +kernel, ⟨q2353, q160, zcw_in (by decide +kernel) q2354⟩, ⟨by decide +kernel, by decide +kernel, by decide +kernel⟩, Nat.le_of_ble_eq_true rfl⟩
abbrev zy_X3_beginPart : zM := (yX3_beginPart, cX3_beginPart, 4, some .boolean)
theorem mi_X3_beginPart : zMI zy_X3_beginPart 3 0 := ⟨⟨RX3, TX3, 116, rfl, rfl, q2346, qs93, q160, zcw_in (by decide +kernel) q2347⟩, ⟨by decide +kernel, by decide +kernel, by decide +kernel⟩, Nat.le_of_ble_eq_true rfl, by decide⟩
theorem fl_X3_331_3 : zFL RX3 331 3 51 := ⟨RX3, TX3, 116, "ClauseCourtModel", rfl, by decide, Or.inl q1923, Or.inl rfl, in_X3⟩
theorem ml_X3_334 : zML RX3 334 zy_X3_byteAt := Or.inl q2348
theorem fl_X3_337_3 : zFL RX3 337 3 49 := ⟨RX3, TX3, 116, "ClauseCourtModel", rfl, by decide, Or.inl q1921, Or.inl rfl, in_X3⟩
theorem fl_X3_98_3 : zFL RX3 98 3 47 := ⟨RX3, TX3, 116, "ClauseCourtModel", rfl, by decide, Or.inl q1919, Or.inl rfl, in_X3⟩
theorem fm_101_47 : ((101, ((47 : Nat) : Int), 131) : Int × Int × Int) ∈ zFin := by decide +kernel
theorem sa_131 : zSA 131 50 60 := by unfold zSA; decide +kernel
theorem fl_X3_101_3 : zFL RX3 101 3 48 := ⟨RX3, TX3, 116, "ClauseCourtModel", rfl, by decide, Or.inl q1920, Or.inl rfl, in_X3⟩
theorem fm_101_48 : ((101, ((48 : Nat) : Int), 132) : Int × Int × Int) ∈ zFin := by decide +kernel
theorem sa_132 : zSA 132 50 60 := by unfold zSA; decide +kernel
theorem fl_X3_349_3 : zFL RX3 349 3 50 := ⟨RX3, TX3, 116, "ClauseCourtModel", rfl, by decide, Or.inl q1922, Or.inl rfl, in_X3⟩
theorem ml_X3_340 : zML RX3 340 zy_X3_isDigit := Or.inl q2352
theorem fl_X3_95_3 : zFL RX3 95 3 45 := ⟨RX3, TX3, 116, "ClauseCourtModel", rfl, by decide, Or.inl q1917, Or.inl rfl, in_X3⟩
theorem fm_101_45 : ((101, ((45 : Nat) : Int), 130) : Int × Int × Int) ∈ zFin := by decide +kernel
theorem fl_X3_343_3 : zFL RX3 343 3 46 := ⟨RX3, TX3, 116, "ClauseCourtModel", rfl, by decide, Or.inl q1918, Or.inl rfl, in_X3⟩
theorem sa_130 : zSA 130 50 60 := by unfold zSA; decide +kernel
theorem fl_X3_346_3 : zFL RX3 346 3 52 := ⟨RX3, TX3, 116, "ClauseCourtModel", rfl, by decide, Or.inl q1924, Or.inl rfl, in_X3⟩
abbrev zy_X3_endPart : zM := (yX3_endPart, cX3_endPart, 4, some .boolean)
theorem mi_X3_endPart : zMI zy_X3_endPart 3 0 := ⟨⟨RX3, TX3, 116, rfl, rfl, q2357, qs95, q160, zcw_in (by decide +kernel) q2358⟩, ⟨by decide +kernel, by decide +kernel, by decide +kernel⟩, Nat.le_of_ble_eq_true rfl, by decide⟩
abbrev zy_X3_faultOfTape : zM := (yX3_faultOfTape, cX3_faultOfTape, 2, some .int)
theorem mi_X3_faultOfTape : zMI zy_X3_faultOfTape 3 0 := ⟨⟨RX3, TX3, 116, rfl, rfl, q2342, qs92, q160, zcw_in (by decide +kernel) q2343⟩, ⟨by decide +kernel, by decide +kernel, by decide +kernel⟩, Nat.le_of_ble_eq_true rfl, by decide⟩
theorem ml_X3_356 : zML RX3 356 zy_X3_endPart := Or.inl q2355
theorem ml_X3_352 : zML RX3 352 zy_X3_beginPart := Or.inl q2344
abbrev zy_X3_layJust : zM := (yX3_layJust, cX3_layJust, 6, none)
theorem mi_X3_layJust : zMI zy_X3_layJust 3 3 := ⟨⟨RX3, TX3, 116, rfl, rfl, q2365, qs97, q160, zcw_in (by decide +kernel) q2366⟩, ⟨by decide +kernel, by decide +kernel, by decide +kernel⟩, Nat.le_of_ble_eq_true rfl, by decide⟩
theorem fl_X3_104_3 : zFL RX3 104 3 53 := ⟨RX3, TX3, 116, "ClauseCourtModel", rfl, by decide, Or.inl q1925, Or.inl rfl, in_X3⟩
theorem fm_101_53 : ((101, ((53 : Nat) : Int), 133) : Int × Int × Int) ∈ zFin := by decide +kernel
theorem sa_133 : zSA 133 50 60 := by unfold zSA; decide +kernel
abbrev zy_X3_layPart : zM := (yX3_layPart, cX3_layPart, 8, none)
theorem mi_X3_layPart : zMI zy_X3_layPart 3 1 := ⟨⟨RX3, TX3, 116, rfl, rfl, q2361, qs96, q160, zcw_in (by decide +kernel) q2362⟩, ⟨by decide +kernel, by decide +kernel, by decide +kernel⟩, Nat.le_of_ble_eq_true rfl, by decide⟩
theorem fl_X3_359_3 : zFL RX3 359 3 54 := ⟨RX3, TX3, 116, "ClauseCourtModel", rfl, by decide, Or.inl q1926, Or.inl rfl, in_X3⟩
theorem ml_X3_362 : zML RX3 362 zy_X3_layJust := Or.inl q2363
abbrev zy_X3_told : zM := (yX3_told, cX3_told, 6, some .int)
theorem mi_X3_told : zMI zy_X3_told 3 0 := ⟨⟨RX3, TX3, 116, rfl, rfl, q2337, q2338, q160, zcw_in (by decide +kernel) q2339⟩, ⟨by decide +kernel, by decide +kernel, by decide +kernel⟩, Nat.le_of_ble_eq_true rfl, by decide⟩
theorem ml_X3_365 : zML RX3 365 zy_X3_faultOfTape := Or.inl q2340
theorem ml_X3_368 : zML RX3 368 zy_X3_layPart := Or.inl q2359
theorem fl_X3_53_3 : zFL RX3 53 3 20 := ⟨RX3, TX3, 116, "ClauseCourtModel", rfl, by decide, Or.inl q1892, Or.inl rfl, in_X3⟩
theorem fm_101_20 : ((101, ((20 : Nat) : Int), 116) : Int × Int × Int) ∈ zFin := by decide +kernel
theorem sa_116 : zSA 116 50 60 := by unfold zSA; decide +kernel
theorem fl_X3_50_3 : zFL RX3 50 3 19 := ⟨RX3, TX3, 116, "ClauseCourtModel", rfl, by decide, Or.inl q1891, Or.inl rfl, in_X3⟩
theorem fm_101_19 : ((101, ((19 : Nat) : Int), 115) : Int × Int × Int) ∈ zFin := by decide +kernel
theorem sa_115 : zSA 115 50 3600 := by unfold zSA; decide +kernel
theorem fl_X3_59_3 : zFL RX3 59 3 22 := ⟨RX3, TX3, 116, "ClauseCourtModel", rfl, by decide, Or.inl q1894, Or.inl rfl, in_X3⟩
theorem fm_101_22 : ((101, ((22 : Nat) : Int), 118) : Int × Int × Int) ∈ zFin := by decide +kernel
theorem sa_118 : zSA 118 50 60 := by unfold zSA; decide +kernel
theorem fl_X3_56_3 : zFL RX3 56 3 21 := ⟨RX3, TX3, 116, "ClauseCourtModel", rfl, by decide, Or.inl q1893, Or.inl rfl, in_X3⟩
theorem fm_101_21 : ((101, ((21 : Nat) : Int), 117) : Int × Int × Int) ∈ zFin := by decide +kernel
theorem sa_117 : zSA 117 50 3600 := by unfold zSA; decide +kernel
abbrev zy_X3_isRule : zM := (yX3_isRule, cX3_isRule, 2, some .boolean)
theorem mi_X3_isRule : zMI zy_X3_isRule 3 1 := ⟨⟨RX3, TX3, 116, rfl, rfl, q2373, qs98, q160, zcw_in (by decide +kernel) q2374⟩, ⟨by decide +kernel, by decide +kernel, by decide +kernel⟩, Nat.le_of_ble_eq_true rfl, by decide⟩
abbrev zy_X3_kind : zM := (yX3_kind, cX3_kind, 2, some .int)
theorem mi_X3_kind : zMI zy_X3_kind 3 1 := ⟨⟨RX3, TX3, 116, rfl, rfl, q2368, q2369, q160, zcw_in (by decide +kernel) q2370⟩, ⟨by decide +kernel, by decide +kernel, by decide +kernel⟩, Nat.le_of_ble_eq_true rfl, by decide⟩
theorem ml_X3_371 : zML RX3 371 zy_X3_isRule := Or.inl q2371
abbrev zy_X3_as : zM := (yX3_as, cX3_as, 5, some .int)
theorem mi_X3_as : zMI zy_X3_as 3 2 := ⟨⟨RX3, TX3, 116, rfl, rfl, q2376, q2377, q160, zcw_in (by decide +kernel) q2378⟩, ⟨by decide +kernel, by decide +kernel, by decide +kernel⟩, Nat.le_of_ble_eq_true rfl, by decide⟩
abbrev zy_X3_item : zM := (yX3_item, cX3_item, 3, some .int)
theorem mi_X3_item : zMI zy_X3_item 3 2 := ⟨⟨RX3, TX3, 116, rfl, rfl, q2380, q2381, q160, zcw_in (by decide +kernel) q2382⟩, ⟨by decide +kernel, by decide +kernel, by decide +kernel⟩, Nat.le_of_ble_eq_true rfl, by decide⟩
abbrev zy_X3_rows : zM := (yX3_rows, cX3_rows, 3, some .int)
theorem mi_X3_rows : zMI zy_X3_rows 3 2 := ⟨⟨RX3, TX3, 116, rfl, rfl, q2384, q2385, q160, zcw_in (by decide +kernel) q2386⟩, ⟨by decide +kernel, by decide +kernel, by decide +kernel⟩, Nat.le_of_ble_eq_true rfl, by decide⟩
abbrev zy_X3_sizeOf : zM := (yX3_sizeOf, cX3_sizeOf, 3, some .int)
theorem mi_X3_sizeOf : zMI zy_X3_sizeOf 3 2 := ⟨⟨RX3, TX3, 116, rfl, rfl, q2393, qs99, q160, zcw_in (by decide +kernel) q2394⟩, ⟨by decide +kernel, by decide +kernel, by decide +kernel⟩, Nat.le_of_ble_eq_true rfl, by decide⟩
theorem fl_X3_162_3 : zFL RX3 162 3 78 := ⟨RX3, TX3, 116, "ClauseCourtModel", rfl, by decide, Or.inl q1950, Or.inl rfl, in_X3⟩
theorem fm_101_78 : ((101, ((78 : Nat) : Int), 152) : Int × Int × Int) ∈ zFin := by decide +kernel
theorem sa_152 : zSA 152 50 1602 := by unfold zSA; decide +kernel
theorem fl_X3_74_3 : zFL RX3 74 3 33 := ⟨RX3, TX3, 116, "ClauseCourtModel", rfl, by decide, Or.inl q1905, Or.inl rfl, in_X3⟩
theorem fm_101_33 : ((101, ((33 : Nat) : Int), 123) : Int × Int × Int) ∈ zFin := by decide +kernel
theorem fl_X3_442_3 : zFL RX3 442 3 66 := ⟨RX3, TX3, 116, "ClauseCourtModel", rfl, by decide, Or.inl q1938, Or.inl rfl, in_X3⟩
theorem sa_123 : zSA 123 50 130 := by unfold zSA; decide +kernel
abbrev zy_X3_itemOf : zM := (yX3_itemOf, cX3_itemOf, 4, some .int)
theorem mi_X3_itemOf : zMI zy_X3_itemOf 3 3 := ⟨⟨RX3, TX3, 116, rfl, rfl, q2397, qs100, q160, zcw_in (by decide +kernel) q2398⟩, ⟨by decide +kernel, by decide +kernel, by decide +kernel⟩, Nat.le_of_ble_eq_true rfl, by decide⟩
theorem fl_X3_165_3 : zFL RX3 165 3 79 := ⟨RX3, TX3, 116, "ClauseCourtModel", rfl, by decide, Or.inl q1951, Or.inl rfl, in_X3⟩
theorem fm_101_79 : ((101, ((79 : Nat) : Int), 153) : Int × Int × Int) ∈ zFin := by decide +kernel
theorem sa_153 : zSA 153 50 16100 := by unfold zSA; decide +kernel
theorem fl_X3_77_3 : zFL RX3 77 3 34 := ⟨RX3, TX3, 116, "ClauseCourtModel", rfl, by decide, Or.inl q1906, Or.inl rfl, in_X3⟩
theorem fm_101_34 : ((101, ((34 : Nat) : Int), 124) : Int × Int × Int) ∈ zFin := by decide +kernel
theorem sa_124 : zSA 124 50 2600 := by unfold zSA; decide +kernel
abbrev zy_X3_line : zM := (yX3_line, cX3_line, 4, some .int)
theorem mi_X3_line : zMI zy_X3_line 3 2 := ⟨⟨RX3, TX3, 116, rfl, rfl, q2388, q2389, q160, zcw_in (by decide +kernel) q2390⟩, ⟨by decide +kernel, by decide +kernel, by decide +kernel⟩, Nat.le_of_ble_eq_true rfl, by decide⟩
theorem fl_X3_374_3 : zFL RX3 374 3 32 := ⟨RX3, TX3, 116, "ClauseCourtModel", rfl, by decide, Or.inl q1904, Or.inl rfl, in_X3⟩
theorem ml_X3_377 : zML RX3 377 zy_X3_sizeOf := Or.inl q2391
theorem ml_X3_381 : zML RX3 381 zy_X3_itemOf := Or.inl q2395
theorem fl_X3_171_3 : zFL RX3 171 3 81 := ⟨RX3, TX3, 116, "ClauseCourtModel", rfl, by decide, Or.inl q1953, Or.inl rfl, in_X3⟩
theorem fm_101_81 : ((101, ((81 : Nat) : Int), 155) : Int × Int × Int) ∈ zFin := by decide +kernel
theorem sa_155 : zSA 155 50 2 := by unfold zSA; decide +kernel
abbrev zy_X3_mark : zM := (yX3_mark, cX3_mark, 2, none)
theorem mi_X3_mark : zMI zy_X3_mark 3 1 := ⟨⟨RX3, TX3, 116, rfl, rfl, q2409, qs102, q160, zcw_in (by decide +kernel) q2410⟩, ⟨by decide +kernel, by decide +kernel, by decide +kernel⟩, Nat.le_of_ble_eq_true rfl, by decide⟩
theorem fl_X3_68_3 : zFL RX3 68 3 26 := ⟨RX3, TX3, 116, "ClauseCourtModel", rfl, by decide, Or.inl q1898, Or.inl rfl, in_X3⟩
theorem fm_101_26 : ((101, ((26 : Nat) : Int), 121) : Int × Int × Int) ∈ zFin := by decide +kernel
theorem fl_X3_385_3 : zFL RX3 385 3 27 := ⟨RX3, TX3, 116, "ClauseCourtModel", rfl, by decide, Or.inl q1899, Or.inl rfl, in_X3⟩
theorem sa_121 : zSA 121 50 100 := by unfold zSA; decide +kernel
abbrev zy_X3_isTrue : zM := (yX3_isTrue, cX3_isTrue, 2, some .boolean)
theorem mi_X3_isTrue : zMI zy_X3_isTrue 3 1 := ⟨⟨RX3, TX3, 116, rfl, rfl, q2417, qs104, q160, zcw_in (by decide +kernel) q2418⟩, ⟨by decide +kernel, by decide +kernel, by decide +kernel⟩, Nat.le_of_ble_eq_true rfl, by decide⟩
theorem fl_X3_113_3 : zFL RX3 113 3 60 := ⟨RX3, TX3, 116, "ClauseCourtModel", rfl, by decide, Or.inl q1932, Or.inl rfl, in_X3⟩
theorem fm_101_60 : ((101, ((60 : Nat) : Int), 136) : Int × Int × Int) ∈ zFin := by decide +kernel
theorem sa_136 : zSA 136 50 301 := by unfold zSA; decide +kernel
abbrev zy_X3_isTextSo : zM := (yX3_isTextSo, cX3_isTextSo, 10, some .boolean)
theorem mi_X3_isTextSo : zMI zy_X3_isTextSo 3 1 := ⟨⟨RX3, TX3, 116, rfl, rfl, q2413, qs103, q160, zcw_in (by decide +kernel) q2414⟩, ⟨by decide +kernel, by decide +kernel, by decide +kernel⟩, Nat.le_of_ble_eq_true rfl, by decide⟩
theorem fl_X3_107_3 : zFL RX3 107 3 55 := ⟨RX3, TX3, 116, "ClauseCourtModel", rfl, by decide, Or.inl q1927, Or.inl rfl, in_X3⟩
theorem fm_101_55 : ((101, ((55 : Nat) : Int), 134) : Int × Int × Int) ∈ zFin := by decide +kernel
theorem sa_134 : zSA 134 52 60 := by unfold zSA; decide +kernel
theorem ml_X3_388 : zML RX3 388 zy_X3_isTrue := Or.inl q2415
abbrev zy_X3_truesOf : zM := (yX3_truesOf, cX3_truesOf, 4, some .int)
theorem mi_X3_truesOf : zMI zy_X3_truesOf 3 1 := ⟨⟨RX3, TX3, 116, rfl, rfl, q2421, qs105, q160, zcw_in (by decide +kernel) q2422⟩, ⟨by decide +kernel, by decide +kernel, by decide +kernel⟩, Nat.le_of_ble_eq_true rfl, by decide⟩
abbrev zy_X3_holds : zM := (yX3_holds, cX3_holds, 4, some .boolean)
theorem mi_X3_holds : zMI zy_X3_holds 3 1 := ⟨⟨RX3, TX3, 116, rfl, rfl, q2405, qs101, q160, zcw_in (by decide +kernel) q2406⟩, ⟨by decide +kernel, by decide +kernel, by decide +kernel⟩, Nat.le_of_ble_eq_true rfl, by decide⟩
theorem ml_X3_391 : zML RX3 391 zy_X3_mark := Or.inl q2407
theorem ml_X3_397 : zML RX3 397 zy_X3_truesOf := Or.inl q2419
theorem ml_X3_394 : zML RX3 394 zy_X3_isTextSo := Or.inl q2411
abbrev zy_X3_leastTrue : zM := (yX3_leastTrue, cX3_leastTrue, 3, some .int)
theorem mi_X3_leastTrue : zMI zy_X3_leastTrue 3 2 := ⟨⟨RX3, TX3, 116, rfl, rfl, q2425, qs106, q160, zcw_in (by decide +kernel) q2426⟩, ⟨by decide +kernel, by decide +kernel, by decide +kernel⟩, Nat.le_of_ble_eq_true rfl, by decide⟩
abbrev zy_X3_mostTrue : zM := (yX3_mostTrue, cX3_mostTrue, 4, some .int)
theorem mi_X3_mostTrue : zMI zy_X3_mostTrue 3 2 := ⟨⟨RX3, TX3, 116, rfl, rfl, q2429, qs107, q160, zcw_in (by decide +kernel) q2430⟩, ⟨by decide +kernel, by decide +kernel, by decide +kernel⟩, Nat.le_of_ble_eq_true rfl, by decide⟩
abbrev zy_X3_ask : zM := (yX3_ask, cX3_ask, 3, some .int)
theorem mi_X3_ask : zMI zy_X3_ask 3 2 := ⟨⟨RX3, TX3, 116, rfl, rfl, q2400, q2401, q160, zcw_in (by decide +kernel) q2402⟩, ⟨by decide +kernel, by decide +kernel, by decide +kernel⟩, Nat.le_of_ble_eq_true rfl, by decide⟩
theorem fl_X3_131_3 : zFL RX3 131 3 68 := ⟨RX3, TX3, 116, "ClauseCourtModel", rfl, by decide, Or.inl q1940, Or.inl rfl, in_X3⟩
theorem fm_101_68 : ((101, ((68 : Nat) : Int), 142) : Int × Int × Int) ∈ zFin := by decide +kernel
theorem sa_142 : zSA 142 50 2 := by unfold zSA; decide +kernel
theorem ml_X3_403 : zML RX3 403 zy_X3_holds := Or.inl q2403
theorem ml_X3_406 : zML RX3 406 zy_X3_leastTrue := Or.inl q2423
theorem ml_X3_409 : zML RX3 409 zy_X3_mostTrue := Or.inl q2427
theorem fl_X3_400_3 : zFL RX3 400 3 59 := ⟨RX3, TX3, 116, "ClauseCourtModel", rfl, by decide, Or.inl q1931, Or.inl rfl, in_X3⟩
abbrev zy_X3_write : zM := (yX3_write, cX3_write, 2, none)
theorem mi_X3_write : zMI zy_X3_write 3 1 := ⟨⟨RX3, TX3, 116, rfl, rfl, q2437, qs108, q160, zcw_in (by decide +kernel) q2438⟩, ⟨by decide +kernel, by decide +kernel, by decide +kernel⟩, Nat.le_of_ble_eq_true rfl, by decide⟩
theorem fl_X3_26_3 : zFL RX3 26 3 9 := ⟨RX3, TX3, 116, "ClauseCourtModel", rfl, by decide, Or.inl q1881, Or.inl rfl, in_X3⟩
theorem fm_101_9 : ((101, ((9 : Nat) : Int), 107) : Int × Int × Int) ∈ zFin := by decide +kernel
theorem fl_X3_412_3 : zFL RX3 412 3 10 := ⟨RX3, TX3, 116, "ClauseCourtModel", rfl, by decide, Or.inl q1882, Or.inl rfl, in_X3⟩
theorem sa_107 : zSA 107 50 16384 := by unfold zSA; decide +kernel
abbrev zy_X3_writeWord : zM := (yX3_writeWord, cX3_writeWord, 3, none)
theorem mi_X3_writeWord : zMI zy_X3_writeWord 3 1 := ⟨⟨RX3, TX3, 116, rfl, rfl, q2441, qs109, q160, zcw_in (by decide +kernel) q2442⟩, ⟨by decide +kernel, by decide +kernel, by decide +kernel⟩, Nat.le_of_ble_eq_true rfl, by decide⟩
theorem fl_X3_110_3 : zFL RX3 110 3 56 := ⟨RX3, TX3, 116, "ClauseCourtModel", rfl, by decide, Or.inl q1928, Or.inl rfl, in_X3⟩
theorem fm_101_56 : ((101, ((56 : Nat) : Int), 135) : Int × Int × Int) ∈ zFin := by decide +kernel
theorem sa_135 : zSA 135 50 26 := by unfold zSA; decide +kernel
theorem ml_X3_415 : zML RX3 415 zy_X3_write := Or.inl q2435
abbrev zy_X3_writeNumber : zM := (yX3_writeNumber, cX3_writeNumber, 3, none)
theorem mi_X3_writeNumber : zMI zy_X3_writeNumber 3 1 := ⟨⟨RX3, TX3, 116, rfl, rfl, q2445, qs110, q160, zcw_in (by decide +kernel) q2446⟩, ⟨by decide +kernel, by decide +kernel, by decide +kernel⟩, Nat.le_of_ble_eq_true rfl, by decide⟩
abbrev zy_X3_writeList : zM := (yX3_writeList, cX3_writeList, 3, none)
theorem mi_X3_writeList : zMI zy_X3_writeList 3 1 := ⟨⟨RX3, TX3, 116, rfl, rfl, q2449, qs111, q160, zcw_in (by decide +kernel) q2450⟩, ⟨by decide +kernel, by decide +kernel, by decide +kernel⟩, Nat.le_of_ble_eq_true rfl, by decide⟩
theorem ml_X3_418 : zML RX3 418 zy_X3_writeNumber := Or.inl q2443
abbrev zy_X3_print : zM := (yX3_print, cX3_print, 4, some .int)
theorem mi_X3_print : zMI zy_X3_print 3 1 := ⟨⟨RX3, TX3, 116, rfl, rfl, q2432, q2433, q160, zcw_in (by decide +kernel) q2434⟩, ⟨by decide +kernel, by decide +kernel, by decide +kernel⟩, Nat.le_of_ble_eq_true rfl, by decide⟩
theorem ml_X3_421 : zML RX3 421 zy_X3_writeWord := Or.inl q2439
theorem ml_X3_424 : zML RX3 424 zy_X3_writeList := Or.inl q2447
abbrev zy_X3_export : zM := (yX3_export, cX3_export, 3, some .int)
theorem mi_X3_export : zMI zy_X3_export 3 0 := ⟨⟨RX3, TX3, 116, rfl, rfl, q2452, q2453, q160, zcw_in (by decide +kernel) q2454⟩, ⟨by decide +kernel, by decide +kernel, by decide +kernel⟩, Nat.le_of_ble_eq_true rfl, by decide⟩
abbrev zy_X3_out : zM := (yX3_out, cX3_out, 2, some .int)
theorem mi_X3_out : zMI zy_X3_out 3 1 := ⟨⟨RX3, TX3, 116, rfl, rfl, q2456, q2457, q160, zcw_in (by decide +kernel) q2458⟩, ⟨by decide +kernel, by decide +kernel, by decide +kernel⟩, Nat.le_of_ble_eq_true rfl, by decide⟩
abbrev zy_X3_trace : zM := (yX3_trace, cX3_trace, 2, some .int)
theorem mi_X3_trace : zMI zy_X3_trace 3 1 := ⟨⟨RX3, TX3, 116, rfl, rfl, q2460, q2461, q160, zcw_in (by decide +kernel) q2462⟩, ⟨by decide +kernel, by decide +kernel, by decide +kernel⟩, Nat.le_of_ble_eq_true rfl, by decide⟩
abbrev zy_X3_wrongToAssume : zM := (yX3_wrongToAssume, cX3_wrongToAssume, 4, some .int)
theorem mi_X3_wrongToAssume : zMI zy_X3_wrongToAssume 3 1 := ⟨⟨RX3, TX3, 116, rfl, rfl, q2469, qs112, q160, zcw_in (by decide +kernel) q2470⟩, ⟨by decide +kernel, by decide +kernel, by decide +kernel⟩, Nat.le_of_ble_eq_true rfl, by decide⟩
theorem fl_X3_427_3 : zFL RX3 427 3 29 := ⟨RX3, TX3, 116, "ClauseCourtModel", rfl, by decide, Or.inl q1901, Or.inl rfl, in_X3⟩
theorem fl_X3_71_3 : zFL RX3 71 3 28 := ⟨RX3, TX3, 116, "ClauseCourtModel", rfl, by decide, Or.inl q1900, Or.inl rfl, in_X3⟩
theorem fm_101_28 : ((101, ((28 : Nat) : Int), 122) : Int × Int × Int) ∈ zFin := by decide +kernel
theorem sa_122 : zSA 122 50 20 := by unfold zSA; decide +kernel
abbrev zy_X3_assume : zM := (yX3_assume, cX3_assume, 3, some .int)
theorem mi_X3_assume : zMI zy_X3_assume 3 1 := ⟨⟨RX3, TX3, 116, rfl, rfl, q2464, q2465, q160, zcw_in (by decide +kernel) q2466⟩, ⟨by decide +kernel, by decide +kernel, by decide +kernel⟩, Nat.le_of_ble_eq_true rfl, by decide⟩
theorem ml_X3_430 : zML RX3 430 zy_X3_wrongToAssume := Or.inl q2467
abbrev zy_X3_free : zM := (yX3_free, cX3_free, 2, some .int)
theorem mi_X3_free : zMI zy_X3_free 3 0 := ⟨⟨RX3, TX3, 116, rfl, rfl, q2472, q2473, q160, zcw_in (by decide +kernel) q2474⟩, ⟨by decide +kernel, by decide +kernel, by decide +kernel⟩, Nat.le_of_ble_eq_true rfl, by decide⟩
abbrev zy_X3_isName : zM := (yX3_isName, cX3_isName, 2, some .boolean)
theorem mi_X3_isName : zMI zy_X3_isName 3 1 := ⟨⟨RX3, TX3, 116, rfl, rfl, q2481, qs113, q160, zcw_in (by decide +kernel) q2482⟩, ⟨by decide +kernel, by decide +kernel, by decide +kernel⟩, Nat.le_of_ble_eq_true rfl, by decide⟩
abbrev zy_X3_weight : zM := (yX3_weight, cX3_weight, 4, some .int)
theorem mi_X3_weight : zMI zy_X3_weight 3 2 := ⟨⟨RX3, TX3, 116, rfl, rfl, q2476, q2477, q160, zcw_in (by decide +kernel) q2478⟩, ⟨by decide +kernel, by decide +kernel, by decide +kernel⟩, Nat.le_of_ble_eq_true rfl, by decide⟩
theorem ml_X3_433 : zML RX3 433 zy_X3_isName := Or.inl q2479
theorem fl_X3_7_3 : zFL RX3 7 3 2 := ⟨RX3, TX3, 116, "ClauseCourtModel", rfl, by decide, Or.inl q1874, Or.inl rfl, in_X3⟩
theorem fm_101_2 : ((101, ((2 : Nat) : Int), 102) : Int × Int × Int) ∈ zFin := by decide +kernel
theorem sa_102 : zSA 102 50 301 := by unfold zSA; decide +kernel
abbrev zy_X3_weighs : zM := (yX3_weighs, cX3_weighs, 2, some .long)
theorem mi_X3_weighs : zMI zy_X3_weighs 3 1 := ⟨⟨RX3, TX3, 116, rfl, rfl, q2484, q2485, q160, zcw_in (by decide +kernel) q2486⟩, ⟨by decide +kernel, by decide +kernel, by decide +kernel⟩, Nat.le_of_ble_eq_true rfl, by decide⟩
theorem fl_X3_116_3 : zFL RX3 116 3 61 := ⟨RX3, TX3, 116, "ClauseCourtModel", rfl, by decide, Or.inl q1933, Or.inl rfl, in_X3⟩
theorem fm_101_61 : ((101, ((61 : Nat) : Int), 137) : Int × Int × Int) ∈ zFin := by decide +kernel
theorem sa_137 : zSA 137 50 2 := by unfold zSA; decide +kernel
theorem fl_X3_146_3 : zFL RX3 146 3 73 := ⟨RX3, TX3, 116, "ClauseCourtModel", rfl, by decide, Or.inl q1945, Or.inl rfl, in_X3⟩
theorem fm_101_73 : ((101, ((73 : Nat) : Int), 147) : Int × Int × Int) ∈ zFin := by decide +kernel
theorem sa_147 : zSA 147 53 602 := by unfold zSA; decide +kernel
abbrev zy_X3_begin : zM := (yX3_begin, cX3_begin, 3, some .int)
theorem mi_X3_begin : zMI zy_X3_begin 3 1 := ⟨⟨RX3, TX3, 116, rfl, rfl, q2488, q2489, q160, zcw_in (by decide +kernel) q2490⟩, ⟨by decide +kernel, by decide +kernel, by decide +kernel⟩, Nat.le_of_ble_eq_true rfl, by decide⟩
theorem fl_X3_436_3 : zFL RX3 436 3 30 := ⟨RX3, TX3, 116, "ClauseCourtModel", rfl, by decide, Or.inl q1902, Or.inl rfl, in_X3⟩
abbrev zy_X3_forget : zM := (yX3_forget, cX3_forget, 3, some .int)
theorem mi_X3_forget : zMI zy_X3_forget 3 1 := ⟨⟨RX3, TX3, 116, rfl, rfl, q2492, q2493, q160, zcw_in (by decide +kernel) q2494⟩, ⟨by decide +kernel, by decide +kernel, by decide +kernel⟩, Nat.le_of_ble_eq_true rfl, by decide⟩
theorem fl_X3_439_3 : zFL RX3 439 3 31 := ⟨RX3, TX3, 116, "ClauseCourtModel", rfl, by decide, Or.inl q1903, Or.inl rfl, in_X3⟩
abbrev zy_X3_areSteps : zM := (yX3_areSteps, cX3_areSteps, 1, some .boolean)
theorem mi_X3_areSteps : zMS zy_X3_areSteps 1 := ⟨by decide +kernel, ⟨q2500, q160, zcw_in (by decide +kernel) q2501⟩, ⟨by decide +kernel, by decide +kernel, by decide +kernel⟩, Nat.le_of_ble_eq_true rfl⟩
abbrev zy_X3_prepare : zM := (yX3_prepare, cX3_prepare, 3, none)
theorem mi_X3_prepare : zMI zy_X3_prepare 3 1 := ⟨⟨RX3, TX3, 116, rfl, rfl, q2504, qs114, q160, zcw_in (by decide +kernel) q2505⟩, ⟨by decide +kernel, by decide +kernel, by decide +kernel⟩, Nat.le_of_ble_eq_true rfl, by decide⟩
theorem fl_X3_119_3 : zFL RX3 119 3 62 := ⟨RX3, TX3, 116, "ClauseCourtModel", rfl, by decide, Or.inl q1934, Or.inl rfl, in_X3⟩
theorem fm_101_62 : ((101, ((62 : Nat) : Int), 138) : Int × Int × Int) ∈ zFin := by decide +kernel
theorem sa_138 : zSA 138 50 2 := by unfold zSA; decide +kernel
theorem fl_X3_122_3 : zFL RX3 122 3 63 := ⟨RX3, TX3, 116, "ClauseCourtModel", rfl, by decide, Or.inl q1935, Or.inl rfl, in_X3⟩
theorem fm_101_63 : ((101, ((63 : Nat) : Int), 139) : Int × Int × Int) ∈ zFin := by decide +kernel
theorem sa_139 : zSA 139 52 1000 := by unfold zSA; decide +kernel
theorem fl_X3_128_3 : zFL RX3 128 3 65 := ⟨RX3, TX3, 116, "ClauseCourtModel", rfl, by decide, Or.inl q1937, Or.inl rfl, in_X3⟩
theorem fm_101_65 : ((101, ((65 : Nat) : Int), 141) : Int × Int × Int) ∈ zFin := by decide +kernel
theorem sa_141 : zSA 141 50 2 := by unfold zSA; decide +kernel
theorem fl_X3_134_3 : zFL RX3 134 3 69 := ⟨RX3, TX3, 116, "ClauseCourtModel", rfl, by decide, Or.inl q1941, Or.inl rfl, in_X3⟩
theorem fm_101_69 : ((101, ((69 : Nat) : Int), 143) : Int × Int × Int) ∈ zFin := by decide +kernel
theorem sa_143 : zSA 143 50 602 := by unfold zSA; decide +kernel
theorem fl_X3_143_3 : zFL RX3 143 3 72 := ⟨RX3, TX3, 116, "ClauseCourtModel", rfl, by decide, Or.inl q1944, Or.inl rfl, in_X3⟩
theorem fm_101_72 : ((101, ((72 : Nat) : Int), 146) : Int × Int × Int) ∈ zFin := by decide +kernel
theorem sa_146 : zSA 146 50 602 := by unfold zSA; decide +kernel
theorem fl_X3_150_3 : zFL RX3 150 3 74 := ⟨RX3, TX3, 116, "ClauseCourtModel", rfl, by decide, Or.inl q1946, Or.inl rfl, in_X3⟩
theorem fm_101_74 : ((101, ((74 : Nat) : Int), 148) : Int × Int × Int) ∈ zFin := by decide +kernel
theorem sa_148 : zSA 148 53 2 := by unfold zSA; decide +kernel
theorem fl_X3_156_3 : zFL RX3 156 3 76 := ⟨RX3, TX3, 116, "ClauseCourtModel", rfl, by decide, Or.inl q1948, Or.inl rfl, in_X3⟩
theorem fm_101_76 : ((101, ((76 : Nat) : Int), 150) : Int × Int × Int) ∈ zFin := by decide +kernel
theorem sa_150 : zSA 150 50 2 := by unfold zSA; decide +kernel
theorem fl_X3_159_3 : zFL RX3 159 3 77 := ⟨RX3, TX3, 116, "ClauseCourtModel", rfl, by decide, Or.inl q1949, Or.inl rfl, in_X3⟩
theorem fm_101_77 : ((101, ((77 : Nat) : Int), 151) : Int × Int × Int) ∈ zFin := by decide +kernel
theorem sa_151 : zSA 151 50 2 := by unfold zSA; decide +kernel
theorem fl_X3_168_3 : zFL RX3 168 3 80 := ⟨RX3, TX3, 116, "ClauseCourtModel", rfl, by decide, Or.inl q1952, Or.inl rfl, in_X3⟩
theorem fm_101_80 : ((101, ((80 : Nat) : Int), 154) : Int × Int × Int) ∈ zFin := by decide +kernel
theorem sa_154 : zSA 154 50 2 := by unfold zSA; decide +kernel
theorem fl_X3_189_3 : zFL RX3 189 3 87 := ⟨RX3, TX3, 116, "ClauseCourtModel", rfl, by decide, Or.inl q1959, Or.inl rfl, in_X3⟩
theorem fm_101_87 : ((101, ((87 : Nat) : Int), 161) : Int × Int × Int) ∈ zFin := by decide +kernel
theorem sa_161 : zSA 161 50 2 := by unfold zSA; decide +kernel
theorem fl_X3_192_3 : zFL RX3 192 3 88 := ⟨RX3, TX3, 116, "ClauseCourtModel", rfl, by decide, Or.inl q1960, Or.inl rfl, in_X3⟩
theorem fm_101_88 : ((101, ((88 : Nat) : Int), 162) : Int × Int × Int) ∈ zFin := by decide +kernel
theorem sa_162 : zSA 162 50 2 := by unfold zSA; decide +kernel
theorem fl_X3_195_3 : zFL RX3 195 3 90 := ⟨RX3, TX3, 116, "ClauseCourtModel", rfl, by decide, Or.inl q1962, Or.inl rfl, in_X3⟩
theorem fm_101_90 : ((101, ((90 : Nat) : Int), 163) : Int × Int × Int) ∈ zFin := by decide +kernel
theorem sa_163 : zSA 163 50 20 := by unfold zSA; decide +kernel
theorem fl_X3_467_3 : zFL RX3 467 3 67 := ⟨RX3, TX3, 116, "ClauseCourtModel", rfl, by decide, Or.inl q1939, Or.inl rfl, in_X3⟩
abbrev zy_X3_askAll : zM := (yX3_askAll, cX3_askAll, 3, none)
theorem mi_X3_askAll : zMI zy_X3_askAll 3 1 := ⟨⟨RX3, TX3, 116, rfl, rfl, q2509, qs115, q160, zcw_in (by decide +kernel) q2510⟩, ⟨by decide +kernel, by decide +kernel, by decide +kernel⟩, Nat.le_of_ble_eq_true rfl, by decide⟩
theorem fl_X3_125_3 : zFL RX3 125 3 64 := ⟨RX3, TX3, 116, "ClauseCourtModel", rfl, by decide, Or.inl q1936, Or.inl rfl, in_X3⟩
theorem fm_101_64 : ((101, ((64 : Nat) : Int), 140) : Int × Int × Int) ∈ zFin := by decide +kernel
theorem sa_140 : zSA 140 50 40 := by unfold zSA; decide +kernel
abbrev zy_X3_stateOf : zM := (yX3_stateOf, cX3_stateOf, 4, some .int)
theorem mi_X3_stateOf : zMI zy_X3_stateOf 3 2 := ⟨⟨RX3, TX3, 116, rfl, rfl, q2533, qs121, q160, zcw_in (by decide +kernel) q2534⟩, ⟨by decide +kernel, by decide +kernel, by decide +kernel⟩, Nat.le_of_ble_eq_true rfl, by decide⟩
abbrev zy_X3_look : zM := (yX3_look, cX3_look, 8, some .int)
theorem mi_X3_look : zMI zy_X3_look 3 2 := ⟨⟨RX3, TX3, 116, rfl, rfl, q2529, qs120, q160, zcw_in (by decide +kernel) q2530⟩, ⟨by decide +kernel, by decide +kernel, by decide +kernel⟩, Nat.le_of_ble_eq_true rfl, by decide⟩
theorem ml_X3_445 : zML RX3 445 zy_X3_stateOf := Or.inl q2531
theorem fl_X3_448_3 : zFL RX3 448 3 97 := ⟨RX3, TX3, 116, "ClauseCourtModel", rfl, by decide, Or.inl q1969, Or.inl rfl, in_X3⟩
abbrev zy_X3_goOver : zM := (yX3_goOver, cX3_goOver, 4, some .boolean)
theorem mi_X3_goOver : zMI zy_X3_goOver 3 2 := ⟨⟨RX3, TX3, 116, rfl, rfl, q2525, qs119, q160, zcw_in (by decide +kernel) q2526⟩, ⟨by decide +kernel, by decide +kernel, by decide +kernel⟩, Nat.le_of_ble_eq_true rfl, by decide⟩
theorem ml_X3_451 : zML RX3 451 zy_X3_look := Or.inl q2527
theorem fl_X3_454_3 : zFL RX3 454 3 99 := ⟨RX3, TX3, 116, "ClauseCourtModel", rfl, by decide, Or.inl q1971, Or.inl rfl, in_X3⟩
theorem fl_X3_460_3 : zFL RX3 460 3 98 := ⟨RX3, TX3, 116, "ClauseCourtModel", rfl, by decide, Or.inl q1970, Or.inl rfl, in_X3⟩
theorem fl_X3_457_3 : zFL RX3 457 3 100 := ⟨RX3, TX3, 116, "ClauseCourtModel", rfl, by decide, Or.inl q1972, Or.inl rfl, in_X3⟩
abbrev zy_X3_find : zM := (yX3_find, cX3_find, 4, none)
theorem mi_X3_find : zMI zy_X3_find 3 1 := ⟨⟨RX3, TX3, 116, rfl, rfl, q2521, qs118, q160, zcw_in (by decide +kernel) q2522⟩, ⟨by decide +kernel, by decide +kernel, by decide +kernel⟩, Nat.le_of_ble_eq_true rfl, by decide⟩
theorem ml_X3_463 : zML RX3 463 zy_X3_goOver := Or.inl q2523
theorem fl_X3_470_3 : zFL RX3 470 3 58 := ⟨RX3, TX3, 116, "ClauseCourtModel", rfl, by decide, Or.inl q1930, Or.inl rfl, in_X3⟩
theorem fl_X3_174_3 : zFL RX3 174 3 82 := ⟨RX3, TX3, 116, "ClauseCourtModel", rfl, by decide, Or.inl q1954, Or.inl rfl, in_X3⟩
theorem fm_101_82 : ((101, ((82 : Nat) : Int), 156) : Int × Int × Int) ∈ zFin := by decide +kernel
theorem sa_156 : zSA 156 52 1600 := by unfold zSA; decide +kernel
abbrev zy_X3_takesStep : zM := (yX3_takesStep, cX3_takesStep, 2, some .boolean)
theorem mi_X3_takesStep : zMI zy_X3_takesStep 3 1 := ⟨⟨RX3, TX3, 116, rfl, rfl, q2537, qs122, q160, zcw_in (by decide +kernel) q2538⟩, ⟨by decide +kernel, by decide +kernel, by decide +kernel⟩, Nat.le_of_ble_eq_true rfl, by decide⟩
theorem fl_X3_490_3 : zFL RX3 490 3 89 := ⟨RX3, TX3, 116, "ClauseCourtModel", rfl, by decide, Or.inl q1961, Or.inl rfl, in_X3⟩
abbrev zy_X3_clearSources : zM := (yX3_clearSources, cX3_clearSources, 2, none)
theorem mi_X3_clearSources : zMI zy_X3_clearSources 3 0 := ⟨⟨RX3, TX3, 116, rfl, rfl, q2545, qs124, q160, zcw_in (by decide +kernel) q2546⟩, ⟨by decide +kernel, by decide +kernel, by decide +kernel⟩, Nat.le_of_ble_eq_true rfl, by decide⟩
theorem fl_X3_186_3 : zFL RX3 186 3 86 := ⟨RX3, TX3, 116, "ClauseCourtModel", rfl, by decide, Or.inl q1958, Or.inl rfl, in_X3⟩
theorem fm_101_86 : ((101, ((86 : Nat) : Int), 160) : Int × Int × Int) ∈ zFin := by decide +kernel
theorem sa_160 : zSA 160 53 8 := by unfold zSA; decide +kernel
abbrev zy_X3_addSources : zM := (yX3_addSources, cX3_addSources, 4, none)
theorem mi_X3_addSources : zMI zy_X3_addSources 3 2 := ⟨⟨RX3, TX3, 116, rfl, rfl, q2549, qs125, q160, zcw_in (by decide +kernel) q2550⟩, ⟨by decide +kernel, by decide +kernel, by decide +kernel⟩, Nat.le_of_ble_eq_true rfl, by decide⟩
theorem fl_X3_180_3 : zFL RX3 180 3 84 := ⟨RX3, TX3, 116, "ClauseCourtModel", rfl, by decide, Or.inl q1956, Or.inl rfl, in_X3⟩
theorem fm_101_84 : ((101, ((84 : Nat) : Int), 158) : Int × Int × Int) ∈ zFin := by decide +kernel
theorem sa_158 : zSA 158 53 12800 := by unfold zSA; decide +kernel
abbrev zy_X3_addNameSources : zM := (yX3_addNameSources, cX3_addNameSources, 4, none)
theorem mi_X3_addNameSources : zMI zy_X3_addNameSources 3 2 := ⟨⟨RX3, TX3, 116, rfl, rfl, q2557, qs127, q160, zcw_in (by decide +kernel) q2558⟩, ⟨by decide +kernel, by decide +kernel, by decide +kernel⟩, Nat.le_of_ble_eq_true rfl, by decide⟩
theorem fl_X3_183_3 : zFL RX3 183 3 85 := ⟨RX3, TX3, 116, "ClauseCourtModel", rfl, by decide, Or.inl q1957, Or.inl rfl, in_X3⟩
theorem fm_101_85 : ((101, ((85 : Nat) : Int), 159) : Int × Int × Int) ∈ zFin := by decide +kernel
theorem sa_159 : zSA 159 53 4816 := by unfold zSA; decide +kernel
abbrev zy_X3_addLowest : zM := (yX3_addLowest, cX3_addLowest, 7, none)
theorem mi_X3_addLowest : zMI zy_X3_addLowest 3 3 := ⟨⟨RX3, TX3, 116, rfl, rfl, q2553, qs126, q160, zcw_in (by decide +kernel) q2554⟩, ⟨by decide +kernel, by decide +kernel, by decide +kernel⟩, Nat.le_of_ble_eq_true rfl, by decide⟩
theorem fl_X3_137_3 : zFL RX3 137 3 70 := ⟨RX3, TX3, 116, "ClauseCourtModel", rfl, by decide, Or.inl q1942, Or.inl rfl, in_X3⟩
theorem fm_101_70 : ((101, ((70 : Nat) : Int), 144) : Int × Int × Int) ∈ zFin := by decide +kernel
theorem sa_144 : zSA 144 50 602 := by unfold zSA; decide +kernel
theorem ml_X3_473 : zML RX3 473 zy_X3_addNameSources := Or.inl q2555
abbrev zy_X3_become : zM := (yX3_become, cX3_become, 6, none)
theorem mi_X3_become : zMI zy_X3_become 3 3 := ⟨⟨RX3, TX3, 116, rfl, rfl, q2541, qs123, q160, zcw_in (by decide +kernel) q2542⟩, ⟨by decide +kernel, by decide +kernel, by decide +kernel⟩, Nat.le_of_ble_eq_true rfl, by decide⟩
theorem fl_X3_140_3 : zFL RX3 140 3 71 := ⟨RX3, TX3, 116, "ClauseCourtModel", rfl, by decide, Or.inl q1943, Or.inl rfl, in_X3⟩
theorem fm_101_71 : ((101, ((71 : Nat) : Int), 145) : Int × Int × Int) ∈ zFin := by decide +kernel
theorem sa_145 : zSA 145 50 602 := by unfold zSA; decide +kernel
theorem fl_X3_153_3 : zFL RX3 153 3 75 := ⟨RX3, TX3, 116, "ClauseCourtModel", rfl, by decide, Or.inl q1947, Or.inl rfl, in_X3⟩
theorem fm_101_75 : ((101, ((75 : Nat) : Int), 149) : Int × Int × Int) ∈ zFin := by decide +kernel
theorem sa_149 : zSA 149 50 600 := by unfold zSA; decide +kernel
theorem ml_X3_476 : zML RX3 476 zy_X3_clearSources := Or.inl q2543
theorem ml_X3_479 : zML RX3 479 zy_X3_addSources := Or.inl q2547
theorem ml_X3_482 : zML RX3 482 zy_X3_addLowest := Or.inl q2551
abbrev zy_X3_hasRoom : zM := (yX3_hasRoom, cX3_hasRoom, 3, some .boolean)
theorem mi_X3_hasRoom : zMI zy_X3_hasRoom 3 2 := ⟨⟨RX3, TX3, 116, rfl, rfl, q2565, qs129, q160, zcw_in (by decide +kernel) q2566⟩, ⟨by decide +kernel, by decide +kernel, by decide +kernel⟩, Nat.le_of_ble_eq_true rfl, by decide⟩
abbrev zy_X3_record : zM := (yX3_record, cX3_record, 6, none)
theorem mi_X3_record : zMI zy_X3_record 3 2 := ⟨⟨RX3, TX3, 116, rfl, rfl, q2569, qs130, q160, zcw_in (by decide +kernel) q2570⟩, ⟨by decide +kernel, by decide +kernel, by decide +kernel⟩, Nat.le_of_ble_eq_true rfl, by decide⟩
theorem fl_X3_207_3 : zFL RX3 207 3 101 := ⟨RX3, TX3, 116, "ClauseCourtModel", rfl, by decide, Or.inl q1973, Or.inl rfl, in_X3⟩
theorem fm_101_101 : ((101, ((101 : Nat) : Int), 167) : Int × Int × Int) ∈ zFin := by decide +kernel
theorem sa_167 : zSA 167 50 320 := by unfold zSA; decide +kernel
abbrev zy_X3_keepCore : zM := (yX3_keepCore, cX3_keepCore, 3, none)
theorem mi_X3_keepCore : zMI zy_X3_keepCore 3 1 := ⟨⟨RX3, TX3, 116, rfl, rfl, q2573, qs131, q160, zcw_in (by decide +kernel) q2574⟩, ⟨by decide +kernel, by decide +kernel, by decide +kernel⟩, Nat.le_of_ble_eq_true rfl, by decide⟩
theorem fl_X3_514_3 : zFL RX3 514 3 94 := ⟨RX3, TX3, 116, "ClauseCourtModel", rfl, by decide, Or.inl q1966, Or.inl rfl, in_X3⟩
theorem fl_X3_201_3 : zFL RX3 201 3 93 := ⟨RX3, TX3, 116, "ClauseCourtModel", rfl, by decide, Or.inl q1965, Or.inl rfl, in_X3⟩
theorem fm_101_93 : ((101, ((93 : Nat) : Int), 165) : Int × Int × Int) ∈ zFin := by decide +kernel
theorem sa_165 : zSA 165 50 500 := by unfold zSA; decide +kernel
abbrev zy_X3_tellQuarrel : zM := (yX3_tellQuarrel, cX3_tellQuarrel, 6, none)
theorem mi_X3_tellQuarrel : zMI zy_X3_tellQuarrel 3 5 := ⟨⟨RX3, TX3, 116, rfl, rfl, q2577, qs132, q160, zcw_in (by decide +kernel) q2578⟩, ⟨by decide +kernel, by decide +kernel, by decide +kernel⟩, Nat.le_of_ble_eq_true rfl, by decide⟩
theorem fl_X3_533_3 : zFL RX3 533 3 91 := ⟨RX3, TX3, 116, "ClauseCourtModel", rfl, by decide, Or.inl q1963, Or.inl rfl, in_X3⟩
theorem fl_X3_198_3 : zFL RX3 198 3 92 := ⟨RX3, TX3, 116, "ClauseCourtModel", rfl, by decide, Or.inl q1964, Or.inl rfl, in_X3⟩
theorem fm_101_92 : ((101, ((92 : Nat) : Int), 164) : Int × Int × Int) ∈ zFin := by decide +kernel
theorem sa_164 : zSA 164 50 5 := by unfold zSA; decide +kernel
abbrev zy_X3_endLow : zM := (yX3_endLow, cX3_endLow, 2, some .int)
theorem mi_X3_endLow : zMI zy_X3_endLow 3 1 := ⟨⟨RX3, TX3, 116, rfl, rfl, q2561, qs128, q160, zcw_in (by decide +kernel) q2562⟩, ⟨by decide +kernel, by decide +kernel, by decide +kernel⟩, Nat.le_of_ble_eq_true rfl, by decide⟩
theorem ml_X3_517 : zML RX3 517 zy_X3_hasRoom := Or.inl q2563
theorem ml_X3_520 : zML RX3 520 zy_X3_record := Or.inl q2567
theorem ml_X3_523 : zML RX3 523 zy_X3_keepCore := Or.inl q2571
theorem fl_X3_526_3 : zFL RX3 526 3 96 := ⟨RX3, TX3, 116, "ClauseCourtModel", rfl, by decide, Or.inl q1968, Or.inl rfl, in_X3⟩
theorem ml_X3_529 : zML RX3 529 zy_X3_tellQuarrel := Or.inl q2575
abbrev zy_X3_clearMarks : zM := (yX3_clearMarks, cX3_clearMarks, 2, none)
theorem mi_X3_clearMarks : zMI zy_X3_clearMarks 3 0 := ⟨⟨RX3, TX3, 116, rfl, rfl, q2585, qs134, q160, zcw_in (by decide +kernel) q2586⟩, ⟨by decide +kernel, by decide +kernel, by decide +kernel⟩, Nat.le_of_ble_eq_true rfl, by decide⟩
theorem fl_X3_210_3 : zFL RX3 210 3 102 := ⟨RX3, TX3, 116, "ClauseCourtModel", rfl, by decide, Or.inl q1974, Or.inl rfl, in_X3⟩
theorem fm_101_102 : ((101, ((102 : Nat) : Int), 168) : Int × Int × Int) ∈ zFin := by decide +kernel
theorem sa_168 : zSA 168 52 301 := by unfold zSA; decide +kernel
theorem fl_X3_213_3 : zFL RX3 213 3 103 := ⟨RX3, TX3, 116, "ClauseCourtModel", rfl, by decide, Or.inl q1975, Or.inl rfl, in_X3⟩
theorem fm_101_103 : ((101, ((103 : Nat) : Int), 169) : Int × Int × Int) ∈ zFin := by decide +kernel
theorem sa_169 : zSA 169 52 301 := by unfold zSA; decide +kernel
abbrev zy_X3_useRow : zM := (yX3_useRow, cX3_useRow, 7, none)
theorem mi_X3_useRow : zMI zy_X3_useRow 3 3 := ⟨⟨RX3, TX3, 116, rfl, rfl, q2589, qs135, q160, zcw_in (by decide +kernel) q2590⟩, ⟨by decide +kernel, by decide +kernel, by decide +kernel⟩, Nat.le_of_ble_eq_true rfl, by decide⟩
theorem fl_X3_216_3 : zFL RX3 216 3 105 := ⟨RX3, TX3, 116, "ClauseCourtModel", rfl, by decide, Or.inl q1977, Or.inl rfl, in_X3⟩
theorem fm_101_105 : ((101, ((105 : Nat) : Int), 170) : Int × Int × Int) ∈ zFin := by decide +kernel
theorem fl_X3_542_3 : zFL RX3 542 3 106 := ⟨RX3, TX3, 116, "ClauseCourtModel", rfl, by decide, Or.inl q1978, Or.inl rfl, in_X3⟩
theorem sa_170 : zSA 170 50 320 := by unfold zSA; decide +kernel
theorem fl_X3_545_3 : zFL RX3 545 3 104 := ⟨RX3, TX3, 116, "ClauseCourtModel", rfl, by decide, Or.inl q1976, Or.inl rfl, in_X3⟩
abbrev zy_X3_lastOne : zM := (yX3_lastOne, cX3_lastOne, 6, some .int)
theorem mi_X3_lastOne : zMI zy_X3_lastOne 3 1 := ⟨⟨RX3, TX3, 116, rfl, rfl, q2593, qs136, q160, zcw_in (by decide +kernel) q2594⟩, ⟨by decide +kernel, by decide +kernel, by decide +kernel⟩, Nat.le_of_ble_eq_true rfl, by decide⟩
theorem ml_X3_548 : zML RX3 548 zy_X3_useRow := Or.inl q2587
abbrev zy_X3_raise : zM := (yX3_raise, cX3_raise, 5, some .int)
theorem mi_X3_raise : zMI zy_X3_raise 3 1 := ⟨⟨RX3, TX3, 116, rfl, rfl, q2597, qs137, q160, zcw_in (by decide +kernel) q2598⟩, ⟨by decide +kernel, by decide +kernel, by decide +kernel⟩, Nat.le_of_ble_eq_true rfl, by decide⟩
abbrev zy_X3_goBack : zM := (yX3_goBack, cX3_goBack, 5, none)
theorem mi_X3_goBack : zMI zy_X3_goBack 3 2 := ⟨⟨RX3, TX3, 116, rfl, rfl, q2604, qs138, q160, zcw_in (by decide +kernel) q2605⟩, ⟨by decide +kernel, by decide +kernel, by decide +kernel⟩, Nat.le_of_ble_eq_true rfl, by decide⟩
abbrev zy_X3_partOfRow : zM := (yX3_partOfRow, cX3_partOfRow, 3, some .int)
theorem mi_X3_partOfRow : zMS zy_X3_partOfRow 1 := ⟨by decide +kernel, ⟨q2607, q160, zcw_in (by decide +kernel) q2608⟩, ⟨by decide +kernel, by decide +kernel, by decide +kernel⟩, Nat.le_of_ble_eq_true rfl⟩
abbrev zy_X3_thereOf : zM := (yX3_thereOf, cX3_thereOf, 4, some .int)
theorem mi_X3_thereOf : zMI zy_X3_thereOf 3 1 := ⟨⟨RX3, TX3, 116, rfl, rfl, q2615, qs140, q160, zcw_in (by decide +kernel) q2616⟩, ⟨by decide +kernel, by decide +kernel, by decide +kernel⟩, Nat.le_of_ble_eq_true rfl, by decide⟩
abbrev zy_X3_mayGo : zM := (yX3_mayGo, cX3_mayGo, 3, some .boolean)
theorem mi_X3_mayGo : zMI zy_X3_mayGo 3 2 := ⟨⟨RX3, TX3, 116, rfl, rfl, q2619, qs141, q160, zcw_in (by decide +kernel) q2620⟩, ⟨by decide +kernel, by decide +kernel, by decide +kernel⟩, Nat.le_of_ble_eq_true rfl, by decide⟩
theorem fl_X3_219_3 : zFL RX3 219 3 107 := ⟨RX3, TX3, 116, "ClauseCourtModel", rfl, by decide, Or.inl q1979, Or.inl rfl, in_X3⟩
theorem fm_101_107 : ((101, ((107 : Nat) : Int), 171) : Int × Int × Int) ∈ zFin := by decide +kernel
theorem sa_171 : zSA 171 52 800 := by unfold zSA; decide +kernel
abbrev zy_X3_forgetSome : zM := (yX3_forgetSome, cX3_forgetSome, 7, none)
theorem mi_X3_forgetSome : zMI zy_X3_forgetSome 3 1 := ⟨⟨RX3, TX3, 116, rfl, rfl, q2611, qs139, q160, zcw_in (by decide +kernel) q2612⟩, ⟨by decide +kernel, by decide +kernel, by decide +kernel⟩, Nat.le_of_ble_eq_true rfl, by decide⟩
theorem ml_X3_572 : zML RX3 572 zy_X3_thereOf := Or.inl q2613
theorem ml_X3_575 : zML RX3 575 zy_X3_mayGo := Or.inl q2617
theorem fl_X3_177_3 : zFL RX3 177 3 83 := ⟨RX3, TX3, 116, "ClauseCourtModel", rfl, by decide, Or.inl q1955, Or.inl rfl, in_X3⟩
theorem fm_101_83 : ((101, ((83 : Nat) : Int), 157) : Int × Int × Int) ∈ zFin := by decide +kernel
theorem sa_157 : zSA 157 50 1600 := by unfold zSA; decide +kernel
abbrev zy_X3_learn : zM := (yX3_learn, cX3_learn, 10, some .int)
theorem mi_X3_learn : zMI zy_X3_learn 3 1 := ⟨⟨RX3, TX3, 116, rfl, rfl, q2581, qs133, q160, zcw_in (by decide +kernel) q2582⟩, ⟨by decide +kernel, by decide +kernel, by decide +kernel⟩, Nat.le_of_ble_eq_true rfl, by decide⟩
theorem ml_X3_536 : zML RX3 536 zy_X3_clearMarks := Or.inl q2583
theorem ml_X3_551 : zML RX3 551 zy_X3_lastOne := Or.inl q2591
theorem ml_X3_496 : zML RX3 496 zy_X3_takesStep := Or.inl q2535
theorem ml_X3_554 : zML RX3 554 zy_X3_raise := Or.inl q2595
theorem ml_X3_557 : zML RX3 557 zy_X3_goBack := Or.inl q2602
theorem ml_X3_563 : zML RX3 563 zy_X3_forgetSome := Or.inl q2609
theorem ml_X3_560 : zML RX3 560 zy_X3_partOfRow := Or.inl q2606
abbrev zy_X3_markRow : zM := (yX3_markRow, cX3_markRow, 5, none)
theorem mi_X3_markRow : zMI zy_X3_markRow 3 2 := ⟨⟨RX3, TX3, 116, rfl, rfl, q2627, qs143, q160, zcw_in (by decide +kernel) q2628⟩, ⟨by decide +kernel, by decide +kernel, by decide +kernel⟩, Nat.le_of_ble_eq_true rfl, by decide⟩
abbrev zy_X3_endAsked : zM := (yX3_endAsked, cX3_endAsked, 6, some .int)
theorem mi_X3_endAsked : zMI zy_X3_endAsked 3 2 := ⟨⟨RX3, TX3, 116, rfl, rfl, q2623, qs142, q160, zcw_in (by decide +kernel) q2624⟩, ⟨by decide +kernel, by decide +kernel, by decide +kernel⟩, Nat.le_of_ble_eq_true rfl, by decide⟩
theorem ml_X3_539 : zML RX3 539 zy_X3_markRow := Or.inl q2625
theorem fl_X3_204_3 : zFL RX3 204 3 95 := ⟨RX3, TX3, 116, "ClauseCourtModel", rfl, by decide, Or.inl q1967, Or.inl rfl, in_X3⟩
theorem fm_101_95 : ((101, ((95 : Nat) : Int), 166) : Int × Int × Int) ∈ zFin := by decide +kernel
theorem sa_166 : zSA 166 50 20 := by unfold zSA; decide +kernel
abbrev zy_X3_heaviest : zM := (yX3_heaviest, cX3_heaviest, 4, some .int)
theorem mi_X3_heaviest : zMI zy_X3_heaviest 3 1 := ⟨⟨RX3, TX3, 116, rfl, rfl, q2631, qs144, q160, zcw_in (by decide +kernel) q2632⟩, ⟨by decide +kernel, by decide +kernel, by decide +kernel⟩, Nat.le_of_ble_eq_true rfl, by decide⟩
abbrev zy_X3_oneTurn : zM := (yX3_oneTurn, cX3_oneTurn, 5, some .int)
theorem mi_X3_oneTurn : zMI zy_X3_oneTurn 3 1 := ⟨⟨RX3, TX3, 116, rfl, rfl, q2517, qs117, q160, zcw_in (by decide +kernel) q2518⟩, ⟨by decide +kernel, by decide +kernel, by decide +kernel⟩, Nat.le_of_ble_eq_true rfl, by decide⟩
theorem ml_X3_493 : zML RX3 493 zy_X3_find := Or.inl q2519
theorem ml_X3_499 : zML RX3 499 zy_X3_become := Or.inl q2539
theorem ml_X3_511 : zML RX3 511 zy_X3_heaviest := Or.inl q2629
theorem ml_X3_508 : zML RX3 508 zy_X3_endAsked := Or.inl q2621
theorem ml_X3_505 : zML RX3 505 zy_X3_learn := Or.inl q2579
theorem ml_X3_502 : zML RX3 502 zy_X3_endLow := Or.inl q2559
abbrev zy_X3_solving : zM := (yX3_solving, cX3_solving, 3, some .int)
theorem mi_X3_solving : zMI zy_X3_solving 3 1 := ⟨⟨RX3, TX3, 116, rfl, rfl, q2513, qs116, q160, zcw_in (by decide +kernel) q2514⟩, ⟨by decide +kernel, by decide +kernel, by decide +kernel⟩, Nat.le_of_ble_eq_true rfl, by decide⟩
theorem ml_X3_487 : zML RX3 487 zy_X3_oneTurn := Or.inl q2515
abbrev zy_X3_ended : zM := (yX3_ended, cX3_ended, 3, some .int)
theorem mi_X3_ended : zMI zy_X3_ended 3 1 := ⟨⟨RX3, TX3, 116, rfl, rfl, q2635, qs145, q160, zcw_in (by decide +kernel) q2636⟩, ⟨by decide +kernel, by decide +kernel, by decide +kernel⟩, Nat.le_of_ble_eq_true rfl, by decide⟩
abbrev zy_X3_solve : zM := (yX3_solve, cX3_solve, 2, some .int)
theorem mi_X3_solve : zMI zy_X3_solve 3 1 := ⟨⟨RX3, TX3, 116, rfl, rfl, q2496, q2497, q160, zcw_in (by decide +kernel) q2498⟩, ⟨by decide +kernel, by decide +kernel, by decide +kernel⟩, Nat.le_of_ble_eq_true rfl, by decide⟩
theorem ml_X3_578 : zML RX3 578 zy_X3_areSteps := Or.inl q2499
theorem ml_X3_581 : zML RX3 581 zy_X3_prepare := Or.inl q2502
theorem ml_X3_584 : zML RX3 584 zy_X3_askAll := Or.inl q2507
theorem ml_X3_587 : zML RX3 587 zy_X3_solving := Or.inl q2511
theorem ml_X3_590 : zML RX3 590 zy_X3_ended := Or.inl q2633
abbrev zy_X3_goOn : zM := (yX3_goOn, cX3_goOn, 2, some .int)
theorem mi_X3_goOn : zMI zy_X3_goOn 3 1 := ⟨⟨RX3, TX3, 116, rfl, rfl, q2638, q2639, q160, zcw_in (by decide +kernel) q2640⟩, ⟨by decide +kernel, by decide +kernel, by decide +kernel⟩, Nat.le_of_ble_eq_true rfl, by decide⟩
abbrev zy_X3_truth : zM := (yX3_truth, cX3_truth, 2, some .int)
theorem mi_X3_truth : zMI zy_X3_truth 3 1 := ⟨⟨RX3, TX3, 116, rfl, rfl, q2642, q2643, q160, zcw_in (by decide +kernel) q2644⟩, ⟨by decide +kernel, by decide +kernel, by decide +kernel⟩, Nat.le_of_ble_eq_true rfl, by decide⟩
abbrev zy_X3_solved : zM := (yX3_solved, cX3_solved, 2, some .int)
theorem mi_X3_solved : zMI zy_X3_solved 3 1 := ⟨⟨RX3, TX3, 116, rfl, rfl, q2646, q2647, q160, zcw_in (by decide +kernel) q2648⟩, ⟨by decide +kernel, by decide +kernel, by decide +kernel⟩, Nat.le_of_ble_eq_true rfl, by decide⟩
abbrev zy_X3_quarrel : zM := (yX3_quarrel, cX3_quarrel, 2, some .int)
theorem mi_X3_quarrel : zMI zy_X3_quarrel 3 1 := ⟨⟨RX3, TX3, 116, rfl, rfl, q2650, q2651, q160, zcw_in (by decide +kernel) q2652⟩, ⟨by decide +kernel, by decide +kernel, by decide +kernel⟩, Nat.le_of_ble_eq_true rfl, by decide⟩
abbrev zy_X3_hasCore : zM := (yX3_hasCore, cX3_hasCore, 1, some .boolean)
theorem mi_X3_hasCore : zMI zy_X3_hasCore 3 0 := ⟨⟨RX3, TX3, 116, rfl, rfl, q2659, qs146, q160, zcw_in (by decide +kernel) q2660⟩, ⟨by decide +kernel, by decide +kernel, by decide +kernel⟩, Nat.le_of_ble_eq_true rfl, by decide⟩
abbrev zy_X3_core : zM := (yX3_core, cX3_core, 2, some .int)
theorem mi_X3_core : zMI zy_X3_core 3 1 := ⟨⟨RX3, TX3, 116, rfl, rfl, q2654, q2655, q160, zcw_in (by decide +kernel) q2656⟩, ⟨by decide +kernel, by decide +kernel, by decide +kernel⟩, Nat.le_of_ble_eq_true rfl, by decide⟩
theorem ml_X3_593 : zML RX3 593 zy_X3_hasCore := Or.inl q2657
abbrev zy_X3_coreAt : zM := (yX3_coreAt, cX3_coreAt, 4, some .int)
theorem mi_X3_coreAt : zMI zy_X3_coreAt 3 2 := ⟨⟨RX3, TX3, 116, rfl, rfl, q2662, q2663, q160, zcw_in (by decide +kernel) q2664⟩, ⟨by decide +kernel, by decide +kernel, by decide +kernel⟩, Nat.le_of_ble_eq_true rfl, by decide⟩
theorem ml_X3_596 : zML RX3 596 zy_X3_core := Or.inl q2665
abbrev zy_X3_tried : zM := (yX3_tried, cX3_tried, 5, some .int)
theorem mi_X3_tried : zMI zy_X3_tried 3 3 := ⟨⟨RX3, TX3, 116, rfl, rfl, q2672, qs147, q160, zcw_in (by decide +kernel) q2673⟩, ⟨by decide +kernel, by decide +kernel, by decide +kernel⟩, Nat.le_of_ble_eq_true rfl, by decide⟩
abbrev zy_X3_shrink : zM := (yX3_shrink, cX3_shrink, 5, some .int)
theorem mi_X3_shrink : zMI zy_X3_shrink 3 1 := ⟨⟨RX3, TX3, 116, rfl, rfl, q2667, q2668, q160, zcw_in (by decide +kernel) q2669⟩, ⟨by decide +kernel, by decide +kernel, by decide +kernel⟩, Nat.le_of_ble_eq_true rfl, by decide⟩
theorem ml_X3_599 : zML RX3 599 zy_X3_tried := Or.inl q2670
abbrev zy_X3_bitsOf : zM := (yX3_bitsOf, cX3_bitsOf, 3, some .int)
theorem mi_X3_bitsOf : zMS zy_X3_bitsOf 1 := ⟨by decide +kernel, ⟨q2679, q160, zcw_in (by decide +kernel) q2680⟩, ⟨by decide +kernel, by decide +kernel, by decide +kernel⟩, Nat.le_of_ble_eq_true rfl⟩
abbrev zy_X3_least : zM := (yX3_least, cX3_least, 7, some .int)
theorem mi_X3_least : zMI zy_X3_least 3 1 := ⟨⟨RX3, TX3, 116, rfl, rfl, q2675, q2676, q160, zcw_in (by decide +kernel) q2677⟩, ⟨by decide +kernel, by decide +kernel, by decide +kernel⟩, Nat.le_of_ble_eq_true rfl, by decide⟩
theorem ml_X3_602 : zML RX3 602 zy_X3_bitsOf := Or.inl q2678
abbrev zy_X3_take : zM := (yX3_take, cX3_take, 2, some .int)
theorem mi_X3_take : zMI zy_X3_take 3 0 := ⟨⟨RX3, TX3, 116, rfl, rfl, q2682, q2683, q160, zcw_in (by decide +kernel) q2684⟩, ⟨by decide +kernel, by decide +kernel, by decide +kernel⟩, Nat.le_of_ble_eq_true rfl, by decide⟩
theorem fl_X3_605_3 : zFL RX3 605 3 108 := ⟨RX3, TX3, 116, "ClauseCourtModel", rfl, by decide, Or.inl q1980, Or.inl rfl, in_X3⟩
theorem fl_X3_222_3 : zFL RX3 222 3 109 := ⟨RX3, TX3, 116, "ClauseCourtModel", rfl, by decide, Or.inl q1981, Or.inl rfl, in_X3⟩
theorem fm_101_109 : ((101, ((109 : Nat) : Int), 172) : Int × Int × Int) ∈ zFin := by decide +kernel
theorem sa_172 : zSA 172 50 801 := by unfold zSA; decide +kernel
theorem fl_X3_225_3 : zFL RX3 225 3 110 := ⟨RX3, TX3, 116, "ClauseCourtModel", rfl, by decide, Or.inl q1982, Or.inl rfl, in_X3⟩
theorem fm_101_110 : ((101, ((110 : Nat) : Int), 173) : Int × Int × Int) ∈ zFin := by decide +kernel
theorem sa_173 : zSA 173 50 8100 := by unfold zSA; decide +kernel
abbrev zy_X3_claim : zM := (yX3_claim, cX3_claim, 5, some .int)
theorem mi_X3_claim : zMI zy_X3_claim 3 1 := ⟨⟨RX3, TX3, 116, rfl, rfl, q2686, q2687, q160, zcw_in (by decide +kernel) q2688⟩, ⟨by decide +kernel, by decide +kernel, by decide +kernel⟩, Nat.le_of_ble_eq_true rfl, by decide⟩
abbrev zy_X3_strike : zM := (yX3_strike, cX3_strike, 4, some .int)
theorem mi_X3_strike : zMI zy_X3_strike 3 1 := ⟨⟨RX3, TX3, 116, rfl, rfl, q2690, q2691, q160, zcw_in (by decide +kernel) q2692⟩, ⟨by decide +kernel, by decide +kernel, by decide +kernel⟩, Nat.le_of_ble_eq_true rfl, by decide⟩
abbrev zy_X3_proof : zM := (yX3_proof, cX3_proof, 4, some .int)
theorem mi_X3_proof : zMI zy_X3_proof 3 2 := ⟨⟨RX3, TX3, 116, rfl, rfl, q2694, q2695, q160, zcw_in (by decide +kernel) q2696⟩, ⟨by decide +kernel, by decide +kernel, by decide +kernel⟩, Nat.le_of_ble_eq_true rfl, by decide⟩
abbrev zy_X3_supposedOf : zM := (yX3_supposedOf, cX3_supposedOf, 3, some .int)
theorem mi_X3_supposedOf : zMI zy_X3_supposedOf 3 1 := ⟨⟨RX3, TX3, 116, rfl, rfl, q2707, qs149, q160, zcw_in (by decide +kernel) q2708⟩, ⟨by decide +kernel, by decide +kernel, by decide +kernel⟩, Nat.le_of_ble_eq_true rfl, by decide⟩
theorem fl_X3_228_3 : zFL RX3 228 3 112 := ⟨RX3, TX3, 116, "ClauseCourtModel", rfl, by decide, Or.inl q1984, Or.inl rfl, in_X3⟩
theorem fm_101_112 : ((101, ((112 : Nat) : Int), 174) : Int × Int × Int) ∈ zFin := by decide +kernel
theorem sa_174 : zSA 174 50 301 := by unfold zSA; decide +kernel
abbrev zy_X3_suppose : zM := (yX3_suppose, cX3_suppose, 2, none)
theorem mi_X3_suppose : zMI zy_X3_suppose 3 1 := ⟨⟨RX3, TX3, 116, rfl, rfl, q2711, qs150, q160, zcw_in (by decide +kernel) q2712⟩, ⟨by decide +kernel, by decide +kernel, by decide +kernel⟩, Nat.le_of_ble_eq_true rfl, by decide⟩
abbrev zy_X3_press : zM := (yX3_press, cX3_press, 9, none)
theorem mi_X3_press : zMI zy_X3_press 3 3 := ⟨⟨RX3, TX3, 116, rfl, rfl, q2715, qs151, q160, zcw_in (by decide +kernel) q2716⟩, ⟨by decide +kernel, by decide +kernel, by decide +kernel⟩, Nat.le_of_ble_eq_true rfl, by decide⟩
theorem ml_X3_608 : zML RX3 608 zy_X3_supposedOf := Or.inl q2705
theorem fl_X3_611_3 : zFL RX3 611 3 113 := ⟨RX3, TX3, 116, "ClauseCourtModel", rfl, by decide, Or.inl q1985, Or.inl rfl, in_X3⟩
theorem ml_X3_614 : zML RX3 614 zy_X3_suppose := Or.inl q2709
theorem fl_X3_617_3 : zFL RX3 617 3 114 := ⟨RX3, TX3, 116, "ClauseCourtModel", rfl, by decide, Or.inl q1986, Or.inl rfl, in_X3⟩
abbrev zy_X3_follows : zM := (yX3_follows, cX3_follows, 3, some .boolean)
theorem mi_X3_follows : zMI zy_X3_follows 3 1 := ⟨⟨RX3, TX3, 116, rfl, rfl, q2703, qs148, q160, zcw_in (by decide +kernel) q2704⟩, ⟨by decide +kernel, by decide +kernel, by decide +kernel⟩, Nat.le_of_ble_eq_true rfl, by decide⟩
theorem ml_X3_620 : zML RX3 620 zy_X3_press := Or.inl q2713
abbrev zy_X3_isAssumed : zM := (yX3_isAssumed, cX3_isAssumed, 4, some .boolean)
theorem mi_X3_isAssumed : zMI zy_X3_isAssumed 3 1 := ⟨⟨RX3, TX3, 116, rfl, rfl, q2719, qs152, q160, zcw_in (by decide +kernel) q2720⟩, ⟨by decide +kernel, by decide +kernel, by decide +kernel⟩, Nat.le_of_ble_eq_true rfl, by decide⟩
abbrev zy_X3_check : zM := (yX3_check, cX3_check, 4, some .int)
theorem mi_X3_check : zMI zy_X3_check 3 0 := ⟨⟨RX3, TX3, 116, rfl, rfl, q2698, q2699, q160, zcw_in (by decide +kernel) q2700⟩, ⟨by decide +kernel, by decide +kernel, by decide +kernel⟩, Nat.le_of_ble_eq_true rfl, by decide⟩
theorem ml_X3_624 : zML RX3 624 zy_X3_follows := Or.inl q2701
theorem fl_X3_231_3 : zFL RX3 231 3 111 := ⟨RX3, TX3, 116, "ClauseCourtModel", rfl, by decide, Or.inl q1983, Or.inl rfl, in_X3⟩
theorem ml_X3_627 : zML RX3 627 zy_X3_isAssumed := Or.inl q2717
abbrev zy_X3_refusedAt : zM := (yX3_refusedAt, cX3_refusedAt, 1, some .int)
theorem mi_X3_refusedAt : zMI zy_X3_refusedAt 3 0 := ⟨⟨RX3, TX3, 116, rfl, rfl, q2722, q2723, q160, zcw_in (by decide +kernel) q2724⟩, ⟨by decide +kernel, by decide +kernel, by decide +kernel⟩, Nat.le_of_ble_eq_true rfl, by decide⟩
abbrev zy_X3_counted : zM := (yX3_counted, cX3_counted, 4, some .int)
theorem mi_X3_counted : zMI zy_X3_counted 3 2 := ⟨⟨RX3, TX3, 116, rfl, rfl, q2726, q2727, q160, zcw_in (by decide +kernel) q2728⟩, ⟨by decide +kernel, by decide +kernel, by decide +kernel⟩, Nat.le_of_ble_eq_true rfl, by decide⟩
theorem fl_X3_13_3 : zFL RX3 13 3 3 := ⟨RX3, TX3, 116, "ClauseCourtModel", rfl, by decide, Or.inl q1875, Or.inl rfl, in_X3⟩
theorem fm_101_3 : ((101, ((3 : Nat) : Int), 103) : Int × Int × Int) ∈ zFin := by decide +kernel
theorem sa_103 : zSA 103 52 301 := by unfold zSA; decide +kernel
theorem fl_X3_630_3 : zFL RX3 630 3 4 := ⟨RX3, TX3, 116, "ClauseCourtModel", rfl, by decide, Or.inl q1876, Or.inl rfl, in_X3⟩
abbrev zy_X3_bar : zM := (yX3_bar, cX3_bar, 5, none)
theorem mi_X3_bar : zMI zy_X3_bar 3 2 := ⟨⟨RX3, TX3, 116, rfl, rfl, q2735, qs153, q160, zcw_in (by decide +kernel) q2736⟩, ⟨by decide +kernel, by decide +kernel, by decide +kernel⟩, Nat.le_of_ble_eq_true rfl, by decide⟩
abbrev zy_X3_next : zM := (yX3_next, cX3_next, 3, some .int)
theorem mi_X3_next : zMI zy_X3_next 3 1 := ⟨⟨RX3, TX3, 116, rfl, rfl, q2730, q2731, q160, zcw_in (by decide +kernel) q2732⟩, ⟨by decide +kernel, by decide +kernel, by decide +kernel⟩, Nat.le_of_ble_eq_true rfl, by decide⟩
theorem ml_X3_633 : zML RX3 633 zy_X3_bar := Or.inl q2733
abbrev zy_X3_unbar : zM := (yX3_unbar, cX3_unbar, 2, some .int)
theorem mi_X3_unbar : zMI zy_X3_unbar 3 0 := ⟨⟨RX3, TX3, 116, rfl, rfl, q2738, q2739, q160, zcw_in (by decide +kernel) q2740⟩, ⟨by decide +kernel, by decide +kernel, by decide +kernel⟩, Nat.le_of_ble_eq_true rfl, by decide⟩
abbrev zy_X3_count : zM := (yX3_count, cX3_count, 5, some .int)
theorem mi_X3_count : zMI zy_X3_count 3 2 := ⟨⟨RX3, TX3, 116, rfl, rfl, q2742, q2743, q160, zcw_in (by decide +kernel) q2744⟩, ⟨by decide +kernel, by decide +kernel, by decide +kernel⟩, Nat.le_of_ble_eq_true rfl, by decide⟩
abbrev zy_X3_force : zM := (yX3_force, cX3_force, 1, some .boolean)
theorem mi_X3_force : zMI zy_X3_force 3 0 := ⟨⟨RX3, TX3, 116, rfl, rfl, q2751, qs154, q160, zcw_in (by decide +kernel) q2752⟩, ⟨by decide +kernel, by decide +kernel, by decide +kernel⟩, Nat.le_of_ble_eq_true rfl, by decide⟩
abbrev zy_X3_forced : zM := (yX3_forced, cX3_forced, 1, some .int)
theorem mi_X3_forced : zMI zy_X3_forced 3 0 := ⟨⟨RX3, TX3, 116, rfl, rfl, q2746, q2747, q160, zcw_in (by decide +kernel) q2748⟩, ⟨by decide +kernel, by decide +kernel, by decide +kernel⟩, Nat.le_of_ble_eq_true rfl, by decide⟩
theorem ml_X3_636 : zML RX3 636 zy_X3_force := Or.inl q2749
abbrev zy_X3_forcedAt : zM := (yX3_forcedAt, cX3_forcedAt, 3, some .int)
theorem mi_X3_forcedAt : zMI zy_X3_forcedAt 3 1 := ⟨⟨RX3, TX3, 116, rfl, rfl, q2754, q2755, q160, zcw_in (by decide +kernel) q2756⟩, ⟨by decide +kernel, by decide +kernel, by decide +kernel⟩, Nat.le_of_ble_eq_true rfl, by decide⟩
abbrev zy_X3_why : zM := (yX3_why, cX3_why, 3, some .int)
theorem mi_X3_why : zMI zy_X3_why 3 1 := ⟨⟨RX3, TX3, 116, rfl, rfl, q2758, q2759, q160, zcw_in (by decide +kernel) q2760⟩, ⟨by decide +kernel, by decide +kernel, by decide +kernel⟩, Nat.le_of_ble_eq_true rfl, by decide⟩
abbrev zy_X3_add : zM := (yX3_add, cX3_add, 2, none)
theorem mi_X3_add : zMI zy_X3_add 3 1 := ⟨⟨RX3, TX3, 116, rfl, rfl, q2768, qs155, q160, zcw_in (by decide +kernel) q2769⟩, ⟨by decide +kernel, by decide +kernel, by decide +kernel⟩, Nat.le_of_ble_eq_true rfl, by decide⟩
theorem fl_X3_641_3 : zFL RX3 641 3 115 := ⟨RX3, TX3, 116, "ClauseCourtModel", rfl, by decide, Or.inl q1987, Or.inl rfl, in_X3⟩
abbrev zy_X3_digest : zM := (yX3_digest, cX3_digest, 3, some .long)
theorem mi_X3_digest : zMI zy_X3_digest 3 0 := ⟨⟨RX3, TX3, 116, rfl, rfl, q2762, q2763, q160, zcw_in (by decide +kernel) q2764⟩, ⟨by decide +kernel, by decide +kernel, by decide +kernel⟩, Nat.le_of_ble_eq_true rfl, by decide⟩
theorem ml_X3_647 : zML RX3 647 zy_X3_add := Or.inl q2766
abbrev zy_X3_status : zM := (yX3_status, cX3_status, 1, some .int)
theorem mi_X3_status : zMI zy_X3_status 3 0 := ⟨⟨RX3, TX3, 116, rfl, rfl, q2772, q2773, q160, zcw_in (by decide +kernel) q2774⟩, ⟨by decide +kernel, by decide +kernel, by decide +kernel⟩, Nat.le_of_ble_eq_true rfl, by decide⟩
abbrev zy_X3_about : zM := (yX3_about, cX3_about, 2, some .int)
theorem mi_X3_about : zMI zy_X3_about 3 1 := ⟨⟨RX3, TX3, 116, rfl, rfl, q2776, q2777, q160, zcw_in (by decide +kernel) q2778⟩, ⟨by decide +kernel, by decide +kernel, by decide +kernel⟩, Nat.le_of_ble_eq_true rfl, by decide⟩
def P_M_in (a1 : Int) (a2 : Int) (a3 : Int) (h : zH) (Q : Int → zH → Prop) : Prop :=
Q (if a1 < a2 then 0 else if a3 < a1 then 0 else 1) h
theorem W_M_in (a1 : Int) (a2 : Int) (a3 : Int) (h : zH) (Q : Int → zH → Prop) (hP : P_M_in a1 a2 a3 h Q) : zC true zy_X3_in 1 [zI a1, zI a2, zI a3] h (zQ0 Q) := by
  unfold P_M_in at hP
  refine zC.of (by decide) (Nat.le_of_ble_eq_true rfl) ?_
  show zV true zy_X3_in 1 0 [zI a1, zI a2, zI a3] [] h (zQ0 Q)
  refine zV_iload_n dX3_in_0 rfl ?_
  refine zV_iload_n dX3_in_1 rfl ?_
  have K : zV true zy_X3_in 1 15 [zU, zU, zU] [zI (if a1 < a2 then 0 else if a3 < a1 then 0 else 1)] h (zQ0 Q) := by
    exact zV_ireturn dX3_in_15 rfl rfl (z01 (z01_if z0 (z01_if z0 z1))) ⟨rfl, hP⟩
  clear hP
  refine zV_icmp_lt (tgt := 14) dX3_in_2 (by decide) (fun c => ?_) (fun c => ?_)
  · try simp only [if_pos c] at K
    refine zV_iconst dX3_in_14 ⟨by decide, by decide⟩ ?_
    refine zV_mask [false, false, false] rfl ?_
    exact K
  · try simp only [if_neg c] at K
    refine zV_iload_n dX3_in_5 rfl ?_
    refine zV_iload_n dX3_in_6 rfl ?_
    refine zV_icmp_gt (tgt := 14) dX3_in_7 (by decide) (fun c => ?_) (fun c => ?_)
    · try simp only [if_pos c] at K
      refine zV_iconst dX3_in_14 ⟨by decide, by decide⟩ ?_
      refine zV_mask [false, false, false] rfl ?_
      exact K
    · try simp only [if_neg c] at K
      refine zV_iconst dX3_in_10 ⟨by decide, by decide⟩ ?_
      refine zV_goto (tgt := 15) dX3_in_11 (by decide) ?_
      refine zV_mask [false, false, false] rfl ?_
      exact K
def P_M_fail (a1 : Int) (h : zH) (Q : Int → zH → Prop) : Prop :=
∀ h1 : zH, h1 = zw h 101 0 a1 →
Q a1 h1
theorem W_M_fail (a1 : Int) (h : zH) (Q : Int → zH → Prop) (hP : P_M_fail a1 h Q) : zC true zy_X3_fail 1 [zR 101, zI a1] h (zQ0 Q) := by
  unfold P_M_fail at hP
  refine zC.of (by decide) (Nat.le_of_ble_eq_true rfl) ?_
  show zV true zy_X3_fail 1 0 [zR 101, zI a1] [] h (zQ0 Q)
  refine zV_aload_n dX3_fail_0 rfl ?_
  refine zV_iload_n dX3_fail_1 rfl ?_
  refine zV_pf dX3_fail_2 sa_101 (by decide) fl_X3_235_3 rfl rfl trivial (ki := 0) rfl (fun h1 e_h1 => ?_)
  have hP := hP h1 e_h1
  refine zV_iload_n dX3_fail_5 rfl ?_
  exact zV_ireturn dX3_fail_6 rfl rfl rfl ⟨rfl, hP⟩
def P_M_names (a1 : Int) (h : zH) (Q : Int → zH → Prop) : Prop :=
P_M_in a1 0 300 h (fun r1 h2 =>
if r1 = 0 then
(P_M_fail (-1001) h2 (fun r7 h8 =>
Q r7 h8))
else
(if w32 ((zd h2 101 1) + a1) ≤ 300 then
(∀ h3 : zH, h3 = zw h2 101 1 (w32 ((zd h2 101 1) + a1)) →
∀ h4 : zH, h4 = zw h3 101 57 0 →
Q (zd h4 101 1) h4)
else
(P_M_fail (-1003) h2 (fun r5 h6 =>
Q r5 h6))))
theorem W_M_names (a1 : Int) (h : zH) (Q : Int → zH → Prop) (hP : P_M_names a1 h Q) : zC true zy_X3_names 2 [zR 101, zI a1] h (zQ0 Q) := by
  unfold P_M_names at hP
  refine zC.of (by decide) (Nat.le_of_ble_eq_true rfl) ?_
  show zV true zy_X3_names 2 0 [zR 101, zI a1] [] h (zQ0 Q)
  refine zV_iload_n dX3_names_0 rfl ?_
  refine zV_iconst dX3_names_1 ⟨by decide, by decide⟩ ?_
  refine zV_sipush dX3_names_2 ⟨by decide, by decide, by decide⟩ ?_
  refine zV_cSk (As := [zI a1, zI 0, zI 300]) (rest := []) dX3_names_5 (W_M_in _ _ _ _ _ hP) mi_X3_in ml_X3_238 (by decide) (Nat.le_of_ble_eq_true rfl) rfl rfl rfl (fun r1 h2 hP => ?_)
  refine zV_if_ne (tgt := 19) dX3_names_8 (by decide) (fun c => ?_) (fun c => ?_)
  · have hP := zif_n hP c
    refine zV_aload_n dX3_names_19 rfl ?_
    refine zV_gf dX3_names_20 sa_101 (by decide) fl_X3_246_3 rfl (ki := 1) rfl ?_
    refine zV_iload_n dX3_names_23 rfl ?_
    refine zV_iadd dX3_names_24 ?_
    refine zV_sipush dX3_names_25 ⟨by decide, by decide, by decide⟩ ?_
    refine zV_icmp_le (tgt := 39) dX3_names_28 (by decide) (fun c => ?_) (fun c => ?_)
    · have hP := zif_p hP c
      refine zV_aload_n dX3_names_39 rfl ?_
      refine zV_dup dX3_names_40 (Nat.ne_of_beq_eq_false rfl) ?_
      refine zV_gf dX3_names_41 sa_101 (by decide) fl_X3_246_3 rfl (ki := 1) rfl ?_
      refine zV_iload_n dX3_names_44 rfl ?_
      refine zV_iadd dX3_names_45 ?_
      refine zV_pf dX3_names_46 sa_101 (by decide) fl_X3_246_3 rfl rfl trivial (ki := 1) rfl (fun h3 e_h3 => ?_)
      have hP := hP h3 e_h3
      refine zV_aload_n dX3_names_49 rfl ?_
      refine zV_iconst dX3_names_50 ⟨by decide, by decide⟩ ?_
      refine zV_pf dX3_names_51 sa_101 (by decide) fl_X3_249_3 rfl rfl z0 (ki := 57) rfl (fun h4 e_h4 => ?_)
      have hP := hP h4 e_h4
      refine zV_aload_n dX3_names_54 rfl ?_
      refine zV_gf dX3_names_55 sa_101 (by decide) fl_X3_246_3 rfl (ki := 1) rfl ?_
      exact zV_ireturn dX3_names_58 rfl rfl rfl ⟨rfl, hP⟩
    · have hP := zif_n hP c
      refine zV_aload_n dX3_names_31 rfl ?_
      refine zV_sipush dX3_names_32 ⟨by decide, by decide, by decide⟩ ?_
      refine zV_cVk (As := [zI (-1003)]) (rest := []) dX3_names_35 sa_101 (W_M_fail _ _ _ hP) mi_X3_fail ml_X3_242 (by decide) (Nat.le_of_ble_eq_true rfl) rfl rfl rfl (fun r5 h6 hP => ?_)
      exact zV_ireturn dX3_names_38 rfl rfl rfl ⟨rfl, hP⟩
  · have hP := zif_p hP c
    refine zV_aload_n dX3_names_11 rfl ?_
    refine zV_sipush dX3_names_12 ⟨by decide, by decide, by decide⟩ ?_
    refine zV_cVk (As := [zI (-1001)]) (rest := []) dX3_names_15 sa_101 (W_M_fail _ _ _ hP) mi_X3_fail ml_X3_242 (by decide) (Nat.le_of_ble_eq_true rfl) rfl rfl rfl (fun r7 h8 hP => ?_)
    exact zV_ireturn dX3_names_18 rfl rfl rfl ⟨rfl, hP⟩
def P_M_isRow (a1 : Int) (h : zH) (Q : Int → zH → Prop) : Prop :=
P_M_in a1 0 39 h (fun r1 h2 =>
(r1 = 0 ∨ r1 = 1) ∧ Q r1 h2)
theorem W_M_isRow (a1 : Int) (h : zH) (Q : Int → zH → Prop) (hP : P_M_isRow a1 h Q) : zC true zy_X3_isRow 2 [zI a1] h (zQ0 Q) := by
  unfold P_M_isRow at hP
  refine zC.of (by decide) (Nat.le_of_ble_eq_true rfl) ?_
  show zV true zy_X3_isRow 2 0 [zI a1] [] h (zQ0 Q)
  refine zV_iload_n dX3_isRow_0 rfl ?_
  refine zV_iconst dX3_isRow_1 ⟨by decide, by decide⟩ ?_
  refine zV_bipush dX3_isRow_2 ⟨by decide, by decide, by decide⟩ ?_
  refine zV_cSk (As := [zI a1, zI 0, zI 39]) (rest := []) dX3_isRow_4 (W_M_in _ _ _ _ _ hP) mi_X3_in ml_X3_238 (by decide) (Nat.le_of_ble_eq_true rfl) rfl rfl rfl (fun r1 h2 hP => ?_)
  exact zV_ireturn dX3_isRow_7 rfl rfl (z01 hP.1) ⟨rfl, hP.2⟩
def P_M_row_L35 (y1 : Int) (y2 : Int) (Q : Int → zH → Prop) : Nat → Int → zH → Prop
| 0, _, _ => False
| n35 + 1, y3, h =>
if y2 ≤ y3 then
((0 ≤ y1 ∧ y1 < 40) ∧
∀ h5 : zH, h5 = zw h 104 y1 y2 →
Q y2 h5)
else
((0 ≤ w32 ((w32 (12 * y1)) + y3) ∧ w32 ((w32 (12 * y1)) + y3) < 480) ∧
∀ h6 : zH, h6 = zw h 105 (w32 ((w32 (12 * y1)) + y3)) 0 →
∀ x3_7 : Int, x3_7 = w32 (y3 + 1) →
P_M_row_L35 y1 y2 Q n35 x3_7 h6)
theorem W_M_row_L35 (y1 : Int) (y2 : Int) (Q : Int → zH → Prop) : ∀ (n35 : Nat) (y3 : Int) (h : zH), P_M_row_L35 y1 y2 Q n35 y3 h → zV true zy_X3_row 3 35 [zR 101, zI y1, zI y2, zI y3] [] h (zQ0 Q) := by
  intro n35
  induction n35 with
  | zero => intro y3 h hP; exact absurd hP id
  | succ n35 ih =>
    intro y3 h hP
    unfold P_M_row_L35 at hP
    refine zV_iload_n dX3_row_35 rfl ?_
    refine zV_iload_n dX3_row_36 rfl ?_
    refine zV_icmp_ge (tgt := 58) dX3_row_37 (by decide) (fun c => ?_) (fun c => ?_)
    · have hP := zif_p hP c
      refine zV_aload_n dX3_row_58 rfl ?_
      refine zV_sg dX3_row_59 fm_101_5 sa_101 (by decide) fl_X3_17_3 rfl ?_
      refine zV_iload_n dX3_row_62 rfl ?_
      refine zV_iload_n dX3_row_63 rfl ?_
      obtain ⟨ob, hP⟩ := hP
      refine zV_ias dX3_row_64 sa_104 ob (fun h5 e_h5 => ?_)
      have hP := hP h5 e_h5
      refine zV_iload_n dX3_row_65 rfl ?_
      exact zV_ireturn dX3_row_66 rfl rfl rfl ⟨rfl, hP⟩
    · have hP := zif_n hP c
      refine zV_aload_n dX3_row_40 rfl ?_
      refine zV_sg dX3_row_41 fm_101_6 sa_101 (by decide) fl_X3_20_3 rfl ?_
      refine zV_bipush dX3_row_44 ⟨by decide, by decide, by decide⟩ ?_
      refine zV_iload_n dX3_row_46 rfl ?_
      refine zV_imul dX3_row_47 ?_
      refine zV_iload_n dX3_row_48 rfl ?_
      refine zV_iadd dX3_row_49 ?_
      refine zV_iconst dX3_row_50 ⟨by decide, by decide⟩ ?_
      obtain ⟨ob, hP⟩ := hP
      refine zV_ias dX3_row_51 sa_105 ob (fun h6 e_h6 => ?_)
      have hP := hP h6 e_h6
      refine zV_inc (ls' := fun z => [zR 101, zI y1, zI y2, zI z]) dX3_row_52 (Nat.le_of_ble_eq_true rfl) rfl rfl (fun _ => rfl) (fun x3_7 e_x3_7 => ?_)
      have hP := hP x3_7 e_x3_7
      refine zV_goto (tgt := 35) dX3_row_55 (by decide) ?_
      exact ih _ _ hP
def P_M_row (a1 : Int) (a2 : Int) (h : zH) (Q : Int → zH → Prop) : Prop :=
P_M_isRow a1 h (fun r1 h2 =>
if r1 = 0 then
(P_M_fail (-1001) h2 (fun r3 h4 =>
Q r3 h4))
else
(if a2 ≤ 12 then
(if 0 ≤ a2 then
(∃ n35, P_M_row_L35 a1 a2 Q n35 0 h2)
else
(P_M_fail (-1014) h2 (fun r8 h9 =>
Q r8 h9)))
else
(P_M_fail (-1001) h2 (fun r10 h11 =>
Q r10 h11))))
theorem W_M_row (a1 : Int) (a2 : Int) (h : zH) (Q : Int → zH → Prop) (hP : P_M_row a1 a2 h Q) : zC true zy_X3_row 3 [zR 101, zI a1, zI a2] h (zQ0 Q) := by
  unfold P_M_row at hP
  refine zC.of (by decide) (Nat.le_of_ble_eq_true rfl) ?_
  show zV true zy_X3_row 3 0 [zR 101, zI a1, zI a2, zU] [] h (zQ0 Q)
  refine zV_iload_n dX3_row_0 rfl ?_
  refine zV_cSk (As := [zI a1]) (rest := []) dX3_row_1 (W_M_isRow _ _ _ hP) mi_X3_isRow ml_X3_253 (by decide) (Nat.le_of_ble_eq_true rfl) rfl rfl rfl (fun r1 h2 hP => ?_)
  refine zV_if_eq (tgt := 13) dX3_row_4 (by decide) (fun c => ?_) (fun c => ?_)
  · have hP := zif_p hP c
    refine zV_aload_n dX3_row_13 rfl ?_
    refine zV_sipush dX3_row_14 ⟨by decide, by decide, by decide⟩ ?_
    refine zV_cVk (As := [zI (-1001)]) (rest := []) dX3_row_17 sa_101 (W_M_fail _ _ _ hP) mi_X3_fail ml_X3_242 (by decide) (Nat.le_of_ble_eq_true rfl) rfl rfl rfl (fun r3 h4 hP => ?_)
    exact zV_ireturn dX3_row_20 rfl rfl rfl ⟨rfl, hP⟩
  · have hP := zif_n hP c
    refine zV_iload_n dX3_row_7 rfl ?_
    refine zV_bipush dX3_row_8 ⟨by decide, by decide, by decide⟩ ?_
    refine zV_icmp_le (tgt := 21) dX3_row_10 (by decide) (fun c => ?_) (fun c => ?_)
    · have hP := zif_p hP c
      refine zV_iload_n dX3_row_21 rfl ?_
      refine zV_if_ge (tgt := 33) dX3_row_22 (by decide) (fun c => ?_) (fun c => ?_)
      · have hP := zif_p hP c
        refine zV_iconst dX3_row_33 ⟨by decide, by decide⟩ ?_
        refine zV_istore_n (ls' := [zR 101, zI a1, zI a2, zI 0]) dX3_row_34 rfl (Nat.le_of_ble_eq_true rfl) rfl rfl ?_
        obtain ⟨n35, hP⟩ := hP
        refine W_M_row_L35 _ _ _ n35 _ _ hP
      · have hP := zif_n hP c
        refine zV_aload_n dX3_row_25 rfl ?_
        refine zV_sipush dX3_row_26 ⟨by decide, by decide, by decide⟩ ?_
        refine zV_cVk (As := [zI (-1014)]) (rest := []) dX3_row_29 sa_101 (W_M_fail _ _ _ hP) mi_X3_fail ml_X3_242 (by decide) (Nat.le_of_ble_eq_true rfl) rfl rfl rfl (fun r8 h9 hP => ?_)
        exact zV_ireturn dX3_row_32 rfl rfl rfl ⟨rfl, hP⟩
    · have hP := zif_n hP c
      refine zV_aload_n dX3_row_13 rfl ?_
      refine zV_sipush dX3_row_14 ⟨by decide, by decide, by decide⟩ ?_
      refine zV_cVk (As := [zI (-1001)]) (rest := []) dX3_row_17 sa_101 (W_M_fail _ _ _ hP) mi_X3_fail ml_X3_242 (by decide) (Nat.le_of_ble_eq_true rfl) rfl rfl rfl (fun r10 h11 hP => ?_)
      exact zV_ireturn dX3_row_20 rfl rfl rfl ⟨rfl, hP⟩
def P_M_drop (a1 : Int) (h : zH) (Q : Int → zH → Prop) : Prop :=
P_M_isRow a1 h (fun r1 h2 =>
if r1 = 0 then
(P_M_fail (-1001) h2 (fun r4 h5 =>
Q r4 h5))
else
((0 ≤ a1 ∧ a1 < 40) ∧
∀ h3 : zH, h3 = zw h2 104 a1 (-1005) →
Q 1 h3))
theorem W_M_drop (a1 : Int) (h : zH) (Q : Int → zH → Prop) (hP : P_M_drop a1 h Q) : zC true zy_X3_drop 3 [zR 101, zI a1] h (zQ0 Q) := by
  unfold P_M_drop at hP
  refine zC.of (by decide) (Nat.le_of_ble_eq_true rfl) ?_
  show zV true zy_X3_drop 3 0 [zR 101, zI a1] [] h (zQ0 Q)
  refine zV_iload_n dX3_drop_0 rfl ?_
  refine zV_cSk (As := [zI a1]) (rest := []) dX3_drop_1 (W_M_isRow _ _ _ hP) mi_X3_isRow ml_X3_253 (by decide) (Nat.le_of_ble_eq_true rfl) rfl rfl rfl (fun r1 h2 hP => ?_)
  refine zV_if_ne (tgt := 15) dX3_drop_4 (by decide) (fun c => ?_) (fun c => ?_)
  · have hP := zif_n hP c
    refine zV_aload_n dX3_drop_15 rfl ?_
    refine zV_sg dX3_drop_16 fm_101_5 sa_101 (by decide) fl_X3_17_3 rfl ?_
    refine zV_iload_n dX3_drop_19 rfl ?_
    refine zV_sipush dX3_drop_20 ⟨by decide, by decide, by decide⟩ ?_
    obtain ⟨ob, hP⟩ := hP
    refine zV_ias dX3_drop_23 sa_104 ob (fun h3 e_h3 => ?_)
    have hP := hP h3 e_h3
    refine zV_iconst dX3_drop_24 ⟨by decide, by decide⟩ ?_
    exact zV_ireturn dX3_drop_25 rfl rfl rfl ⟨rfl, hP⟩
  · have hP := zif_p hP c
    refine zV_aload_n dX3_drop_7 rfl ?_
    refine zV_sipush dX3_drop_8 ⟨by decide, by decide, by decide⟩ ?_
    refine zV_cVk (As := [zI (-1001)]) (rest := []) dX3_drop_11 sa_101 (W_M_fail _ _ _ hP) mi_X3_fail ml_X3_242 (by decide) (Nat.le_of_ble_eq_true rfl) rfl rfl rfl (fun r4 h5 hP => ?_)
    exact zV_ireturn dX3_drop_14 rfl rfl rfl ⟨rfl, hP⟩
def P_M_put (a1 : Int) (a2 : Int) (a3 : Int) (h : zH) (Q : Int → zH → Prop) : Prop :=
P_M_isRow a1 h (fun r1 h2 =>
if r1 = 0 then
(P_M_fail (-1001) h2 (fun r10 h11 =>
Q r10 h11))
else
((0 ≤ a1 ∧ a1 < 40) ∧
if 0 ≤ zd h2 104 a1 then
((0 ≤ a1 ∧ a1 < 40) ∧
P_M_in a2 0 (w32 ((zd h2 104 a1) - 1)) h2 (fun r3 h4 =>
if r3 = 0 then
(P_M_fail (-1012) h4 (fun r6 h7 =>
Q r6 h7))
else
((0 ≤ w32 ((w32 (12 * a1)) + a2) ∧ w32 ((w32 (12 * a1)) + a2) < 480) ∧
∀ h5 : zH, h5 = zw h4 105 (w32 ((w32 (12 * a1)) + a2)) a3 →
Q 1 h5)))
else
(P_M_fail (-1011) h2 (fun r8 h9 =>
Q r8 h9))))
theorem W_M_put (a1 : Int) (a2 : Int) (a3 : Int) (h : zH) (Q : Int → zH → Prop) (hP : P_M_put a1 a2 a3 h Q) : zC true zy_X3_put 3 [zR 101, zI a1, zI a2, zI a3] h (zQ0 Q) := by
  unfold P_M_put at hP
  refine zC.of (by decide) (Nat.le_of_ble_eq_true rfl) ?_
  show zV true zy_X3_put 3 0 [zR 101, zI a1, zI a2, zI a3] [] h (zQ0 Q)
  refine zV_iload_n dX3_put_0 rfl ?_
  refine zV_cSk (As := [zI a1]) (rest := []) dX3_put_1 (W_M_isRow _ _ _ hP) mi_X3_isRow ml_X3_253 (by decide) (Nat.le_of_ble_eq_true rfl) rfl rfl rfl (fun r1 h2 hP => ?_)
  refine zV_if_ne (tgt := 15) dX3_put_4 (by decide) (fun c => ?_) (fun c => ?_)
  · have hP := zif_n hP c
    refine zV_aload_n dX3_put_15 rfl ?_
    refine zV_sg dX3_put_16 fm_101_5 sa_101 (by decide) fl_X3_17_3 rfl ?_
    refine zV_iload_n dX3_put_19 rfl ?_
    obtain ⟨ob, hP⟩ := hP
    refine zV_ia dX3_put_20 sa_104 ob ?_
    refine zV_if_ge (tgt := 32) dX3_put_21 (by decide) (fun c => ?_) (fun c => ?_)
    · have hP := zif_p hP c
      refine zV_iload_n dX3_put_32 rfl ?_
      refine zV_iconst dX3_put_33 ⟨by decide, by decide⟩ ?_
      refine zV_aload_n dX3_put_34 rfl ?_
      refine zV_sg dX3_put_35 fm_101_5 sa_101 (by decide) fl_X3_17_3 rfl ?_
      refine zV_iload_n dX3_put_38 rfl ?_
      obtain ⟨ob, hP⟩ := hP
      refine zV_ia dX3_put_39 sa_104 ob ?_
      refine zV_iconst dX3_put_40 ⟨by decide, by decide⟩ ?_
      refine zV_isub dX3_put_41 ?_
      refine zV_cSk (As := [zI a2, zI 0, zI (w32 ((zd h2 104 a1) - 1))]) (rest := []) dX3_put_42 (W_M_in _ _ _ _ _ hP) mi_X3_in ml_X3_238 (by decide) (Nat.le_of_ble_eq_true rfl) rfl rfl rfl (fun r3 h4 hP => ?_)
      refine zV_if_ne (tgt := 56) dX3_put_45 (by decide) (fun c => ?_) (fun c => ?_)
      · have hP := zif_n hP c
        refine zV_aload_n dX3_put_56 rfl ?_
        refine zV_sg dX3_put_57 fm_101_6 sa_101 (by decide) fl_X3_20_3 rfl ?_
        refine zV_bipush dX3_put_60 ⟨by decide, by decide, by decide⟩ ?_
        refine zV_iload_n dX3_put_62 rfl ?_
        refine zV_imul dX3_put_63 ?_
        refine zV_iload_n dX3_put_64 rfl ?_
        refine zV_iadd dX3_put_65 ?_
        refine zV_iload_n dX3_put_66 rfl ?_
        obtain ⟨ob, hP⟩ := hP
        refine zV_ias dX3_put_67 sa_105 ob (fun h5 e_h5 => ?_)
        have hP := hP h5 e_h5
        refine zV_iconst dX3_put_68 ⟨by decide, by decide⟩ ?_
        exact zV_ireturn dX3_put_69 rfl rfl rfl ⟨rfl, hP⟩
      · have hP := zif_p hP c
        refine zV_aload_n dX3_put_48 rfl ?_
        refine zV_sipush dX3_put_49 ⟨by decide, by decide, by decide⟩ ?_
        refine zV_cVk (As := [zI (-1012)]) (rest := []) dX3_put_52 sa_101 (W_M_fail _ _ _ hP) mi_X3_fail ml_X3_242 (by decide) (Nat.le_of_ble_eq_true rfl) rfl rfl rfl (fun r6 h7 hP => ?_)
        exact zV_ireturn dX3_put_55 rfl rfl rfl ⟨rfl, hP⟩
    · have hP := zif_n hP c
      refine zV_aload_n dX3_put_24 rfl ?_
      refine zV_sipush dX3_put_25 ⟨by decide, by decide, by decide⟩ ?_
      refine zV_cVk (As := [zI (-1011)]) (rest := []) dX3_put_28 sa_101 (W_M_fail _ _ _ hP) mi_X3_fail ml_X3_242 (by decide) (Nat.le_of_ble_eq_true rfl) rfl rfl rfl (fun r8 h9 hP => ?_)
      exact zV_ireturn dX3_put_31 rfl rfl rfl ⟨rfl, hP⟩
  · have hP := zif_p hP c
    refine zV_aload_n dX3_put_7 rfl ?_
    refine zV_sipush dX3_put_8 ⟨by decide, by decide, by decide⟩ ?_
    refine zV_cVk (As := [zI (-1001)]) (rest := []) dX3_put_11 sa_101 (W_M_fail _ _ _ hP) mi_X3_fail ml_X3_242 (by decide) (Nat.le_of_ble_eq_true rfl) rfl rfl rfl (fun r10 h11 hP => ?_)
    exact zV_ireturn dX3_put_14 rfl rfl rfl ⟨rfl, hP⟩
def P_M_get_J51 (y1 : Int) (y2 : Int) (s0 : Int) (h : zH) (Q : Int → zH → Prop) : Prop :=
if 0 ≤ s0 then
((if 0 ≤ y2 then (0 ≤ w32 ((w32 (12 * y1)) + y2) ∧ w32 ((w32 (12 * y1)) + y2) < 480) ∧ True else (0 ≤ y1 ∧ y1 < 40) ∧ True) ∧
Q (if 0 ≤ y2 then zd h 105 (w32 ((w32 (12 * y1)) + y2)) else zd h 104 y1) h)
else
(∀ h5 : zH, h5 = zw h 101 0 s0 →
Q (w64 (10000000000 * s0)) h5)
theorem W_M_get_J51 (y1 : Int) (y2 : Int) (s0 : Int) (h : zH) (Q : Int → zH → Prop) (hP : P_M_get_J51 y1 y2 s0 h Q) : zV true zy_X3_get 3 51 [zR 101, zI y1, zI y2, zU] [zI s0] h (zQ0 Q) := by
  unfold P_M_get_J51 at hP
  refine zV_istore_n (ls' := [zR 101, zI y1, zI y2, zI s0]) dX3_get_51 rfl (Nat.le_of_ble_eq_true rfl) rfl rfl ?_
  refine zV_iload_n dX3_get_52 rfl ?_
  refine zV_if_ge (tgt := 68) dX3_get_53 (by decide) (fun c => ?_) (fun c => ?_)
  · have hP := zif_p hP c
    refine zV_iload_n dX3_get_68 rfl ?_
    obtain ⟨hO, hP⟩ := hP
    have K : zV true zy_X3_get 3 94 [zU, zU, zU, zU] [zJ (if 0 ≤ y2 then zd h 105 (w32 ((w32 (12 * y1)) + y2)) else zd h 104 y1)] h (zQ0 Q) := by
      exact zV_lreturn dX3_get_94 rfl ⟨rfl, hP⟩
    clear hP
    refine zV_if_ge (tgt := 82) dX3_get_69 (by decide) (fun c => ?_) (fun c => ?_)
    · try simp only [if_pos c] at K
      have hO := zif_p hO c
      refine zV_aload_n dX3_get_82 rfl ?_
      refine zV_sg dX3_get_83 fm_101_6 sa_101 (by decide) fl_X3_20_3 rfl ?_
      refine zV_bipush dX3_get_86 ⟨by decide, by decide, by decide⟩ ?_
      refine zV_iload_n dX3_get_88 rfl ?_
      refine zV_imul dX3_get_89 ?_
      refine zV_iload_n dX3_get_90 rfl ?_
      refine zV_iadd dX3_get_91 ?_
      obtain ⟨ob, hO⟩ := hO
      refine zV_ia dX3_get_92 sa_105 ob ?_
      refine zV_i2l dX3_get_93 ?_
      refine zV_mask [false, false, false, false] rfl ?_
      exact K
    · try simp only [if_neg c] at K
      have hO := zif_n hO c
      refine zV_aload_n dX3_get_72 rfl ?_
      refine zV_sg dX3_get_73 fm_101_5 sa_101 (by decide) fl_X3_17_3 rfl ?_
      refine zV_iload_n dX3_get_76 rfl ?_
      obtain ⟨ob, hO⟩ := hO
      refine zV_ia dX3_get_77 sa_104 ob ?_
      refine zV_i2l dX3_get_78 ?_
      refine zV_goto (tgt := 94) dX3_get_79 (by decide) ?_
      refine zV_mask [false, false, false, false] rfl ?_
      exact K
  · have hP := zif_n hP c
    refine zV_aload_n dX3_get_56 rfl ?_
    refine zV_iload_n dX3_get_57 rfl ?_
    refine zV_pf dX3_get_58 sa_101 (by decide) fl_X3_235_3 rfl rfl trivial (ki := 0) rfl (fun h5 e_h5 => ?_)
    have hP := hP h5 e_h5
    refine zV_ldc2c (x := 10000000000) dX3_get_61 (by decide) q2251 ⟨by decide, by decide⟩ ?_
    refine zV_iload_n dX3_get_64 rfl ?_
    refine zV_i2l dX3_get_65 ?_
    refine zV_lmul dX3_get_66 ?_
    exact zV_lreturn dX3_get_67 rfl ⟨rfl, hP⟩
def P_M_get (a1 : Int) (a2 : Int) (h : zH) (Q : Int → zH → Prop) : Prop :=
P_M_isRow a1 h (fun r1 h2 =>
if r1 = 0 then
(P_M_get_J51 a1 a2 (-1001) h2 Q)
else
((0 ≤ a1 ∧ a1 < 40) ∧
if 0 ≤ zd h2 104 a1 then
((0 ≤ a1 ∧ a1 < 40) ∧
P_M_in a2 (-1) (w32 ((zd h2 104 a1) - 1)) h2 (fun r3 h4 =>
P_M_get_J51 a1 a2 (if r3 = 0 then (-1012) else 0) h4 Q))
else
(P_M_get_J51 a1 a2 (-1011) h2 Q)))
theorem W_M_get (a1 : Int) (a2 : Int) (h : zH) (Q : Int → zH → Prop) (hP : P_M_get a1 a2 h Q) : zC true zy_X3_get 3 [zR 101, zI a1, zI a2] h (zQ0 Q) := by
  unfold P_M_get at hP
  refine zC.of (by decide) (Nat.le_of_ble_eq_true rfl) ?_
  show zV true zy_X3_get 3 0 [zR 101, zI a1, zI a2, zU] [] h (zQ0 Q)
  refine zV_iload_n dX3_get_0 rfl ?_
  refine zV_cSk (As := [zI a1]) (rest := []) dX3_get_1 (W_M_isRow _ _ _ hP) mi_X3_isRow ml_X3_253 (by decide) (Nat.le_of_ble_eq_true rfl) rfl rfl rfl (fun r1 h2 hP => ?_)
  refine zV_if_ne (tgt := 13) dX3_get_4 (by decide) (fun c => ?_) (fun c => ?_)
  · have hP := zif_n hP c
    refine zV_aload_n dX3_get_13 rfl ?_
    refine zV_sg dX3_get_14 fm_101_5 sa_101 (by decide) fl_X3_17_3 rfl ?_
    refine zV_iload_n dX3_get_17 rfl ?_
    obtain ⟨ob, hP⟩ := hP
    refine zV_ia dX3_get_18 sa_104 ob ?_
    refine zV_if_ge (tgt := 28) dX3_get_19 (by decide) (fun c => ?_) (fun c => ?_)
    · have hP := zif_p hP c
      refine zV_iload_n dX3_get_28 rfl ?_
      refine zV_iconst dX3_get_29 ⟨by decide, by decide⟩ ?_
      refine zV_aload_n dX3_get_30 rfl ?_
      refine zV_sg dX3_get_31 fm_101_5 sa_101 (by decide) fl_X3_17_3 rfl ?_
      refine zV_iload_n dX3_get_34 rfl ?_
      obtain ⟨ob, hP⟩ := hP
      refine zV_ia dX3_get_35 sa_104 ob ?_
      refine zV_iconst dX3_get_36 ⟨by decide, by decide⟩ ?_
      refine zV_isub dX3_get_37 ?_
      refine zV_cSk (As := [zI a2, zI (-1), zI (w32 ((zd h2 104 a1) - 1))]) (rest := []) dX3_get_38 (W_M_in _ _ _ _ _ hP) mi_X3_in ml_X3_238 (by decide) (Nat.le_of_ble_eq_true rfl) rfl rfl rfl (fun r3 h4 hP => ?_)
      have K : zV true zy_X3_get 3 51 [zR 101, zI a1, zI a2, zU] [zI (if r3 = 0 then (-1012) else 0)] h4 (zQ0 Q) := by
        exact W_M_get_J51 _ _ _ _ _ hP
      clear hP
      refine zV_if_eq (tgt := 48) dX3_get_41 (by decide) (fun c => ?_) (fun c => ?_)
      · try simp only [if_pos c] at K
        refine zV_sipush dX3_get_48 ⟨by decide, by decide, by decide⟩ ?_
        refine zV_mask [true, true, true, false] rfl ?_
        exact K
      · try simp only [if_neg c] at K
        refine zV_iconst dX3_get_44 ⟨by decide, by decide⟩ ?_
        refine zV_goto (tgt := 51) dX3_get_45 (by decide) ?_
        refine zV_mask [true, true, true, false] rfl ?_
        exact K
    · have hP := zif_n hP c
      refine zV_sipush dX3_get_22 ⟨by decide, by decide, by decide⟩ ?_
      refine zV_goto (tgt := 51) dX3_get_25 (by decide) ?_
      exact W_M_get_J51 _ _ _ _ _ hP
  · have hP := zif_p hP c
    refine zV_sipush dX3_get_7 ⟨by decide, by decide, by decide⟩ ?_
    refine zV_goto (tgt := 51) dX3_get_10 (by decide) ?_
    exact W_M_get_J51 _ _ _ _ _ hP
def P_M_copy_L120 (y1 : Int) (y2 : Int) (y3 : Int) (y4 : Int) (y5 : Int) (Q : Int → zH → Prop) (k154 : zH → Prop) : Nat → Int → zH → Prop
| 0, _, _ => False
| n120 + 1, y6, h =>
if y5 ≤ y6 then
(k154 h)
else
((0 ≤ w32 ((w32 ((w32 (12 * y1)) + y2)) + y6) ∧ w32 ((w32 ((w32 (12 * y1)) + y2)) + y6) < 480) ∧
(0 ≤ y6 ∧ y6 < 12) ∧
∀ h21 : zH, h21 = zw h 125 y6 (zd h 105 (w32 ((w32 ((w32 (12 * y1)) + y2)) + y6))) →
∀ x6_22 : Int, x6_22 = w32 (y6 + 1) →
P_M_copy_L120 y1 y2 y3 y4 y5 Q k154 n120 x6_22 h21)
theorem W_M_copy_L120 (y1 : Int) (y2 : Int) (y3 : Int) (y4 : Int) (y5 : Int) (Q : Int → zH → Prop) (k154 : zH → Prop) (H154 : ∀ (h' : zH), k154 h' → zV true zy_X3_copy 3 154 [zR 101, zU, zU, zI y3, zI y4, zI y5, zU] [] h' (zQ0 Q)) : ∀ (n120 : Nat) (y6 : Int) (h : zH), P_M_copy_L120 y1 y2 y3 y4 y5 Q k154 n120 y6 h → zV true zy_X3_copy 3 120 [zR 101, zI y1, zI y2, zI y3, zI y4, zI y5, zI y6] [] h (zQ0 Q) := by
  intro n120
  induction n120 with
  | zero => intro y6 h hP; exact absurd hP id
  | succ n120 ih =>
    intro y6 h hP
    unfold P_M_copy_L120 at hP
    refine zV_iload dX3_copy_120 rfl ?_
    refine zV_iload dX3_copy_122 rfl ?_
    refine zV_icmp_ge (tgt := 154) dX3_copy_124 (by decide) (fun c => ?_) (fun c => ?_)
    · have hP := zif_p hP c
      refine zV_mask [true, false, false, true, true, true, false] (ls' := [zR 101, zU, zU, zI y3, zI y4, zI y5, zU]) rfl ?_
      exact H154 _ hP
    · have hP := zif_n hP c
      refine zV_aload_n dX3_copy_127 rfl ?_
      refine zV_sg dX3_copy_128 fm_101_35 sa_101 (by decide) fl_X3_80_3 rfl ?_
      refine zV_iload dX3_copy_131 rfl ?_
      refine zV_aload_n dX3_copy_133 rfl ?_
      refine zV_sg dX3_copy_134 fm_101_6 sa_101 (by decide) fl_X3_20_3 rfl ?_
      refine zV_bipush dX3_copy_137 ⟨by decide, by decide, by decide⟩ ?_
      refine zV_iload_n dX3_copy_139 rfl ?_
      refine zV_imul dX3_copy_140 ?_
      refine zV_iload_n dX3_copy_141 rfl ?_
      refine zV_iadd dX3_copy_142 ?_
      refine zV_iload dX3_copy_143 rfl ?_
      refine zV_iadd dX3_copy_145 ?_
      obtain ⟨ob, hP⟩ := hP
      refine zV_ia dX3_copy_146 sa_105 ob ?_
      obtain ⟨ob, hP⟩ := hP
      refine zV_ias dX3_copy_147 sa_125 ob (fun h21 e_h21 => ?_)
      have hP := hP h21 e_h21
      refine zV_inc (ls' := fun z => [zR 101, zI y1, zI y2, zI y3, zI y4, zI y5, zI z]) dX3_copy_148 (Nat.le_of_ble_eq_true rfl) rfl rfl (fun _ => rfl) (fun x6_22 e_x6_22 => ?_)
      have hP := hP x6_22 e_x6_22
      refine zV_goto (tgt := 120) dX3_copy_151 (by decide) ?_
      exact ih _ _ hP
def P_M_copy_L157 (y3 : Int) (y4 : Int) (y5 : Int) (Q : Int → zH → Prop) : Nat → Int → zH → Prop
| 0, _, _ => False
| n157 + 1, y6, h =>
if y5 ≤ y6 then
(Q y5 h)
else
((0 ≤ y6 ∧ y6 < 12) ∧
(0 ≤ w32 ((w32 ((w32 (12 * y3)) + y4)) + y6) ∧ w32 ((w32 ((w32 (12 * y3)) + y4)) + y6) < 480) ∧
∀ h24 : zH, h24 = zw h 105 (w32 ((w32 ((w32 (12 * y3)) + y4)) + y6)) (zd h 125 y6) →
∀ x6_25 : Int, x6_25 = w32 (y6 + 1) →
P_M_copy_L157 y3 y4 y5 Q n157 x6_25 h24)
theorem W_M_copy_L157 (y3 : Int) (y4 : Int) (y5 : Int) (Q : Int → zH → Prop) : ∀ (n157 : Nat) (y6 : Int) (h : zH), P_M_copy_L157 y3 y4 y5 Q n157 y6 h → zV true zy_X3_copy 3 157 [zR 101, zU, zU, zI y3, zI y4, zI y5, zI y6] [] h (zQ0 Q) := by
  intro n157
  induction n157 with
  | zero => intro y6 h hP; exact absurd hP id
  | succ n157 ih =>
    intro y6 h hP
    unfold P_M_copy_L157 at hP
    refine zV_iload dX3_copy_157 rfl ?_
    refine zV_iload dX3_copy_159 rfl ?_
    refine zV_icmp_ge (tgt := 192) dX3_copy_161 (by decide) (fun c => ?_) (fun c => ?_)
    · have hP := zif_p hP c
      refine zV_iload dX3_copy_192 rfl ?_
      exact zV_ireturn dX3_copy_194 rfl rfl rfl ⟨rfl, hP⟩
    · have hP := zif_n hP c
      refine zV_aload_n dX3_copy_164 rfl ?_
      refine zV_sg dX3_copy_165 fm_101_6 sa_101 (by decide) fl_X3_20_3 rfl ?_
      refine zV_bipush dX3_copy_168 ⟨by decide, by decide, by decide⟩ ?_
      refine zV_iload_n dX3_copy_170 rfl ?_
      refine zV_imul dX3_copy_171 ?_
      refine zV_iload dX3_copy_172 rfl ?_
      refine zV_iadd dX3_copy_174 ?_
      refine zV_iload dX3_copy_175 rfl ?_
      refine zV_iadd dX3_copy_177 ?_
      refine zV_aload_n dX3_copy_178 rfl ?_
      refine zV_sg dX3_copy_179 fm_101_35 sa_101 (by decide) fl_X3_80_3 rfl ?_
      refine zV_iload dX3_copy_182 rfl ?_
      obtain ⟨ob, hP⟩ := hP
      refine zV_ia dX3_copy_184 sa_125 ob ?_
      obtain ⟨ob, hP⟩ := hP
      refine zV_ias dX3_copy_185 sa_105 ob (fun h24 e_h24 => ?_)
      have hP := hP h24 e_h24
      refine zV_inc (ls' := fun z => [zR 101, zU, zU, zI y3, zI y4, zI y5, zI z]) dX3_copy_186 (Nat.le_of_ble_eq_true rfl) rfl rfl (fun _ => rfl) (fun x6_25 e_x6_25 => ?_)
      have hP := hP x6_25 e_x6_25
      refine zV_goto (tgt := 157) dX3_copy_189 (by decide) ?_
      exact ih _ _ hP
def P_M_copy (a1 : Int) (a2 : Int) (a3 : Int) (a4 : Int) (a5 : Int) (h : zH) (Q : Int → zH → Prop) : Prop :=
P_M_isRow a1 h (fun r1 h2 =>
if r1 = 0 then
(P_M_fail (-1001) h2 (fun r3 h4 =>
Q r3 h4))
else
(P_M_isRow a3 h2 (fun r5 h6 =>
if r5 = 0 then
(P_M_fail (-1001) h6 (fun r30 h31 =>
Q r30 h31))
else
((0 ≤ a1 ∧ a1 < 40) ∧
if zd h6 104 a1 < 0 then
(P_M_fail (-1011) h6 (fun r7 h8 =>
Q r7 h8))
else
((0 ≤ a3 ∧ a3 < 40) ∧
if 0 ≤ zd h6 104 a3 then
((0 ≤ a1 ∧ a1 < 40) ∧
P_M_in a2 0 (zd h6 104 a1) h6 (fun r9 h10 =>
if r9 = 0 then
(P_M_fail (-1012) h10 (fun r11 h12 =>
Q r11 h12))
else
((0 ≤ a3 ∧ a3 < 40) ∧
P_M_in a4 0 (zd h10 104 a3) h10 (fun r13 h14 =>
if r13 = 0 then
(P_M_fail (-1012) h14 (fun r15 h16 =>
Q r15 h16))
else
(if a5 < 0 then
(P_M_fail (-1012) h14 (fun r17 h18 =>
Q r17 h18))
else
((0 ≤ a1 ∧ a1 < 40) ∧
if w32 ((zd h14 104 a1) - a2) < a5 then
(P_M_fail (-1012) h14 (fun r19 h20 =>
Q r19 h20))
else
((0 ≤ a3 ∧ a3 < 40) ∧
if a5 ≤ w32 ((zd h14 104 a3) - a4) then
(∃ n120, P_M_copy_L120 a1 a2 a3 a4 a5 Q (fun h23 =>
∃ n157, P_M_copy_L157 a3 a4 a5 Q n157 0 h23) n120 0 h14)
else
(P_M_fail (-1012) h14 (fun r26 h27 =>
Q r26 h27)))))))))
else
(P_M_fail (-1011) h6 (fun r28 h29 =>
Q r28 h29)))))))
theorem W_M_copy (a1 : Int) (a2 : Int) (a3 : Int) (a4 : Int) (a5 : Int) (h : zH) (Q : Int → zH → Prop) (hP : P_M_copy a1 a2 a3 a4 a5 h Q) : zC true zy_X3_copy 3 [zR 101, zI a1, zI a2, zI a3, zI a4, zI a5] h (zQ0 Q) := by
  unfold P_M_copy at hP
  refine zC.of (by decide) (Nat.le_of_ble_eq_true rfl) ?_
  show zV true zy_X3_copy 3 0 [zR 101, zI a1, zI a2, zI a3, zI a4, zI a5, zU] [] h (zQ0 Q)
  refine zV_iload_n dX3_copy_0 rfl ?_
  refine zV_cSk (As := [zI a1]) (rest := []) dX3_copy_1 (W_M_isRow _ _ _ hP) mi_X3_isRow ml_X3_253 (by decide) (Nat.le_of_ble_eq_true rfl) rfl rfl rfl (fun r1 h2 hP => ?_)
  refine zV_if_eq (tgt := 14) dX3_copy_4 (by decide) (fun c => ?_) (fun c => ?_)
  · have hP := zif_p hP c
    refine zV_aload_n dX3_copy_14 rfl ?_
    refine zV_sipush dX3_copy_15 ⟨by decide, by decide, by decide⟩ ?_
    refine zV_cVk (As := [zI (-1001)]) (rest := []) dX3_copy_18 sa_101 (W_M_fail _ _ _ hP) mi_X3_fail ml_X3_242 (by decide) (Nat.le_of_ble_eq_true rfl) rfl rfl rfl (fun r3 h4 hP => ?_)
    exact zV_ireturn dX3_copy_21 rfl rfl rfl ⟨rfl, hP⟩
  · have hP := zif_n hP c
    refine zV_iload_n dX3_copy_7 rfl ?_
    refine zV_cSk (As := [zI a3]) (rest := []) dX3_copy_8 (W_M_isRow _ _ _ hP) mi_X3_isRow ml_X3_253 (by decide) (Nat.le_of_ble_eq_true rfl) rfl rfl rfl (fun r5 h6 hP => ?_)
    refine zV_if_ne (tgt := 22) dX3_copy_11 (by decide) (fun c => ?_) (fun c => ?_)
    · have hP := zif_n hP c
      refine zV_aload_n dX3_copy_22 rfl ?_
      refine zV_sg dX3_copy_23 fm_101_5 sa_101 (by decide) fl_X3_17_3 rfl ?_
      refine zV_iload_n dX3_copy_26 rfl ?_
      obtain ⟨ob, hP⟩ := hP
      refine zV_ia dX3_copy_27 sa_104 ob ?_
      refine zV_if_lt (tgt := 40) dX3_copy_28 (by decide) (fun c => ?_) (fun c => ?_)
      · have hP := zif_p hP c
        refine zV_aload_n dX3_copy_40 rfl ?_
        refine zV_sipush dX3_copy_41 ⟨by decide, by decide, by decide⟩ ?_
        refine zV_cVk (As := [zI (-1011)]) (rest := []) dX3_copy_44 sa_101 (W_M_fail _ _ _ hP) mi_X3_fail ml_X3_242 (by decide) (Nat.le_of_ble_eq_true rfl) rfl rfl rfl (fun r7 h8 hP => ?_)
        exact zV_ireturn dX3_copy_47 rfl rfl rfl ⟨rfl, hP⟩
      · have hP := zif_n hP c
        refine zV_aload_n dX3_copy_31 rfl ?_
        refine zV_sg dX3_copy_32 fm_101_5 sa_101 (by decide) fl_X3_17_3 rfl ?_
        refine zV_iload_n dX3_copy_35 rfl ?_
        obtain ⟨ob, hP⟩ := hP
        refine zV_ia dX3_copy_36 sa_104 ob ?_
        refine zV_if_ge (tgt := 48) dX3_copy_37 (by decide) (fun c => ?_) (fun c => ?_)
        · have hP := zif_p hP c
          refine zV_iload_n dX3_copy_48 rfl ?_
          refine zV_iconst dX3_copy_49 ⟨by decide, by decide⟩ ?_
          refine zV_aload_n dX3_copy_50 rfl ?_
          refine zV_sg dX3_copy_51 fm_101_5 sa_101 (by decide) fl_X3_17_3 rfl ?_
          refine zV_iload_n dX3_copy_54 rfl ?_
          obtain ⟨ob, hP⟩ := hP
          refine zV_ia dX3_copy_55 sa_104 ob ?_
          refine zV_cSk (As := [zI a2, zI 0, zI (zd h6 104 a1)]) (rest := []) dX3_copy_56 (W_M_in _ _ _ _ _ hP) mi_X3_in ml_X3_238 (by decide) (Nat.le_of_ble_eq_true rfl) rfl rfl rfl (fun r9 h10 hP => ?_)
          refine zV_if_eq (tgt := 109) dX3_copy_59 (by decide) (fun c => ?_) (fun c => ?_)
          · have hP := zif_p hP c
            refine zV_aload_n dX3_copy_109 rfl ?_
            refine zV_sipush dX3_copy_110 ⟨by decide, by decide, by decide⟩ ?_
            refine zV_cVk (As := [zI (-1012)]) (rest := []) dX3_copy_113 sa_101 (W_M_fail _ _ _ hP) mi_X3_fail ml_X3_242 (by decide) (Nat.le_of_ble_eq_true rfl) rfl rfl rfl (fun r11 h12 hP => ?_)
            exact zV_ireturn dX3_copy_116 rfl rfl rfl ⟨rfl, hP⟩
          · have hP := zif_n hP c
            refine zV_iload dX3_copy_62 rfl ?_
            refine zV_iconst dX3_copy_64 ⟨by decide, by decide⟩ ?_
            refine zV_aload_n dX3_copy_65 rfl ?_
            refine zV_sg dX3_copy_66 fm_101_5 sa_101 (by decide) fl_X3_17_3 rfl ?_
            refine zV_iload_n dX3_copy_69 rfl ?_
            obtain ⟨ob, hP⟩ := hP
            refine zV_ia dX3_copy_70 sa_104 ob ?_
            refine zV_cSk (As := [zI a4, zI 0, zI (zd h10 104 a3)]) (rest := []) dX3_copy_71 (W_M_in _ _ _ _ _ hP) mi_X3_in ml_X3_238 (by decide) (Nat.le_of_ble_eq_true rfl) rfl rfl rfl (fun r13 h14 hP => ?_)
            refine zV_if_eq (tgt := 109) dX3_copy_74 (by decide) (fun c => ?_) (fun c => ?_)
            · have hP := zif_p hP c
              refine zV_aload_n dX3_copy_109 rfl ?_
              refine zV_sipush dX3_copy_110 ⟨by decide, by decide, by decide⟩ ?_
              refine zV_cVk (As := [zI (-1012)]) (rest := []) dX3_copy_113 sa_101 (W_M_fail _ _ _ hP) mi_X3_fail ml_X3_242 (by decide) (Nat.le_of_ble_eq_true rfl) rfl rfl rfl (fun r15 h16 hP => ?_)
              exact zV_ireturn dX3_copy_116 rfl rfl rfl ⟨rfl, hP⟩
            · have hP := zif_n hP c
              refine zV_iload dX3_copy_77 rfl ?_
              refine zV_if_lt (tgt := 109) dX3_copy_79 (by decide) (fun c => ?_) (fun c => ?_)
              · have hP := zif_p hP c
                refine zV_aload_n dX3_copy_109 rfl ?_
                refine zV_sipush dX3_copy_110 ⟨by decide, by decide, by decide⟩ ?_
                refine zV_cVk (As := [zI (-1012)]) (rest := []) dX3_copy_113 sa_101 (W_M_fail _ _ _ hP) mi_X3_fail ml_X3_242 (by decide) (Nat.le_of_ble_eq_true rfl) rfl rfl rfl (fun r17 h18 hP => ?_)
                exact zV_ireturn dX3_copy_116 rfl rfl rfl ⟨rfl, hP⟩
              · have hP := zif_n hP c
                refine zV_iload dX3_copy_82 rfl ?_
                refine zV_aload_n dX3_copy_84 rfl ?_
                refine zV_sg dX3_copy_85 fm_101_5 sa_101 (by decide) fl_X3_17_3 rfl ?_
                refine zV_iload_n dX3_copy_88 rfl ?_
                obtain ⟨ob, hP⟩ := hP
                refine zV_ia dX3_copy_89 sa_104 ob ?_
                refine zV_iload_n dX3_copy_90 rfl ?_
                refine zV_isub dX3_copy_91 ?_
                refine zV_icmp_gt (tgt := 109) dX3_copy_92 (by decide) (fun c => ?_) (fun c => ?_)
                · have hP := zif_p hP c
                  refine zV_aload_n dX3_copy_109 rfl ?_
                  refine zV_sipush dX3_copy_110 ⟨by decide, by decide, by decide⟩ ?_
                  refine zV_cVk (As := [zI (-1012)]) (rest := []) dX3_copy_113 sa_101 (W_M_fail _ _ _ hP) mi_X3_fail ml_X3_242 (by decide) (Nat.le_of_ble_eq_true rfl) rfl rfl rfl (fun r19 h20 hP => ?_)
                  exact zV_ireturn dX3_copy_116 rfl rfl rfl ⟨rfl, hP⟩
                · have hP := zif_n hP c
                  refine zV_iload dX3_copy_95 rfl ?_
                  refine zV_aload_n dX3_copy_97 rfl ?_
                  refine zV_sg dX3_copy_98 fm_101_5 sa_101 (by decide) fl_X3_17_3 rfl ?_
                  refine zV_iload_n dX3_copy_101 rfl ?_
                  obtain ⟨ob, hP⟩ := hP
                  refine zV_ia dX3_copy_102 sa_104 ob ?_
                  refine zV_iload dX3_copy_103 rfl ?_
                  refine zV_isub dX3_copy_105 ?_
                  refine zV_icmp_le (tgt := 117) dX3_copy_106 (by decide) (fun c => ?_) (fun c => ?_)
                  · have hP := zif_p hP c
                    refine zV_iconst dX3_copy_117 ⟨by decide, by decide⟩ ?_
                    refine zV_istore (ls' := [zR 101, zI a1, zI a2, zI a3, zI a4, zI a5, zI 0]) dX3_copy_118 (Nat.le_of_ble_eq_true rfl) rfl rfl ?_
                    obtain ⟨n120, hP⟩ := hP
                    refine W_M_copy_L120 _ _ _ _ _ _ _ (fun h23 hP => ?_) n120 _ _ hP
                    refine zV_iconst dX3_copy_154 ⟨by decide, by decide⟩ ?_
                    refine zV_istore (ls' := [zR 101, zU, zU, zI a3, zI a4, zI a5, zI 0]) dX3_copy_155 (Nat.le_of_ble_eq_true rfl) rfl rfl ?_
                    obtain ⟨n157, hP⟩ := hP
                    refine W_M_copy_L157 _ _ _ _ n157 _ _ hP
                  · have hP := zif_n hP c
                    refine zV_aload_n dX3_copy_109 rfl ?_
                    refine zV_sipush dX3_copy_110 ⟨by decide, by decide, by decide⟩ ?_
                    refine zV_cVk (As := [zI (-1012)]) (rest := []) dX3_copy_113 sa_101 (W_M_fail _ _ _ hP) mi_X3_fail ml_X3_242 (by decide) (Nat.le_of_ble_eq_true rfl) rfl rfl rfl (fun r26 h27 hP => ?_)
                    exact zV_ireturn dX3_copy_116 rfl rfl rfl ⟨rfl, hP⟩
        · have hP := zif_n hP c
          refine zV_aload_n dX3_copy_40 rfl ?_
          refine zV_sipush dX3_copy_41 ⟨by decide, by decide, by decide⟩ ?_
          refine zV_cVk (As := [zI (-1011)]) (rest := []) dX3_copy_44 sa_101 (W_M_fail _ _ _ hP) mi_X3_fail ml_X3_242 (by decide) (Nat.le_of_ble_eq_true rfl) rfl rfl rfl (fun r28 h29 hP => ?_)
          exact zV_ireturn dX3_copy_47 rfl rfl rfl ⟨rfl, hP⟩
    · have hP := zif_p hP c
      refine zV_aload_n dX3_copy_14 rfl ?_
      refine zV_sipush dX3_copy_15 ⟨by decide, by decide, by decide⟩ ?_
      refine zV_cVk (As := [zI (-1001)]) (rest := []) dX3_copy_18 sa_101 (W_M_fail _ _ _ hP) mi_X3_fail ml_X3_242 (by decide) (Nat.le_of_ble_eq_true rfl) rfl rfl rfl (fun r30 h31 hP => ?_)
      exact zV_ireturn dX3_copy_21 rfl rfl rfl ⟨rfl, hP⟩
def P_M_cut (a1 : Int) (a2 : Int) (h : zH) (Q : Int → zH → Prop) : Prop :=
P_M_isRow a1 h (fun r1 h2 =>
if r1 = 0 then
(P_M_fail (-1001) h2 (fun r3 h4 =>
Q r3 h4))
else
(if a2 ≤ 12 then
(if 0 ≤ a2 then
((0 ≤ a1 ∧ a1 < 40) ∧
if 0 ≤ zd h2 104 a1 then
((0 ≤ a1 ∧ a1 < 40) ∧
if a2 ≤ zd h2 104 a1 then
((0 ≤ a1 ∧ a1 < 40) ∧
∀ h5 : zH, h5 = zw h2 104 a1 a2 →
Q a2 h5)
else
(P_M_fail (-1012) h2 (fun r6 h7 =>
Q r6 h7)))
else
(P_M_fail (-1011) h2 (fun r8 h9 =>
Q r8 h9)))
else
(P_M_fail (-1014) h2 (fun r10 h11 =>
Q r10 h11)))
else
(P_M_fail (-1001) h2 (fun r12 h13 =>
Q r12 h13))))
theorem W_M_cut (a1 : Int) (a2 : Int) (h : zH) (Q : Int → zH → Prop) (hP : P_M_cut a1 a2 h Q) : zC true zy_X3_cut 3 [zR 101, zI a1, zI a2] h (zQ0 Q) := by
  unfold P_M_cut at hP
  refine zC.of (by decide) (Nat.le_of_ble_eq_true rfl) ?_
  show zV true zy_X3_cut 3 0 [zR 101, zI a1, zI a2] [] h (zQ0 Q)
  refine zV_iload_n dX3_cut_0 rfl ?_
  refine zV_cSk (As := [zI a1]) (rest := []) dX3_cut_1 (W_M_isRow _ _ _ hP) mi_X3_isRow ml_X3_253 (by decide) (Nat.le_of_ble_eq_true rfl) rfl rfl rfl (fun r1 h2 hP => ?_)
  refine zV_if_eq (tgt := 13) dX3_cut_4 (by decide) (fun c => ?_) (fun c => ?_)
  · have hP := zif_p hP c
    refine zV_aload_n dX3_cut_13 rfl ?_
    refine zV_sipush dX3_cut_14 ⟨by decide, by decide, by decide⟩ ?_
    refine zV_cVk (As := [zI (-1001)]) (rest := []) dX3_cut_17 sa_101 (W_M_fail _ _ _ hP) mi_X3_fail ml_X3_242 (by decide) (Nat.le_of_ble_eq_true rfl) rfl rfl rfl (fun r3 h4 hP => ?_)
    exact zV_ireturn dX3_cut_20 rfl rfl rfl ⟨rfl, hP⟩
  · have hP := zif_n hP c
    refine zV_iload_n dX3_cut_7 rfl ?_
    refine zV_bipush dX3_cut_8 ⟨by decide, by decide, by decide⟩ ?_
    refine zV_icmp_le (tgt := 21) dX3_cut_10 (by decide) (fun c => ?_) (fun c => ?_)
    · have hP := zif_p hP c
      refine zV_iload_n dX3_cut_21 rfl ?_
      refine zV_if_ge (tgt := 33) dX3_cut_22 (by decide) (fun c => ?_) (fun c => ?_)
      · have hP := zif_p hP c
        refine zV_aload_n dX3_cut_33 rfl ?_
        refine zV_sg dX3_cut_34 fm_101_5 sa_101 (by decide) fl_X3_17_3 rfl ?_
        refine zV_iload_n dX3_cut_37 rfl ?_
        obtain ⟨ob, hP⟩ := hP
        refine zV_ia dX3_cut_38 sa_104 ob ?_
        refine zV_if_ge (tgt := 50) dX3_cut_39 (by decide) (fun c => ?_) (fun c => ?_)
        · have hP := zif_p hP c
          refine zV_iload_n dX3_cut_50 rfl ?_
          refine zV_aload_n dX3_cut_51 rfl ?_
          refine zV_sg dX3_cut_52 fm_101_5 sa_101 (by decide) fl_X3_17_3 rfl ?_
          refine zV_iload_n dX3_cut_55 rfl ?_
          obtain ⟨ob, hP⟩ := hP
          refine zV_ia dX3_cut_56 sa_104 ob ?_
          refine zV_icmp_le (tgt := 68) dX3_cut_57 (by decide) (fun c => ?_) (fun c => ?_)
          · have hP := zif_p hP c
            refine zV_aload_n dX3_cut_68 rfl ?_
            refine zV_sg dX3_cut_69 fm_101_5 sa_101 (by decide) fl_X3_17_3 rfl ?_
            refine zV_iload_n dX3_cut_72 rfl ?_
            refine zV_iload_n dX3_cut_73 rfl ?_
            obtain ⟨ob, hP⟩ := hP
            refine zV_ias dX3_cut_74 sa_104 ob (fun h5 e_h5 => ?_)
            have hP := hP h5 e_h5
            refine zV_iload_n dX3_cut_75 rfl ?_
            exact zV_ireturn dX3_cut_76 rfl rfl rfl ⟨rfl, hP⟩
          · have hP := zif_n hP c
            refine zV_aload_n dX3_cut_60 rfl ?_
            refine zV_sipush dX3_cut_61 ⟨by decide, by decide, by decide⟩ ?_
            refine zV_cVk (As := [zI (-1012)]) (rest := []) dX3_cut_64 sa_101 (W_M_fail _ _ _ hP) mi_X3_fail ml_X3_242 (by decide) (Nat.le_of_ble_eq_true rfl) rfl rfl rfl (fun r6 h7 hP => ?_)
            exact zV_ireturn dX3_cut_67 rfl rfl rfl ⟨rfl, hP⟩
        · have hP := zif_n hP c
          refine zV_aload_n dX3_cut_42 rfl ?_
          refine zV_sipush dX3_cut_43 ⟨by decide, by decide, by decide⟩ ?_
          refine zV_cVk (As := [zI (-1011)]) (rest := []) dX3_cut_46 sa_101 (W_M_fail _ _ _ hP) mi_X3_fail ml_X3_242 (by decide) (Nat.le_of_ble_eq_true rfl) rfl rfl rfl (fun r8 h9 hP => ?_)
          exact zV_ireturn dX3_cut_49 rfl rfl rfl ⟨rfl, hP⟩
      · have hP := zif_n hP c
        refine zV_aload_n dX3_cut_25 rfl ?_
        refine zV_sipush dX3_cut_26 ⟨by decide, by decide, by decide⟩ ?_
        refine zV_cVk (As := [zI (-1014)]) (rest := []) dX3_cut_29 sa_101 (W_M_fail _ _ _ hP) mi_X3_fail ml_X3_242 (by decide) (Nat.le_of_ble_eq_true rfl) rfl rfl rfl (fun r10 h11 hP => ?_)
        exact zV_ireturn dX3_cut_32 rfl rfl rfl ⟨rfl, hP⟩
    · have hP := zif_n hP c
      refine zV_aload_n dX3_cut_13 rfl ?_
      refine zV_sipush dX3_cut_14 ⟨by decide, by decide, by decide⟩ ?_
      refine zV_cVk (As := [zI (-1001)]) (rest := []) dX3_cut_17 sa_101 (W_M_fail _ _ _ hP) mi_X3_fail ml_X3_242 (by decide) (Nat.le_of_ble_eq_true rfl) rfl rfl rfl (fun r12 h13 hP => ?_)
      exact zV_ireturn dX3_cut_20 rfl rfl rfl ⟨rfl, hP⟩
def P_M_feed_L42 (y1 : Int) (Q : Int → zH → Prop) : Nat → Int → zH → Prop
| 0, _, _ => False
| n42 + 1, y4, h =>
if y4 < 0 then
(Q (zd h 101 8) h)
else
((0 ≤ zd h 101 8 ∧ zd h 101 8 < 60) ∧
∀ h4 : zH, h4 = zw h 106 (zd h 101 8) (w32 (zland (zlshr y1 (w32 (8 * y4))) 255)) →
∀ h5 : zH, h5 = zw h4 101 8 (w32 ((zd h4 101 8) + 1)) →
∀ x4_6 : Int, x4_6 = w32 (y4 + (-1)) →
P_M_feed_L42 y1 Q n42 x4_6 h5)
theorem W_M_feed_L42 (y1 : Int) (Q : Int → zH → Prop) : ∀ (n42 : Nat) (y4 : Int) (h : zH), P_M_feed_L42 y1 Q n42 y4 h → zV true zy_X3_feed 2 42 [zR 101, zJ y1, zU, zU, zI y4] [] h (zQ0 Q) := by
  intro n42
  induction n42 with
  | zero => intro y4 h hP; exact absurd hP id
  | succ n42 ih =>
    intro y4 h hP
    unfold P_M_feed_L42 at hP
    refine zV_iload dX3_feed_42 rfl ?_
    refine zV_if_lt (tgt := 84) dX3_feed_44 (by decide) (fun c => ?_) (fun c => ?_)
    · have hP := zif_p hP c
      refine zV_aload_n dX3_feed_84 rfl ?_
      refine zV_gf dX3_feed_85 sa_101 (by decide) fl_X3_259_3 rfl (ki := 8) rfl ?_
      exact zV_ireturn dX3_feed_88 rfl rfl rfl ⟨rfl, hP⟩
    · have hP := zif_n hP c
      refine zV_aload_n dX3_feed_47 rfl ?_
      refine zV_sg dX3_feed_48 fm_101_7 sa_101 (by decide) fl_X3_23_3 rfl ?_
      refine zV_aload_n dX3_feed_51 rfl ?_
      refine zV_gf dX3_feed_52 sa_101 (by decide) fl_X3_259_3 rfl (ki := 8) rfl ?_
      refine zV_lload_n dX3_feed_55 rfl ?_
      refine zV_bipush dX3_feed_56 ⟨by decide, by decide, by decide⟩ ?_
      refine zV_iload dX3_feed_58 rfl ?_
      refine zV_imul dX3_feed_60 ?_
      refine zV_lshr dX3_feed_61 ?_
      refine zV_ldc2c (x := 255) dX3_feed_62 (by decide) q2264 ⟨by decide, by decide⟩ ?_
      refine zV_land dX3_feed_65 ?_
      refine zV_l2i dX3_feed_66 ?_
      obtain ⟨ob, hP⟩ := hP
      refine zV_ias dX3_feed_67 sa_106 ob (fun h4 e_h4 => ?_)
      have hP := hP h4 e_h4
      refine zV_aload_n dX3_feed_68 rfl ?_
      refine zV_dup dX3_feed_69 (Nat.ne_of_beq_eq_false rfl) ?_
      refine zV_gf dX3_feed_70 sa_101 (by decide) fl_X3_259_3 rfl (ki := 8) rfl ?_
      refine zV_iconst dX3_feed_73 ⟨by decide, by decide⟩ ?_
      refine zV_iadd dX3_feed_74 ?_
      refine zV_pf dX3_feed_75 sa_101 (by decide) fl_X3_259_3 rfl rfl trivial (ki := 8) rfl (fun h5 e_h5 => ?_)
      have hP := hP h5 e_h5
      refine zV_inc (ls' := fun z => [zR 101, zJ y1, zU, zU, zI z]) dX3_feed_78 (Nat.le_of_ble_eq_true rfl) rfl rfl (fun _ => rfl) (fun x4_6 e_x4_6 => ?_)
      have hP := hP x4_6 e_x4_6
      refine zV_goto (tgt := 42) dX3_feed_81 (by decide) ?_
      exact ih _ _ hP
def P_M_feed (a1 : Int) (a2 : Int) (h : zH) (Q : Int → zH → Prop) : Prop :=
P_M_in a2 1 8 h (fun r1 h2 =>
if r1 = 0 then
(P_M_fail (-1001) h2 (fun r9 h10 =>
Q r9 h10))
else
(if w32 ((zd h2 101 8) + a2) ≤ 60 then
(∀ x4_3 : Int, x4_3 = (w32 (a2 - 1)) →
∃ n42, P_M_feed_L42 a1 Q n42 x4_3 h2)
else
(P_M_fail (-1003) h2 (fun r7 h8 =>
Q r7 h8))))
theorem W_M_feed (a1 : Int) (a2 : Int) (h : zH) (Q : Int → zH → Prop) (hP : P_M_feed a1 a2 h Q) : zC true zy_X3_feed 2 [zR 101, zJ a1, zI a2] h (zQ0 Q) := by
  unfold P_M_feed at hP
  refine zC.of (by decide) (Nat.le_of_ble_eq_true rfl) ?_
  show zV true zy_X3_feed 2 0 [zR 101, zJ a1, zU, zI a2, zU] [] h (zQ0 Q)
  refine zV_iload_n dX3_feed_0 rfl ?_
  refine zV_iconst dX3_feed_1 ⟨by decide, by decide⟩ ?_
  refine zV_bipush dX3_feed_2 ⟨by decide, by decide, by decide⟩ ?_
  refine zV_cSk (As := [zI a2, zI 1, zI 8]) (rest := []) dX3_feed_4 (W_M_in _ _ _ _ _ hP) mi_X3_in ml_X3_238 (by decide) (Nat.le_of_ble_eq_true rfl) rfl rfl rfl (fun r1 h2 hP => ?_)
  refine zV_if_ne (tgt := 18) dX3_feed_7 (by decide) (fun c => ?_) (fun c => ?_)
  · have hP := zif_n hP c
    refine zV_aload_n dX3_feed_18 rfl ?_
    refine zV_gf dX3_feed_19 sa_101 (by decide) fl_X3_259_3 rfl (ki := 8) rfl ?_
    refine zV_iload_n dX3_feed_22 rfl ?_
    refine zV_iadd dX3_feed_23 ?_
    refine zV_bipush dX3_feed_24 ⟨by decide, by decide, by decide⟩ ?_
    refine zV_icmp_le (tgt := 37) dX3_feed_26 (by decide) (fun c => ?_) (fun c => ?_)
    · have hP := zif_p hP c
      refine zV_iload_n dX3_feed_37 rfl ?_
      refine zV_iconst dX3_feed_38 ⟨by decide, by decide⟩ ?_
      refine zV_isub dX3_feed_39 ?_
      refine zV_top (fun x4_3 e_x4_3 => ?_)
      have hP := hP x4_3 e_x4_3
      refine zV_istore (ls' := [zR 101, zJ a1, zU, zI a2, zI x4_3]) dX3_feed_40 (Nat.le_of_ble_eq_true rfl) rfl rfl ?_
      obtain ⟨n42, hP⟩ := hP
      refine zV_mask [true, true, true, false, true] (ls' := [zR 101, zJ a1, zU, zU, zI x4_3]) rfl ?_
      refine W_M_feed_L42 _ _ n42 _ _ hP
    · have hP := zif_n hP c
      refine zV_aload_n dX3_feed_29 rfl ?_
      refine zV_sipush dX3_feed_30 ⟨by decide, by decide, by decide⟩ ?_
      refine zV_cVk (As := [zI (-1003)]) (rest := []) dX3_feed_33 sa_101 (W_M_fail _ _ _ hP) mi_X3_fail ml_X3_242 (by decide) (Nat.le_of_ble_eq_true rfl) rfl rfl rfl (fun r7 h8 hP => ?_)
      exact zV_ireturn dX3_feed_36 rfl rfl rfl ⟨rfl, hP⟩
  · have hP := zif_p hP c
    refine zV_aload_n dX3_feed_10 rfl ?_
    refine zV_sipush dX3_feed_11 ⟨by decide, by decide, by decide⟩ ?_
    refine zV_cVk (As := [zI (-1001)]) (rest := []) dX3_feed_14 sa_101 (W_M_fail _ _ _ hP) mi_X3_fail ml_X3_242 (by decide) (Nat.le_of_ble_eq_true rfl) rfl rfl rfl (fun r9 h10 hP => ?_)
    exact zV_ireturn dX3_feed_17 rfl rfl rfl ⟨rfl, hP⟩
def P_M_wipe (h : zH) (Q : Int → zH → Prop) : Prop :=
∀ x1_1 : Int, x1_1 = (zd h 101 8) →
∀ h2 : zH, h2 = zw h 101 8 0 →
Q x1_1 h2
theorem W_M_wipe (h : zH) (Q : Int → zH → Prop) (hP : P_M_wipe  h Q) : zC true zy_X3_wipe 1 [zR 101] h (zQ0 Q) := by
  unfold P_M_wipe at hP
  refine zC.of (by decide) (Nat.le_of_ble_eq_true rfl) ?_
  show zV true zy_X3_wipe 1 0 [zR 101, zU] [] h (zQ0 Q)
  refine zV_aload_n dX3_wipe_0 rfl ?_
  refine zV_gf dX3_wipe_1 sa_101 (by decide) fl_X3_259_3 rfl (ki := 8) rfl ?_
  refine zV_top (fun x1_1 e_x1_1 => ?_)
  have hP := hP x1_1 e_x1_1
  refine zV_istore_n (ls' := [zR 101, zI x1_1]) dX3_wipe_4 rfl (Nat.le_of_ble_eq_true rfl) rfl rfl ?_
  refine zV_aload_n dX3_wipe_5 rfl ?_
  refine zV_iconst dX3_wipe_6 ⟨by decide, by decide⟩ ?_
  refine zV_pf dX3_wipe_7 sa_101 (by decide) fl_X3_259_3 rfl rfl trivial (ki := 8) rfl (fun h2 e_h2 => ?_)
  have hP := hP h2 e_h2
  refine zV_iload_n dX3_wipe_10 rfl ?_
  exact zV_ireturn dX3_wipe_11 rfl rfl rfl ⟨rfl, hP⟩
def P_M_nameOf (a1 : Int) (h : zH) (Q : Int → zH → Prop) : Prop :=
Q (if 0 ≤ a1 then a1 else w32 (-a1)) h
theorem W_M_nameOf (a1 : Int) (h : zH) (Q : Int → zH → Prop) (hP : P_M_nameOf a1 h Q) : zC true zy_X3_nameOf 1 [zI a1] h (zQ0 Q) := by
  unfold P_M_nameOf at hP
  refine zC.of (by decide) (Nat.le_of_ble_eq_true rfl) ?_
  show zV true zy_X3_nameOf 1 0 [zI a1] [] h (zQ0 Q)
  refine zV_iload_n dX3_nameOf_0 rfl ?_
  have K : zV true zy_X3_nameOf 1 10 [zU] [zI (if 0 ≤ a1 then a1 else w32 (-a1))] h (zQ0 Q) := by
    exact zV_ireturn dX3_nameOf_10 rfl rfl rfl ⟨rfl, hP⟩
  clear hP
  refine zV_if_ge (tgt := 9) dX3_nameOf_1 (by decide) (fun c => ?_) (fun c => ?_)
  · try simp only [if_pos c] at K
    refine zV_iload_n dX3_nameOf_9 rfl ?_
    refine zV_mask [false] rfl ?_
    exact K
  · try simp only [if_neg c] at K
    refine zV_iload_n dX3_nameOf_4 rfl ?_
    refine zV_ineg dX3_nameOf_5 ?_
    refine zV_goto (tgt := 10) dX3_nameOf_6 (by decide) ?_
    refine zV_mask [false] rfl ?_
    exact K
def P_M_wrongItem (a1 : Int) (h : zH) (Q : Int → zH → Prop) : Prop :=
if a1 = 0 then
(Q (-1012) h)
else
(if 300 < a1 then
(Q (-1012) h)
else
(if (-300) ≤ a1 then
(P_M_nameOf a1 h (fun r1 h2 =>
Q (if r1 ≤ zd h2 101 1 then 0 else (-1011)) h2))
else
(Q (-1012) h)))
theorem W_M_wrongItem (a1 : Int) (h : zH) (Q : Int → zH → Prop) (hP : P_M_wrongItem a1 h Q) : zC true zy_X3_wrongItem 2 [zR 101, zI a1] h (zQ0 Q) := by
  unfold P_M_wrongItem at hP
  refine zC.of (by decide) (Nat.le_of_ble_eq_true rfl) ?_
  show zV true zy_X3_wrongItem 2 0 [zR 101, zI a1] [] h (zQ0 Q)
  refine zV_iload_n dX3_wrongItem_0 rfl ?_
  refine zV_if_eq (tgt := 18) dX3_wrongItem_1 (by decide) (fun c => ?_) (fun c => ?_)
  · have hP := zif_p hP c
    refine zV_sipush dX3_wrongItem_18 ⟨by decide, by decide, by decide⟩ ?_
    refine zV_goto (tgt := 42) dX3_wrongItem_21 (by decide) ?_
    exact zV_ireturn dX3_wrongItem_42 rfl rfl rfl ⟨rfl, hP⟩
  · have hP := zif_n hP c
    refine zV_iload_n dX3_wrongItem_4 rfl ?_
    refine zV_sipush dX3_wrongItem_5 ⟨by decide, by decide, by decide⟩ ?_
    refine zV_icmp_gt (tgt := 18) dX3_wrongItem_8 (by decide) (fun c => ?_) (fun c => ?_)
    · have hP := zif_p hP c
      refine zV_sipush dX3_wrongItem_18 ⟨by decide, by decide, by decide⟩ ?_
      refine zV_goto (tgt := 42) dX3_wrongItem_21 (by decide) ?_
      exact zV_ireturn dX3_wrongItem_42 rfl rfl rfl ⟨rfl, hP⟩
    · have hP := zif_n hP c
      refine zV_iload_n dX3_wrongItem_11 rfl ?_
      refine zV_sipush dX3_wrongItem_12 ⟨by decide, by decide, by decide⟩ ?_
      refine zV_icmp_ge (tgt := 24) dX3_wrongItem_15 (by decide) (fun c => ?_) (fun c => ?_)
      · have hP := zif_p hP c
        refine zV_iload_n dX3_wrongItem_24 rfl ?_
        refine zV_cSk (As := [zI a1]) (rest := []) dX3_wrongItem_25 (W_M_nameOf _ _ _ hP) mi_X3_nameOf ml_X3_289 (by decide) (Nat.le_of_ble_eq_true rfl) rfl rfl rfl (fun r1 h2 hP => ?_)
        refine zV_aload_n dX3_wrongItem_28 rfl ?_
        refine zV_gf dX3_wrongItem_29 sa_101 (by decide) fl_X3_246_3 rfl (ki := 1) rfl ?_
        have K : zV true zy_X3_wrongItem 2 42 [zU, zU] [zI (if r1 ≤ zd h2 101 1 then 0 else (-1011))] h2 (zQ0 Q) := by
          exact zV_ireturn dX3_wrongItem_42 rfl rfl rfl ⟨rfl, hP⟩
        clear hP
        refine zV_icmp_le (tgt := 41) dX3_wrongItem_32 (by decide) (fun c => ?_) (fun c => ?_)
        · try simp only [if_pos c] at K
          refine zV_iconst dX3_wrongItem_41 ⟨by decide, by decide⟩ ?_
          refine zV_mask [false, false] rfl ?_
          exact K
        · try simp only [if_neg c] at K
          refine zV_sipush dX3_wrongItem_35 ⟨by decide, by decide, by decide⟩ ?_
          refine zV_goto (tgt := 42) dX3_wrongItem_38 (by decide) ?_
          refine zV_mask [false, false] rfl ?_
          exact K
      · have hP := zif_n hP c
        refine zV_sipush dX3_wrongItem_18 ⟨by decide, by decide, by decide⟩ ?_
        refine zV_goto (tgt := 42) dX3_wrongItem_21 (by decide) ?_
        exact zV_ireturn dX3_wrongItem_42 rfl rfl rfl ⟨rfl, hP⟩
def P_M_takeItems_J70 (y1 : Int) (y3 : Int) (s0 : Int) (h : zH) (Q : Int → zH → Prop) (k27 : Int → Int → zH → Prop) : Prop :=
∀ x3_5 : Int, x3_5 = w32 (y3 + 1) →
k27 s0 x3_5 h
theorem W_M_takeItems_J70 (y1 : Int) (y3 : Int) (s0 : Int) (h : zH) (Q : Int → zH → Prop) (k27 : Int → Int → zH → Prop) (H27 : ∀ (v2 v3 : Int) (h' : zH), k27 v2 v3 h' → zV true zy_X3_takeItems 3 27 [zR 101, zI y1, zI v2, zI v3] [] h' (zQ0 Q)) (hP : P_M_takeItems_J70 y1 y3 s0 h Q k27) : zV true zy_X3_takeItems 3 70 [zR 101, zI y1, zU, zI y3] [zI s0] h (zQ0 Q) := by
  unfold P_M_takeItems_J70 at hP
  refine zV_istore_n (ls' := [zR 101, zI y1, zI s0, zI y3]) dX3_takeItems_70 rfl (Nat.le_of_ble_eq_true rfl) rfl rfl ?_
  refine zV_inc (ls' := fun z => [zR 101, zI y1, zI s0, zI z]) dX3_takeItems_71 (Nat.le_of_ble_eq_true rfl) rfl rfl (fun _ => rfl) (fun x3_5 e_x3_5 => ?_)
  have hP := hP x3_5 e_x3_5
  refine zV_goto (tgt := 27) dX3_takeItems_74 (by decide) ?_
  exact H27 _ _ _ hP
def P_M_takeItems_L27 (y1 : Int) (Q : Int → zH → Prop) : Nat → Int → Int → zH → Prop
| 0, _, _, _ => False
| n27 + 1, y2, y3, h =>
if zd h 101 42 ≤ y3 then
(Q y2 h)
else
((0 ≤ w32 ((w32 (12 * y1)) + y3) ∧ w32 ((w32 (12 * y1)) + y3) < 480) ∧
(0 ≤ y3 ∧ y3 < 40) ∧
∀ h2 : zH, h2 = zw h 127 y3 (zd h 105 (w32 ((w32 (12 * y1)) + y3))) →
if 0 ≤ y2 then
((0 ≤ y3 ∧ y3 < 40) ∧
P_M_wrongItem (zd h2 127 y3) h2 (fun r3 h4 =>
P_M_takeItems_J70 y1 y3 r3 h4 Q (P_M_takeItems_L27 y1 Q n27)))
else
(P_M_takeItems_J70 y1 y3 y2 h2 Q (P_M_takeItems_L27 y1 Q n27)))
theorem W_M_takeItems_L27 (y1 : Int) (Q : Int → zH → Prop) : ∀ (n27 : Nat) (y2 y3 : Int) (h : zH), P_M_takeItems_L27 y1 Q n27 y2 y3 h → zV true zy_X3_takeItems 3 27 [zR 101, zI y1, zI y2, zI y3] [] h (zQ0 Q) := by
  intro n27
  induction n27 with
  | zero => intro y2 y3 h hP; exact absurd hP id
  | succ n27 ih =>
    intro y2 y3 h hP
    unfold P_M_takeItems_L27 at hP
    refine zV_iload_n dX3_takeItems_27 rfl ?_
    refine zV_aload_n dX3_takeItems_28 rfl ?_
    refine zV_gf dX3_takeItems_29 sa_101 (by decide) fl_X3_292_3 rfl (ki := 42) rfl ?_
    refine zV_icmp_ge (tgt := 77) dX3_takeItems_32 (by decide) (fun c => ?_) (fun c => ?_)
    · have hP := zif_p hP c
      refine zV_iload_n dX3_takeItems_77 rfl ?_
      exact zV_ireturn dX3_takeItems_78 rfl rfl rfl ⟨rfl, hP⟩
    · have hP := zif_n hP c
      refine zV_aload_n dX3_takeItems_35 rfl ?_
      refine zV_sg dX3_takeItems_36 fm_101_41 sa_101 (by decide) fl_X3_86_3 rfl ?_
      refine zV_iload_n dX3_takeItems_39 rfl ?_
      refine zV_aload_n dX3_takeItems_40 rfl ?_
      refine zV_sg dX3_takeItems_41 fm_101_6 sa_101 (by decide) fl_X3_20_3 rfl ?_
      refine zV_bipush dX3_takeItems_44 ⟨by decide, by decide, by decide⟩ ?_
      refine zV_iload_n dX3_takeItems_46 rfl ?_
      refine zV_imul dX3_takeItems_47 ?_
      refine zV_iload_n dX3_takeItems_48 rfl ?_
      refine zV_iadd dX3_takeItems_49 ?_
      obtain ⟨ob, hP⟩ := hP
      refine zV_ia dX3_takeItems_50 sa_105 ob ?_
      obtain ⟨ob, hP⟩ := hP
      refine zV_ias dX3_takeItems_51 sa_127 ob (fun h2 e_h2 => ?_)
      have hP := hP h2 e_h2
      refine zV_iload_n dX3_takeItems_52 rfl ?_
      refine zV_if_ge (tgt := 60) dX3_takeItems_53 (by decide) (fun c => ?_) (fun c => ?_)
      · have hP := zif_p hP c
        refine zV_aload_n dX3_takeItems_60 rfl ?_
        refine zV_aload_n dX3_takeItems_61 rfl ?_
        refine zV_sg dX3_takeItems_62 fm_101_41 sa_101 (by decide) fl_X3_86_3 rfl ?_
        refine zV_iload_n dX3_takeItems_65 rfl ?_
        obtain ⟨ob, hP⟩ := hP
        refine zV_ia dX3_takeItems_66 sa_127 ob ?_
        refine zV_cVk (As := [zI (zd h2 127 y3)]) (rest := []) dX3_takeItems_67 sa_101 (W_M_wrongItem _ _ _ hP) mi_X3_wrongItem ml_X3_295 (by decide) (Nat.le_of_ble_eq_true rfl) rfl rfl rfl (fun r3 h4 hP => ?_)
        refine zV_mask [true, true, false, true] (ls' := [zR 101, zI y1, zU, zI y3]) rfl ?_
        exact W_M_takeItems_J70 _ _ _ _ _ _ ih hP
      · have hP := zif_n hP c
        refine zV_iload_n dX3_takeItems_56 rfl ?_
        refine zV_goto (tgt := 70) dX3_takeItems_57 (by decide) ?_
        refine zV_mask [true, true, false, true] (ls' := [zR 101, zI y1, zU, zI y3]) rfl ?_
        exact W_M_takeItems_J70 _ _ _ _ _ _ ih hP
def P_M_takeItems (a1 : Int) (h : zH) (Q : Int → zH → Prop) : Prop :=
(0 ≤ a1 ∧ a1 < 40) ∧
if 0 ≤ zd h 104 a1 then
((0 ≤ a1 ∧ a1 < 40) ∧
∀ h1 : zH, h1 = zw h 101 42 (zd h 104 a1) →
∃ n27, P_M_takeItems_L27 a1 Q n27 0 0 h1)
else
(Q (-1011) h)
theorem W_M_takeItems (a1 : Int) (h : zH) (Q : Int → zH → Prop) (hP : P_M_takeItems a1 h Q) : zC true zy_X3_takeItems 3 [zR 101, zI a1] h (zQ0 Q) := by
  unfold P_M_takeItems at hP
  refine zC.of (by decide) (Nat.le_of_ble_eq_true rfl) ?_
  show zV true zy_X3_takeItems 3 0 [zR 101, zI a1, zU, zU] [] h (zQ0 Q)
  refine zV_aload_n dX3_takeItems_0 rfl ?_
  refine zV_sg dX3_takeItems_1 fm_101_5 sa_101 (by decide) fl_X3_17_3 rfl ?_
  refine zV_iload_n dX3_takeItems_4 rfl ?_
  obtain ⟨ob, hP⟩ := hP
  refine zV_ia dX3_takeItems_5 sa_104 ob ?_
  refine zV_if_ge (tgt := 13) dX3_takeItems_6 (by decide) (fun c => ?_) (fun c => ?_)
  · have hP := zif_p hP c
    refine zV_aload_n dX3_takeItems_13 rfl ?_
    refine zV_aload_n dX3_takeItems_14 rfl ?_
    refine zV_sg dX3_takeItems_15 fm_101_5 sa_101 (by decide) fl_X3_17_3 rfl ?_
    refine zV_iload_n dX3_takeItems_18 rfl ?_
    obtain ⟨ob, hP⟩ := hP
    refine zV_ia dX3_takeItems_19 sa_104 ob ?_
    refine zV_pf dX3_takeItems_20 sa_101 (by decide) fl_X3_292_3 rfl rfl trivial (ki := 42) rfl (fun h1 e_h1 => ?_)
    have hP := hP h1 e_h1
    refine zV_iconst dX3_takeItems_23 ⟨by decide, by decide⟩ ?_
    refine zV_istore_n (ls' := [zR 101, zI a1, zI 0, zU]) dX3_takeItems_24 rfl (Nat.le_of_ble_eq_true rfl) rfl rfl ?_
    refine zV_iconst dX3_takeItems_25 ⟨by decide, by decide⟩ ?_
    refine zV_istore_n (ls' := [zR 101, zI a1, zI 0, zI 0]) dX3_takeItems_26 rfl (Nat.le_of_ble_eq_true rfl) rfl rfl ?_
    obtain ⟨n27, hP⟩ := hP
    refine W_M_takeItems_L27 _ _ n27 _ _ _ hP
  · have hP := zif_n hP c
    refine zV_sipush dX3_takeItems_9 ⟨by decide, by decide, by decide⟩ ?_
    exact zV_ireturn dX3_takeItems_12 rfl rfl rfl ⟨rfl, hP⟩
def P_M_beginLaying_J15 (s0 : Int) (h : zH) (Q : Int → zH → Prop) : Prop :=
(s0 = 0 ∨ s0 = 1) ∧
∀ h1 : zH, h1 = zw h 101 36 s0 →
∀ h2 : zH, h2 = zw h1 101 37 (zd h1 101 1) →
∀ h3 : zH, h3 = zw h2 101 38 (zd h2 101 23) →
∀ h4 : zH, h4 = zw h3 101 40 0 →
Q 0 h4
theorem W_M_beginLaying_J15 (s0 : Int) (h : zH) (Q : Int → zH → Prop) (hP : P_M_beginLaying_J15 s0 h Q) : zV true zy_X3_beginLaying 1 15 [zR 101] [zI s0, zR 101] h (zQ0 Q) := by
  unfold P_M_beginLaying_J15 at hP
  obtain ⟨ob, hP⟩ := hP
  refine zV_pf dX3_beginLaying_15 sa_101 (by decide) fl_X3_267_3 rfl rfl ob (ki := 36) rfl (fun h1 e_h1 => ?_)
  have hP := hP h1 e_h1
  refine zV_aload_n dX3_beginLaying_18 rfl ?_
  refine zV_aload_n dX3_beginLaying_19 rfl ?_
  refine zV_gf dX3_beginLaying_20 sa_101 (by decide) fl_X3_246_3 rfl (ki := 1) rfl ?_
  refine zV_pf dX3_beginLaying_23 sa_101 (by decide) fl_X3_270_3 rfl rfl trivial (ki := 37) rfl (fun h2 e_h2 => ?_)
  have hP := hP h2 e_h2
  refine zV_aload_n dX3_beginLaying_26 rfl ?_
  refine zV_aload_n dX3_beginLaying_27 rfl ?_
  refine zV_gf dX3_beginLaying_28 sa_101 (by decide) fl_X3_273_3 rfl (ki := 23) rfl ?_
  refine zV_pf dX3_beginLaying_31 sa_101 (by decide) fl_X3_276_3 rfl rfl trivial (ki := 38) rfl (fun h3 e_h3 => ?_)
  have hP := hP h3 e_h3
  refine zV_aload_n dX3_beginLaying_34 rfl ?_
  refine zV_iconst dX3_beginLaying_35 ⟨by decide, by decide⟩ ?_
  refine zV_pf dX3_beginLaying_36 sa_101 (by decide) fl_X3_279_3 rfl rfl trivial (ki := 40) rfl (fun h4 e_h4 => ?_)
  have hP := hP h4 e_h4
  exact zV_return dX3_beginLaying_39 rfl ⟨rfl, hP⟩
def P_M_beginLaying (h : zH) (Q : Int → zH → Prop) : Prop :=
P_M_beginLaying_J15 (if zd h 101 11 = 60 then 1 else 0) h Q
theorem W_M_beginLaying (h : zH) (Q : Int → zH → Prop) (hP : P_M_beginLaying  h Q) : zC true zy_X3_beginLaying 1 [zR 101] h (zQ0 Q) := by
  unfold P_M_beginLaying at hP
  refine zC.of (by decide) (Nat.le_of_ble_eq_true rfl) ?_
  show zV true zy_X3_beginLaying 1 0 [zR 101] [] h (zQ0 Q)
  refine zV_aload_n dX3_beginLaying_0 rfl ?_
  refine zV_aload_n dX3_beginLaying_1 rfl ?_
  refine zV_gf dX3_beginLaying_2 sa_101 (by decide) fl_X3_264_3 rfl (ki := 11) rfl ?_
  refine zV_bipush dX3_beginLaying_5 ⟨by decide, by decide, by decide⟩ ?_
  have K : zV true zy_X3_beginLaying 1 15 [zR 101] [zI (if zd h 101 11 = 60 then 1 else 0), zR 101] h (zQ0 Q) := by
    exact W_M_beginLaying_J15 _ _ _ hP
  clear hP
  refine zV_icmp_ne (tgt := 14) dX3_beginLaying_7 (by decide) (fun c => ?_) (fun c => ?_)
  · try simp only [if_neg c] at K
    refine zV_iconst dX3_beginLaying_14 ⟨by decide, by decide⟩ ?_
    refine zV_mask [true] rfl ?_
    exact K
  · try simp only [if_pos c] at K
    refine zV_iconst dX3_beginLaying_10 ⟨by decide, by decide⟩ ?_
    refine zV_goto (tgt := 15) dX3_beginLaying_11 (by decide) ?_
    refine zV_mask [true] rfl ?_
    exact K
def P_M_lay_J31 (y1 : Int) (y3 : Int) (s0 : Int) (h : zH) (Q : Int → zH → Prop) (k4 : Int → Int → zH → Prop) : Prop :=
∀ x3_1 : Int, x3_1 = w32 (y3 + 1) →
k4 s0 x3_1 h
theorem W_M_lay_J31 (y1 : Int) (y3 : Int) (s0 : Int) (h : zH) (Q : Int → zH → Prop) (k4 : Int → Int → zH → Prop) (H4 : ∀ (v2 v3 : Int) (h' : zH), k4 v2 v3 h' → zV true zy_X3_lay 1 4 [zR 101, zI y1, zI v2, zI v3] [] h' (zQ0 Q)) (hP : P_M_lay_J31 y1 y3 s0 h Q k4) : zV true zy_X3_lay 1 31 [zR 101, zI y1, zU, zI y3] [zI s0] h (zQ0 Q) := by
  unfold P_M_lay_J31 at hP
  refine zV_istore_n (ls' := [zR 101, zI y1, zI s0, zI y3]) dX3_lay_31 rfl (Nat.le_of_ble_eq_true rfl) rfl rfl ?_
  refine zV_inc (ls' := fun z => [zR 101, zI y1, zI s0, zI z]) dX3_lay_32 (Nat.le_of_ble_eq_true rfl) rfl rfl (fun _ => rfl) (fun x3_1 e_x3_1 => ?_)
  have hP := hP x3_1 e_x3_1
  refine zV_goto (tgt := 4) dX3_lay_35 (by decide) ?_
  exact H4 _ _ _ hP
def P_M_lay_L4 (y1 : Int) (Q : Int → zH → Prop) (k38 : Int → zH → Prop) : Nat → Int → Int → zH → Prop
| 0, _, _, _ => False
| n4 + 1, y2, y3, h =>
if zd h 101 40 ≤ y3 then
(k38 y2 h)
else
((if y2 = 0 then (0 ≤ y3 ∧ y3 < 40) ∧ True else True) ∧
P_M_lay_J31 y1 y3 (if y2 = 0 then if zd h 126 y3 = y1 then 1 else 0 else 1) h Q (P_M_lay_L4 y1 Q k38 n4))
theorem W_M_lay_L4 (y1 : Int) (Q : Int → zH → Prop) (k38 : Int → zH → Prop) (H38 : ∀ (v2 : Int) (h' : zH), k38 v2 h' → zV true zy_X3_lay 1 38 [zR 101, zI y1, zI v2, zU] [] h' (zQ0 Q)) : ∀ (n4 : Nat) (y2 y3 : Int) (h : zH), P_M_lay_L4 y1 Q k38 n4 y2 y3 h → zV true zy_X3_lay 1 4 [zR 101, zI y1, zI y2, zI y3] [] h (zQ0 Q) := by
  intro n4
  induction n4 with
  | zero => intro y2 y3 h hP; exact absurd hP id
  | succ n4 ih =>
    intro y2 y3 h hP
    unfold P_M_lay_L4 at hP
    refine zV_iload_n dX3_lay_4 rfl ?_
    refine zV_aload_n dX3_lay_5 rfl ?_
    refine zV_gf dX3_lay_6 sa_101 (by decide) fl_X3_279_3 rfl (ki := 40) rfl ?_
    refine zV_icmp_ge (tgt := 38) dX3_lay_9 (by decide) (fun c => ?_) (fun c => ?_)
    · have hP := zif_p hP c
      refine zV_mask [true, true, true, false] (ls' := [zR 101, zI y1, zI y2, zU]) rfl ?_
      exact H38 _ _ hP
    · have hP := zif_n hP c
      refine zV_iload_n dX3_lay_12 rfl ?_
      obtain ⟨hO, hP⟩ := hP
      have K : zV true zy_X3_lay 1 31 [zR 101, zI y1, zU, zI y3] [zI (if y2 = 0 then if zd h 126 y3 = y1 then 1 else 0 else 1)] h (zQ0 Q) := by
        exact W_M_lay_J31 _ _ _ _ _ _ ih hP
      clear hP
      refine zV_if_ne (tgt := 26) dX3_lay_13 (by decide) (fun c => ?_) (fun c => ?_)
      · try simp only [if_neg c] at K
        have hO := zif_n hO c
        refine zV_iconst dX3_lay_26 ⟨by decide, by decide⟩ ?_
        refine zV_goto (tgt := 31) dX3_lay_27 (by decide) ?_
        refine zV_mask [true, true, false, true] rfl ?_
        exact K
      · try simp only [if_pos c] at K
        have hO := zif_p hO c
        refine zV_aload_n dX3_lay_16 rfl ?_
        refine zV_sg dX3_lay_17 fm_101_39 sa_101 (by decide) fl_X3_83_3 rfl ?_
        refine zV_iload_n dX3_lay_20 rfl ?_
        obtain ⟨ob, hO⟩ := hO
        refine zV_ia dX3_lay_21 sa_126 ob ?_
        refine zV_iload_n dX3_lay_22 rfl ?_
        refine zV_icmp_ne (tgt := 30) dX3_lay_23 (by decide) (fun c => ?_) (fun c => ?_)
        · try simp only [if_neg c] at K
          refine zV_iconst dX3_lay_30 ⟨by decide, by decide⟩ ?_
          refine zV_mask [true, true, false, true] rfl ?_
          exact K
        · try simp only [if_pos c] at K
          refine zV_iconst dX3_lay_26 ⟨by decide, by decide⟩ ?_
          refine zV_goto (tgt := 31) dX3_lay_27 (by decide) ?_
          refine zV_mask [true, true, false, true] rfl ?_
          exact K
def P_M_lay (a1 : Int) (h : zH) (Q : Int → zH → Prop) : Prop :=
∃ n4, P_M_lay_L4 a1 Q (fun u2_38 h2 =>
if u2_38 = 0 then
((0 ≤ zd h2 101 40 ∧ zd h2 101 40 < 40) ∧
∀ h3 : zH, h3 = zw h2 126 (zd h2 101 40) a1 →
∀ h4 : zH, h4 = zw h3 101 40 (w32 ((zd h3 101 40) + 1)) →
Q 0 h4)
else
(Q 0 h2)) n4 0 0 h
theorem W_M_lay (a1 : Int) (h : zH) (Q : Int → zH → Prop) (hP : P_M_lay a1 h Q) : zC true zy_X3_lay 1 [zR 101, zI a1] h (zQ0 Q) := by
  unfold P_M_lay at hP
  refine zC.of (by decide) (Nat.le_of_ble_eq_true rfl) ?_
  show zV true zy_X3_lay 1 0 [zR 101, zI a1, zU, zU] [] h (zQ0 Q)
  refine zV_iconst dX3_lay_0 ⟨by decide, by decide⟩ ?_
  refine zV_istore_n (ls' := [zR 101, zI a1, zI 0, zU]) dX3_lay_1 rfl (Nat.le_of_ble_eq_true rfl) rfl rfl ?_
  refine zV_iconst dX3_lay_2 ⟨by decide, by decide⟩ ?_
  refine zV_istore_n (ls' := [zR 101, zI a1, zI 0, zI 0]) dX3_lay_3 rfl (Nat.le_of_ble_eq_true rfl) rfl rfl ?_
  obtain ⟨n4, hP⟩ := hP
  refine W_M_lay_L4 _ _ _ (fun u2_38 h2 hP => ?_) n4 _ _ _ hP
  refine zV_iload_n dX3_lay_38 rfl ?_
  refine zV_if_ne (tgt := 62) dX3_lay_39 (by decide) (fun c => ?_) (fun c => ?_)
  · have hP := zif_n hP c
    exact zV_return dX3_lay_62 rfl ⟨rfl, hP⟩
  · have hP := zif_p hP c
    refine zV_aload_n dX3_lay_42 rfl ?_
    refine zV_sg dX3_lay_43 fm_101_39 sa_101 (by decide) fl_X3_83_3 rfl ?_
    refine zV_aload_n dX3_lay_46 rfl ?_
    refine zV_gf dX3_lay_47 sa_101 (by decide) fl_X3_279_3 rfl (ki := 40) rfl ?_
    refine zV_iload_n dX3_lay_50 rfl ?_
    obtain ⟨ob, hP⟩ := hP
    refine zV_ias dX3_lay_51 sa_126 ob (fun h3 e_h3 => ?_)
    have hP := hP h3 e_h3
    refine zV_aload_n dX3_lay_52 rfl ?_
    refine zV_dup dX3_lay_53 (Nat.ne_of_beq_eq_false rfl) ?_
    refine zV_gf dX3_lay_54 sa_101 (by decide) fl_X3_279_3 rfl (ki := 40) rfl ?_
    refine zV_iconst dX3_lay_57 ⟨by decide, by decide⟩ ?_
    refine zV_iadd dX3_lay_58 ?_
    refine zV_pf dX3_lay_59 sa_101 (by decide) fl_X3_279_3 rfl rfl trivial (ki := 40) rfl (fun h4 e_h4 => ?_)
    have hP := hP h4 e_h4
    exact zV_return dX3_lay_62 rfl ⟨rfl, hP⟩
def P_M_endRow_L55 (Q : Int → zH → Prop) (k91 : zH → Prop) : Nat → Int → zH → Prop
| 0, _, _ => False
| n55 + 1, y1, h =>
if zd h 101 40 ≤ y1 then
(k91 h)
else
((0 ≤ zd h 101 23 ∧ zd h 101 23 < 501) ∧
(0 ≤ y1 ∧ y1 < 40) ∧
(0 ≤ w32 ((zd h 119 (zd h 101 23)) + y1) ∧ w32 ((zd h 119 (zd h 101 23)) + y1) < 2600) ∧
∀ h3 : zH, h3 = zw h 120 (w32 ((zd h 119 (zd h 101 23)) + y1)) (zd h 126 y1) →
∀ x1_4 : Int, x1_4 = w32 (y1 + 1) →
P_M_endRow_L55 Q k91 n55 x1_4 h3)
theorem W_M_endRow_L55 (Q : Int → zH → Prop) (k91 : zH → Prop) (H91 : ∀ (h' : zH), k91 h' → zV true zy_X3_endRow 1 91 [zR 101, zU] [] h' (zQ0 Q)) : ∀ (n55 : Nat) (y1 : Int) (h : zH), P_M_endRow_L55 Q k91 n55 y1 h → zV true zy_X3_endRow 1 55 [zR 101, zI y1] [] h (zQ0 Q) := by
  intro n55
  induction n55 with
  | zero => intro y1 h hP; exact absurd hP id
  | succ n55 ih =>
    intro y1 h hP
    unfold P_M_endRow_L55 at hP
    refine zV_iload_n dX3_endRow_55 rfl ?_
    refine zV_aload_n dX3_endRow_56 rfl ?_
    refine zV_gf dX3_endRow_57 sa_101 (by decide) fl_X3_279_3 rfl (ki := 40) rfl ?_
    refine zV_icmp_ge (tgt := 91) dX3_endRow_60 (by decide) (fun c => ?_) (fun c => ?_)
    · have hP := zif_p hP c
      refine zV_mask [true, false] (ls' := [zR 101, zU]) rfl ?_
      exact H91 _ hP
    · have hP := zif_n hP c
      refine zV_aload_n dX3_endRow_63 rfl ?_
      refine zV_sg dX3_endRow_64 fm_101_25 sa_101 (by decide) fl_X3_65_3 rfl ?_
      refine zV_aload_n dX3_endRow_67 rfl ?_
      refine zV_sg dX3_endRow_68 fm_101_24 sa_101 (by decide) fl_X3_62_3 rfl ?_
      refine zV_aload_n dX3_endRow_71 rfl ?_
      refine zV_gf dX3_endRow_72 sa_101 (by decide) fl_X3_273_3 rfl (ki := 23) rfl ?_
      obtain ⟨ob, hP⟩ := hP
      refine zV_ia dX3_endRow_75 sa_119 ob ?_
      refine zV_iload_n dX3_endRow_76 rfl ?_
      refine zV_iadd dX3_endRow_77 ?_
      refine zV_aload_n dX3_endRow_78 rfl ?_
      refine zV_sg dX3_endRow_79 fm_101_39 sa_101 (by decide) fl_X3_83_3 rfl ?_
      refine zV_iload_n dX3_endRow_82 rfl ?_
      obtain ⟨ob, hP⟩ := hP
      refine zV_ia dX3_endRow_83 sa_126 ob ?_
      obtain ⟨ob, hP⟩ := hP
      refine zV_ias dX3_endRow_84 sa_120 ob (fun h3 e_h3 => ?_)
      have hP := hP h3 e_h3
      refine zV_inc (ls' := fun z => [zR 101, zI z]) dX3_endRow_85 (Nat.le_of_ble_eq_true rfl) rfl rfl (fun _ => rfl) (fun x1_4 e_x1_4 => ?_)
      have hP := hP x1_4 e_x1_4
      refine zV_goto (tgt := 55) dX3_endRow_88 (by decide) ?_
      exact ih _ _ hP
def P_M_endRow_J43 (s0 : Int) (h : zH) (Q : Int → zH → Prop) : Prop :=
(s0 = 0 ∨ s0 = 1) ∧
∀ h1 : zH, h1 = zw h 101 36 s0 →
if zd h1 101 36 = 0 then
(∃ n55, P_M_endRow_L55 Q (fun h5 =>
(0 ≤ zd h5 101 23 ∧ zd h5 101 23 < 501) ∧
(0 ≤ w32 ((zd h5 101 23) + 1) ∧ w32 ((zd h5 101 23) + 1) < 501) ∧
∀ h6 : zH, h6 = zw h5 119 (w32 ((zd h5 101 23) + 1)) (w32 ((zd h5 119 (zd h5 101 23)) + (zd h5 101 40))) →
∀ h7 : zH, h7 = zw h6 101 23 (w32 ((zd h6 101 23) + 1)) →
∀ h8 : zH, h8 = zw h7 101 40 0 →
Q 0 h8) n55 0 h1)
else
(∀ h2 : zH, h2 = zw h1 101 40 0 →
Q 0 h2)
theorem W_M_endRow_J43 (s0 : Int) (h : zH) (Q : Int → zH → Prop) (hP : P_M_endRow_J43 s0 h Q) : zV true zy_X3_endRow 1 43 [zR 101, zU] [zI s0, zR 101] h (zQ0 Q) := by
  unfold P_M_endRow_J43 at hP
  obtain ⟨ob, hP⟩ := hP
  refine zV_pf dX3_endRow_43 sa_101 (by decide) fl_X3_267_3 rfl rfl ob (ki := 36) rfl (fun h1 e_h1 => ?_)
  have hP := hP h1 e_h1
  refine zV_aload_n dX3_endRow_46 rfl ?_
  refine zV_gf dX3_endRow_47 sa_101 (by decide) fl_X3_267_3 rfl (ki := 36) rfl ?_
  refine zV_if_ne (tgt := 126) dX3_endRow_50 (by decide) (fun c => ?_) (fun c => ?_)
  · have hP := zif_n hP c
    refine zV_aload_n dX3_endRow_126 rfl ?_
    refine zV_iconst dX3_endRow_127 ⟨by decide, by decide⟩ ?_
    refine zV_pf dX3_endRow_128 sa_101 (by decide) fl_X3_279_3 rfl rfl trivial (ki := 40) rfl (fun h2 e_h2 => ?_)
    have hP := hP h2 e_h2
    exact zV_return dX3_endRow_131 rfl ⟨rfl, hP⟩
  · have hP := zif_p hP c
    refine zV_iconst dX3_endRow_53 ⟨by decide, by decide⟩ ?_
    refine zV_istore_n (ls' := [zR 101, zI 0]) dX3_endRow_54 rfl (Nat.le_of_ble_eq_true rfl) rfl rfl ?_
    obtain ⟨n55, hP⟩ := hP
    refine W_M_endRow_L55 _ _ (fun h5 hP => ?_) n55 _ _ hP
    refine zV_aload_n dX3_endRow_91 rfl ?_
    refine zV_sg dX3_endRow_92 fm_101_24 sa_101 (by decide) fl_X3_62_3 rfl ?_
    refine zV_aload_n dX3_endRow_95 rfl ?_
    refine zV_gf dX3_endRow_96 sa_101 (by decide) fl_X3_273_3 rfl (ki := 23) rfl ?_
    refine zV_iconst dX3_endRow_99 ⟨by decide, by decide⟩ ?_
    refine zV_iadd dX3_endRow_100 ?_
    refine zV_aload_n dX3_endRow_101 rfl ?_
    refine zV_sg dX3_endRow_102 fm_101_24 sa_101 (by decide) fl_X3_62_3 rfl ?_
    refine zV_aload_n dX3_endRow_105 rfl ?_
    refine zV_gf dX3_endRow_106 sa_101 (by decide) fl_X3_273_3 rfl (ki := 23) rfl ?_
    obtain ⟨ob, hP⟩ := hP
    refine zV_ia dX3_endRow_109 sa_119 ob ?_
    refine zV_aload_n dX3_endRow_110 rfl ?_
    refine zV_gf dX3_endRow_111 sa_101 (by decide) fl_X3_279_3 rfl (ki := 40) rfl ?_
    refine zV_iadd dX3_endRow_114 ?_
    obtain ⟨ob, hP⟩ := hP
    refine zV_ias dX3_endRow_115 sa_119 ob (fun h6 e_h6 => ?_)
    have hP := hP h6 e_h6
    refine zV_aload_n dX3_endRow_116 rfl ?_
    refine zV_dup dX3_endRow_117 (Nat.ne_of_beq_eq_false rfl) ?_
    refine zV_gf dX3_endRow_118 sa_101 (by decide) fl_X3_273_3 rfl (ki := 23) rfl ?_
    refine zV_iconst dX3_endRow_121 ⟨by decide, by decide⟩ ?_
    refine zV_iadd dX3_endRow_122 ?_
    refine zV_pf dX3_endRow_123 sa_101 (by decide) fl_X3_273_3 rfl rfl trivial (ki := 23) rfl (fun h7 e_h7 => ?_)
    have hP := hP h7 e_h7
    refine zV_aload_n dX3_endRow_126 rfl ?_
    refine zV_iconst dX3_endRow_127 ⟨by decide, by decide⟩ ?_
    refine zV_pf dX3_endRow_128 sa_101 (by decide) fl_X3_279_3 rfl rfl trivial (ki := 40) rfl (fun h8 e_h8 => ?_)
    have hP := hP h8 e_h8
    exact zV_return dX3_endRow_131 rfl ⟨rfl, hP⟩
def P_M_endRow (h : zH) (Q : Int → zH → Prop) : Prop :=
(if zd h 101 36 = 0 then (if zd h 101 23 = 500 then True else (0 ≤ zd h 101 23 ∧ zd h 101 23 < 501) ∧ True) else True) ∧
P_M_endRow_J43 (if zd h 101 36 = 0 then if zd h 101 23 = 500 then 1 else if w32 ((zd h 119 (zd h 101 23)) + (zd h 101 40)) ≤ 2500 then 0 else 1 else 1) h Q
theorem W_M_endRow (h : zH) (Q : Int → zH → Prop) (hP : P_M_endRow  h Q) : zC true zy_X3_endRow 1 [zR 101] h (zQ0 Q) := by
  unfold P_M_endRow at hP
  refine zC.of (by decide) (Nat.le_of_ble_eq_true rfl) ?_
  show zV true zy_X3_endRow 1 0 [zR 101, zU] [] h (zQ0 Q)
  refine zV_aload_n dX3_endRow_0 rfl ?_
  refine zV_aload_n dX3_endRow_1 rfl ?_
  refine zV_gf dX3_endRow_2 sa_101 (by decide) fl_X3_267_3 rfl (ki := 36) rfl ?_
  obtain ⟨hO, hP⟩ := hP
  have K : zV true zy_X3_endRow 1 43 [zR 101, zU] [zI (if zd h 101 36 = 0 then if zd h 101 23 = 500 then 1 else if w32 ((zd h 119 (zd h 101 23)) + (zd h 101 40)) ≤ 2500 then 0 else 1 else 1), zR 101] h (zQ0 Q) := by
    exact W_M_endRow_J43 _ _ _ hP
  clear hP
  refine zV_if_ne (tgt := 38) dX3_endRow_5 (by decide) (fun c => ?_) (fun c => ?_)
  · try simp only [if_neg c] at K
    have hO := zif_n hO c
    refine zV_iconst dX3_endRow_38 ⟨by decide, by decide⟩ ?_
    refine zV_goto (tgt := 43) dX3_endRow_39 (by decide) ?_
    refine zV_mask [true, false] rfl ?_
    exact K
  · try simp only [if_pos c] at K
    have hO := zif_p hO c
    refine zV_aload_n dX3_endRow_8 rfl ?_
    refine zV_gf dX3_endRow_9 sa_101 (by decide) fl_X3_273_3 rfl (ki := 23) rfl ?_
    refine zV_sipush dX3_endRow_12 ⟨by decide, by decide, by decide⟩ ?_
    refine zV_icmp_eq (tgt := 38) dX3_endRow_15 (by decide) (fun c => ?_) (fun c => ?_)
    · try simp only [if_pos c] at K
      have hO := zif_p hO c
      refine zV_iconst dX3_endRow_38 ⟨by decide, by decide⟩ ?_
      refine zV_goto (tgt := 43) dX3_endRow_39 (by decide) ?_
      refine zV_mask [true, false] rfl ?_
      exact K
    · try simp only [if_neg c] at K
      have hO := zif_n hO c
      refine zV_aload_n dX3_endRow_18 rfl ?_
      refine zV_sg dX3_endRow_19 fm_101_24 sa_101 (by decide) fl_X3_62_3 rfl ?_
      refine zV_aload_n dX3_endRow_22 rfl ?_
      refine zV_gf dX3_endRow_23 sa_101 (by decide) fl_X3_273_3 rfl (ki := 23) rfl ?_
      obtain ⟨ob, hO⟩ := hO
      refine zV_ia dX3_endRow_26 sa_119 ob ?_
      refine zV_aload_n dX3_endRow_27 rfl ?_
      refine zV_gf dX3_endRow_28 sa_101 (by decide) fl_X3_279_3 rfl (ki := 40) rfl ?_
      refine zV_iadd dX3_endRow_31 ?_
      refine zV_sipush dX3_endRow_32 ⟨by decide, by decide, by decide⟩ ?_
      refine zV_icmp_le (tgt := 42) dX3_endRow_35 (by decide) (fun c => ?_) (fun c => ?_)
      · try simp only [if_pos c] at K
        refine zV_iconst dX3_endRow_42 ⟨by decide, by decide⟩ ?_
        refine zV_mask [true, false] rfl ?_
        exact K
      · try simp only [if_neg c] at K
        refine zV_iconst dX3_endRow_38 ⟨by decide, by decide⟩ ?_
        refine zV_goto (tgt := 43) dX3_endRow_39 (by decide) ?_
        refine zV_mask [true, false] rfl ?_
        exact K
def P_M_keepRule_L75 (y4 : Int) (Q : Int → zH → Prop) (k110 : zH → Prop) : Nat → Int → zH → Prop
| 0, _, _ => False
| n75 + 1, y5, h =>
if zd h 101 42 ≤ y5 then
(k110 h)
else
((0 ≤ y5 ∧ y5 < 40) ∧
(0 ≤ w32 ((w32 (30 * y4)) + y5) ∧ w32 ((w32 (30 * y4)) + y5) < 1800) ∧
∀ h6 : zH, h6 = zw h 112 (w32 ((w32 (30 * y4)) + y5)) (zd h 127 y5) →
∀ x5_7 : Int, x5_7 = w32 (y5 + 1) →
P_M_keepRule_L75 y4 Q k110 n75 x5_7 h6)
theorem W_M_keepRule_L75 (y4 : Int) (Q : Int → zH → Prop) (k110 : zH → Prop) (H110 : ∀ (h' : zH), k110 h' → zV true zy_X3_keepRule 2 110 [zR 101, zU, zU, zU, zI y4, zU] [] h' (zQ0 Q)) : ∀ (n75 : Nat) (y5 : Int) (h : zH), P_M_keepRule_L75 y4 Q k110 n75 y5 h → zV true zy_X3_keepRule 2 75 [zR 101, zU, zU, zU, zI y4, zI y5] [] h (zQ0 Q) := by
  intro n75
  induction n75 with
  | zero => intro y5 h hP; exact absurd hP id
  | succ n75 ih =>
    intro y5 h hP
    unfold P_M_keepRule_L75 at hP
    refine zV_iload dX3_keepRule_75 rfl ?_
    refine zV_aload_n dX3_keepRule_77 rfl ?_
    refine zV_gf dX3_keepRule_78 sa_101 (by decide) fl_X3_292_3 rfl (ki := 42) rfl ?_
    refine zV_icmp_ge (tgt := 110) dX3_keepRule_81 (by decide) (fun c => ?_) (fun c => ?_)
    · have hP := zif_p hP c
      refine zV_mask [true, true, true, true, true, false] (ls' := [zR 101, zU, zU, zU, zI y4, zU]) rfl ?_
      exact H110 _ hP
    · have hP := zif_n hP c
      refine zV_aload_n dX3_keepRule_84 rfl ?_
      refine zV_sg dX3_keepRule_85 fm_101_16 sa_101 (by decide) fl_X3_41_3 rfl ?_
      refine zV_bipush dX3_keepRule_88 ⟨by decide, by decide, by decide⟩ ?_
      refine zV_iload dX3_keepRule_90 rfl ?_
      refine zV_imul dX3_keepRule_92 ?_
      refine zV_iload dX3_keepRule_93 rfl ?_
      refine zV_iadd dX3_keepRule_95 ?_
      refine zV_aload_n dX3_keepRule_96 rfl ?_
      refine zV_sg dX3_keepRule_97 fm_101_41 sa_101 (by decide) fl_X3_86_3 rfl ?_
      refine zV_iload dX3_keepRule_100 rfl ?_
      obtain ⟨ob, hP⟩ := hP
      refine zV_ia dX3_keepRule_102 sa_127 ob ?_
      obtain ⟨ob, hP⟩ := hP
      refine zV_ias dX3_keepRule_103 sa_112 ob (fun h6 e_h6 => ?_)
      have hP := hP h6 e_h6
      refine zV_inc (ls' := fun z => [zR 101, zU, zU, zU, zI y4, zI z]) dX3_keepRule_104 (Nat.le_of_ble_eq_true rfl) rfl rfl (fun _ => rfl) (fun x5_7 e_x5_7 => ?_)
      have hP := hP x5_7 e_x5_7
      refine zV_goto (tgt := 75) dX3_keepRule_107 (by decide) ?_
      exact ih _ _ hP
def P_M_keepRule (a1 : Int) (a2 : Int) (a3 : Int) (h : zH) (Q : Int → zH → Prop) : Prop :=
if zd h 101 36 = 0 then
(∀ x4_1 : Int, x4_1 = (zd h 101 11) →
(0 ≤ x4_1 ∧ x4_1 < 60) ∧
∀ h2 : zH, h2 = zw h 108 x4_1 a1 →
(0 ≤ x4_1 ∧ x4_1 < 60) ∧
∀ h3 : zH, h3 = zw h2 109 x4_1 a2 →
(0 ≤ x4_1 ∧ x4_1 < 60) ∧
∀ h4 : zH, h4 = zw h3 110 x4_1 (zbit a3) →
(0 ≤ x4_1 ∧ x4_1 < 60) ∧
∀ h5 : zH, h5 = zw h4 111 x4_1 (zd h4 101 42) →
∃ n75, P_M_keepRule_L75 x4_1 Q (fun h8 =>
(0 ≤ x4_1 ∧ x4_1 < 60) ∧
∀ h9 : zH, h9 = zw h8 113 x4_1 (zd h8 101 38) →
(0 ≤ x4_1 ∧ x4_1 < 60) ∧
∀ h10 : zH, h10 = zw h9 114 x4_1 (w32 ((zd h9 101 23) - (zd h9 101 38))) →
∀ h11 : zH, h11 = zw h10 101 11 (w32 ((zd h10 101 11) + 1)) →
∀ h12 : zH, h12 = zw h11 101 57 0 →
Q x4_1 h12) n75 0 h5)
else
(∀ h13 : zH, h13 = zw h 101 1 (zd h 101 37) →
∀ h14 : zH, h14 = zw h13 101 23 (zd h13 101 38) →
P_M_fail (-1003) h14 (fun r15 h16 =>
Q r15 h16))
theorem W_M_keepRule (a1 : Int) (a2 : Int) (a3 : Int) (h : zH) (Q : Int → zH → Prop) (hP : P_M_keepRule a1 a2 a3 h Q) : zC true zy_X3_keepRule 2 [zR 101, zI a1, zI a2, zI a3] h (zQ0 Q) := by
  unfold P_M_keepRule at hP
  refine zC.of (by decide) (Nat.le_of_ble_eq_true rfl) ?_
  show zV true zy_X3_keepRule 2 0 [zR 101, zI a1, zI a2, zI a3, zU, zU] [] h (zQ0 Q)
  refine zV_aload_n dX3_keepRule_0 rfl ?_
  refine zV_gf dX3_keepRule_1 sa_101 (by decide) fl_X3_267_3 rfl (ki := 36) rfl ?_
  refine zV_if_eq (tgt := 31) dX3_keepRule_4 (by decide) (fun c => ?_) (fun c => ?_)
  · have hP := zif_p hP c
    refine zV_aload_n dX3_keepRule_31 rfl ?_
    refine zV_gf dX3_keepRule_32 sa_101 (by decide) fl_X3_264_3 rfl (ki := 11) rfl ?_
    refine zV_top (fun x4_1 e_x4_1 => ?_)
    have hP := hP x4_1 e_x4_1
    refine zV_istore (ls' := [zR 101, zI a1, zI a2, zI a3, zI x4_1, zU]) dX3_keepRule_35 (Nat.le_of_ble_eq_true rfl) rfl rfl ?_
    refine zV_aload_n dX3_keepRule_37 rfl ?_
    refine zV_sg dX3_keepRule_38 fm_101_12 sa_101 (by decide) fl_X3_29_3 rfl ?_
    refine zV_iload dX3_keepRule_41 rfl ?_
    refine zV_iload_n dX3_keepRule_43 rfl ?_
    obtain ⟨ob, hP⟩ := hP
    refine zV_ias dX3_keepRule_44 sa_108 ob (fun h2 e_h2 => ?_)
    have hP := hP h2 e_h2
    refine zV_aload_n dX3_keepRule_45 rfl ?_
    refine zV_sg dX3_keepRule_46 fm_101_13 sa_101 (by decide) fl_X3_32_3 rfl ?_
    refine zV_iload dX3_keepRule_49 rfl ?_
    refine zV_iload_n dX3_keepRule_51 rfl ?_
    obtain ⟨ob, hP⟩ := hP
    refine zV_ias dX3_keepRule_52 sa_109 ob (fun h3 e_h3 => ?_)
    have hP := hP h3 e_h3
    refine zV_aload_n dX3_keepRule_53 rfl ?_
    refine zV_sg dX3_keepRule_54 fm_101_14 sa_101 (by decide) fl_X3_35_3 rfl ?_
    refine zV_iload dX3_keepRule_57 rfl ?_
    refine zV_iload_n dX3_keepRule_59 rfl ?_
    obtain ⟨ob, hP⟩ := hP
    refine zV_zas dX3_keepRule_60 sa_110 ob (fun h4 e_h4 => ?_)
    have hP := hP h4 e_h4
    refine zV_aload_n dX3_keepRule_61 rfl ?_
    refine zV_sg dX3_keepRule_62 fm_101_15 sa_101 (by decide) fl_X3_38_3 rfl ?_
    refine zV_iload dX3_keepRule_65 rfl ?_
    refine zV_aload_n dX3_keepRule_67 rfl ?_
    refine zV_gf dX3_keepRule_68 sa_101 (by decide) fl_X3_292_3 rfl (ki := 42) rfl ?_
    obtain ⟨ob, hP⟩ := hP
    refine zV_ias dX3_keepRule_71 sa_111 ob (fun h5 e_h5 => ?_)
    have hP := hP h5 e_h5
    refine zV_iconst dX3_keepRule_72 ⟨by decide, by decide⟩ ?_
    refine zV_istore (ls' := [zR 101, zI a1, zI a2, zI a3, zI x4_1, zI 0]) dX3_keepRule_73 (Nat.le_of_ble_eq_true rfl) rfl rfl ?_
    obtain ⟨n75, hP⟩ := hP
    refine zV_mask [true, false, false, false, true, true] (ls' := [zR 101, zU, zU, zU, zI x4_1, zI 0]) rfl ?_
    refine W_M_keepRule_L75 _ _ _ (fun h8 hP => ?_) n75 _ _ hP
    refine zV_aload_n dX3_keepRule_110 rfl ?_
    refine zV_sg dX3_keepRule_111 fm_101_17 sa_101 (by decide) fl_X3_44_3 rfl ?_
    refine zV_iload dX3_keepRule_114 rfl ?_
    refine zV_aload_n dX3_keepRule_116 rfl ?_
    refine zV_gf dX3_keepRule_117 sa_101 (by decide) fl_X3_276_3 rfl (ki := 38) rfl ?_
    obtain ⟨ob, hP⟩ := hP
    refine zV_ias dX3_keepRule_120 sa_113 ob (fun h9 e_h9 => ?_)
    have hP := hP h9 e_h9
    refine zV_aload_n dX3_keepRule_121 rfl ?_
    refine zV_sg dX3_keepRule_122 fm_101_18 sa_101 (by decide) fl_X3_47_3 rfl ?_
    refine zV_iload dX3_keepRule_125 rfl ?_
    refine zV_aload_n dX3_keepRule_127 rfl ?_
    refine zV_gf dX3_keepRule_128 sa_101 (by decide) fl_X3_273_3 rfl (ki := 23) rfl ?_
    refine zV_aload_n dX3_keepRule_131 rfl ?_
    refine zV_gf dX3_keepRule_132 sa_101 (by decide) fl_X3_276_3 rfl (ki := 38) rfl ?_
    refine zV_isub dX3_keepRule_135 ?_
    obtain ⟨ob, hP⟩ := hP
    refine zV_ias dX3_keepRule_136 sa_114 ob (fun h10 e_h10 => ?_)
    have hP := hP h10 e_h10
    refine zV_aload_n dX3_keepRule_137 rfl ?_
    refine zV_dup dX3_keepRule_138 (Nat.ne_of_beq_eq_false rfl) ?_
    refine zV_gf dX3_keepRule_139 sa_101 (by decide) fl_X3_264_3 rfl (ki := 11) rfl ?_
    refine zV_iconst dX3_keepRule_142 ⟨by decide, by decide⟩ ?_
    refine zV_iadd dX3_keepRule_143 ?_
    refine zV_pf dX3_keepRule_144 sa_101 (by decide) fl_X3_264_3 rfl rfl trivial (ki := 11) rfl (fun h11 e_h11 => ?_)
    have hP := hP h11 e_h11
    refine zV_aload_n dX3_keepRule_147 rfl ?_
    refine zV_iconst dX3_keepRule_148 ⟨by decide, by decide⟩ ?_
    refine zV_pf dX3_keepRule_149 sa_101 (by decide) fl_X3_249_3 rfl rfl z0 (ki := 57) rfl (fun h12 e_h12 => ?_)
    have hP := hP h12 e_h12
    refine zV_iload dX3_keepRule_152 rfl ?_
    exact zV_ireturn dX3_keepRule_154 rfl rfl rfl ⟨rfl, hP⟩
  · have hP := zif_n hP c
    refine zV_aload_n dX3_keepRule_7 rfl ?_
    refine zV_aload_n dX3_keepRule_8 rfl ?_
    refine zV_gf dX3_keepRule_9 sa_101 (by decide) fl_X3_270_3 rfl (ki := 37) rfl ?_
    refine zV_pf dX3_keepRule_12 sa_101 (by decide) fl_X3_246_3 rfl rfl trivial (ki := 1) rfl (fun h13 e_h13 => ?_)
    have hP := hP h13 e_h13
    refine zV_aload_n dX3_keepRule_15 rfl ?_
    refine zV_aload_n dX3_keepRule_16 rfl ?_
    refine zV_gf dX3_keepRule_17 sa_101 (by decide) fl_X3_276_3 rfl (ki := 38) rfl ?_
    refine zV_pf dX3_keepRule_20 sa_101 (by decide) fl_X3_273_3 rfl rfl trivial (ki := 23) rfl (fun h14 e_h14 => ?_)
    have hP := hP h14 e_h14
    refine zV_aload_n dX3_keepRule_23 rfl ?_
    refine zV_sipush dX3_keepRule_24 ⟨by decide, by decide, by decide⟩ ?_
    refine zV_cVk (As := [zI (-1003)]) (rest := []) dX3_keepRule_27 sa_101 (W_M_fail _ _ _ hP) mi_X3_fail ml_X3_242 (by decide) (Nat.le_of_ble_eq_true rfl) rfl rfl rfl (fun r15 h16 hP => ?_)
    exact zV_ireturn dX3_keepRule_30 rfl rfl rfl ⟨rfl, hP⟩
def P_M_clause_L37 (Q : Int → zH → Prop) : Nat → Int → zH → Prop
| 0, _, _ => False
| n37 + 1, y3, h =>
if zd h 101 42 ≤ y3 then
(P_M_endRow h (fun r7 h8 =>
P_M_keepRule 0 0 0 h8 (fun r9 h10 =>
Q r9 h10)))
else
((0 ≤ y3 ∧ y3 < 40) ∧
P_M_lay (zd h 127 y3) h (fun r11 h12 =>
∀ x3_13 : Int, x3_13 = w32 (y3 + 1) →
P_M_clause_L37 Q n37 x3_13 h12))
theorem W_M_clause_L37 (Q : Int → zH → Prop) : ∀ (n37 : Nat) (y3 : Int) (h : zH), P_M_clause_L37 Q n37 y3 h → zV true zy_X3_clause 4 37 [zR 101, zU, zU, zI y3] [] h (zQ0 Q) := by
  intro n37
  induction n37 with
  | zero => intro y3 h hP; exact absurd hP id
  | succ n37 ih =>
    intro y3 h hP
    unfold P_M_clause_L37 at hP
    refine zV_iload_n dX3_clause_37 rfl ?_
    refine zV_aload_n dX3_clause_38 rfl ?_
    refine zV_gf dX3_clause_39 sa_101 (by decide) fl_X3_292_3 rfl (ki := 42) rfl ?_
    refine zV_icmp_ge (tgt := 61) dX3_clause_42 (by decide) (fun c => ?_) (fun c => ?_)
    · have hP := zif_p hP c
      refine zV_aload_n dX3_clause_61 rfl ?_
      refine zV_cVv (As := []) (rest := []) dX3_clause_62 sa_101 (W_M_endRow _ _ hP) mi_X3_endRow ml_X3_286 (by decide) (Nat.le_of_ble_eq_true rfl) rfl rfl (fun r7 h8 hP => ?_)
      refine zV_aload_n dX3_clause_65 rfl ?_
      refine zV_iconst dX3_clause_66 ⟨by decide, by decide⟩ ?_
      refine zV_iconst dX3_clause_67 ⟨by decide, by decide⟩ ?_
      refine zV_iconst dX3_clause_68 ⟨by decide, by decide⟩ ?_
      refine zV_cVk (As := [zI 0, zI 0, zI 0]) (rest := []) dX3_clause_69 sa_101 (W_M_keepRule _ _ _ _ _ hP) mi_X3_keepRule ml_X3_316 (by decide) (Nat.le_of_ble_eq_true rfl) rfl rfl rfl (fun r9 h10 hP => ?_)
      exact zV_ireturn dX3_clause_72 rfl rfl rfl ⟨rfl, hP⟩
    · have hP := zif_n hP c
      refine zV_aload_n dX3_clause_45 rfl ?_
      refine zV_aload_n dX3_clause_46 rfl ?_
      refine zV_sg dX3_clause_47 fm_101_41 sa_101 (by decide) fl_X3_86_3 rfl ?_
      refine zV_iload_n dX3_clause_50 rfl ?_
      obtain ⟨ob, hP⟩ := hP
      refine zV_ia dX3_clause_51 sa_127 ob ?_
      refine zV_cVv (As := [zI (zd h 127 y3)]) (rest := []) dX3_clause_52 sa_101 (W_M_lay _ _ _ hP) mi_X3_lay ml_X3_282 (by decide) (Nat.le_of_ble_eq_true rfl) rfl rfl (fun r11 h12 hP => ?_)
      refine zV_inc (ls' := fun z => [zR 101, zU, zU, zI z]) dX3_clause_55 (Nat.le_of_ble_eq_true rfl) rfl rfl (fun _ => rfl) (fun x3_13 e_x3_13 => ?_)
      have hP := hP x3_13 e_x3_13
      refine zV_goto (tgt := 37) dX3_clause_58 (by decide) ?_
      exact ih _ _ hP
def P_M_clause (a1 : Int) (h : zH) (Q : Int → zH → Prop) : Prop :=
P_M_isRow a1 h (fun r1 h2 =>
if r1 = 0 then
(P_M_fail (-1001) h2 (fun r16 h17 =>
Q r16 h17))
else
(P_M_takeItems a1 h2 (fun r3 h4 =>
if 0 ≤ r3 then
(P_M_beginLaying h4 (fun r5 h6 =>
∃ n37, P_M_clause_L37 Q n37 0 h6))
else
(P_M_fail r3 h4 (fun r14 h15 =>
Q r14 h15)))))
theorem W_M_clause (a1 : Int) (h : zH) (Q : Int → zH → Prop) (hP : P_M_clause a1 h Q) : zC true zy_X3_clause 4 [zR 101, zI a1] h (zQ0 Q) := by
  unfold P_M_clause at hP
  refine zC.of (by decide) (Nat.le_of_ble_eq_true rfl) ?_
  show zV true zy_X3_clause 4 0 [zR 101, zI a1, zU, zU] [] h (zQ0 Q)
  refine zV_iload_n dX3_clause_0 rfl ?_
  refine zV_cSk (As := [zI a1]) (rest := []) dX3_clause_1 (W_M_isRow _ _ _ hP) mi_X3_isRow ml_X3_253 (by decide) (Nat.le_of_ble_eq_true rfl) rfl rfl rfl (fun r1 h2 hP => ?_)
  refine zV_if_ne (tgt := 15) dX3_clause_4 (by decide) (fun c => ?_) (fun c => ?_)
  · have hP := zif_n hP c
    refine zV_aload_n dX3_clause_15 rfl ?_
    refine zV_iload_n dX3_clause_16 rfl ?_
    refine zV_cVk (As := [zI a1]) (rest := []) dX3_clause_17 sa_101 (W_M_takeItems _ _ _ hP) mi_X3_takeItems ml_X3_310 (by decide) (Nat.le_of_ble_eq_true rfl) rfl rfl rfl (fun r3 h4 hP => ?_)
    refine zV_istore_n (ls' := [zR 101, zI a1, zI r3, zU]) dX3_clause_20 rfl (Nat.le_of_ble_eq_true rfl) rfl rfl ?_
    refine zV_iload_n dX3_clause_21 rfl ?_
    refine zV_if_ge (tgt := 31) dX3_clause_22 (by decide) (fun c => ?_) (fun c => ?_)
    · have hP := zif_p hP c
      refine zV_aload_n dX3_clause_31 rfl ?_
      refine zV_cVv (As := []) (rest := []) dX3_clause_32 sa_101 (W_M_beginLaying _ _ hP) mi_X3_beginLaying ml_X3_313 (by decide) (Nat.le_of_ble_eq_true rfl) rfl rfl (fun r5 h6 hP => ?_)
      refine zV_iconst dX3_clause_35 ⟨by decide, by decide⟩ ?_
      refine zV_istore_n (ls' := [zR 101, zI a1, zI r3, zI 0]) dX3_clause_36 rfl (Nat.le_of_ble_eq_true rfl) rfl rfl ?_
      obtain ⟨n37, hP⟩ := hP
      refine zV_mask [true, false, false, true] (ls' := [zR 101, zU, zU, zI 0]) rfl ?_
      refine W_M_clause_L37 _ n37 _ _ hP
    · have hP := zif_n hP c
      refine zV_aload_n dX3_clause_25 rfl ?_
      refine zV_iload_n dX3_clause_26 rfl ?_
      refine zV_cVk (As := [zI r3]) (rest := []) dX3_clause_27 sa_101 (W_M_fail _ _ _ hP) mi_X3_fail ml_X3_242 (by decide) (Nat.le_of_ble_eq_true rfl) rfl rfl rfl (fun r14 h15 hP => ?_)
      exact zV_ireturn dX3_clause_30 rfl rfl rfl ⟨rfl, hP⟩
  · have hP := zif_p hP c
    refine zV_aload_n dX3_clause_7 rfl ?_
    refine zV_sipush dX3_clause_8 ⟨by decide, by decide, by decide⟩ ?_
    refine zV_cVk (As := [zI (-1001)]) (rest := []) dX3_clause_11 sa_101 (W_M_fail _ _ _ hP) mi_X3_fail ml_X3_242 (by decide) (Nat.le_of_ble_eq_true rfl) rfl rfl rfl (fun r16 h17 hP => ?_)
    exact zV_ireturn dX3_clause_14 rfl rfl rfl ⟨rfl, hP⟩
def P_M_newName_J43 (s0 : Int) (s1 : Int) (h : zH) (Q : Int → zH → Prop) : Prop :=
∀ h2 : zH, h2 = zw h 101 1 (w32 (s1 + s0)) →
Q (if zd h2 101 36 = 0 then zd h2 101 1 else 1) h2
theorem W_M_newName_J43 (s0 : Int) (s1 : Int) (h : zH) (Q : Int → zH → Prop) (hP : P_M_newName_J43 s0 s1 h Q) : zV true zy_X3_newName 1 43 [zR 101] [zI s0, zI s1, zR 101] h (zQ0 Q) := by
  unfold P_M_newName_J43 at hP
  refine zV_iadd dX3_newName_43 ?_
  refine zV_pf dX3_newName_44 sa_101 (by decide) fl_X3_246_3 rfl rfl trivial (ki := 1) rfl (fun h2 e_h2 => ?_)
  have hP := hP h2 e_h2
  refine zV_aload_n dX3_newName_47 rfl ?_
  refine zV_gf dX3_newName_48 sa_101 (by decide) fl_X3_267_3 rfl (ki := 36) rfl ?_
  have K : zV true zy_X3_newName 1 62 [zU] [zI (if zd h2 101 36 = 0 then zd h2 101 1 else 1)] h2 (zQ0 Q) := by
    exact zV_ireturn dX3_newName_62 rfl rfl rfl ⟨rfl, hP⟩
  clear hP
  refine zV_if_eq (tgt := 58) dX3_newName_51 (by decide) (fun c => ?_) (fun c => ?_)
  · try simp only [if_pos c] at K
    refine zV_aload_n dX3_newName_58 rfl ?_
    refine zV_gf dX3_newName_59 sa_101 (by decide) fl_X3_246_3 rfl (ki := 1) rfl ?_
    refine zV_mask [false] rfl ?_
    exact K
  · try simp only [if_neg c] at K
    refine zV_iconst dX3_newName_54 ⟨by decide, by decide⟩ ?_
    refine zV_goto (tgt := 62) dX3_newName_55 (by decide) ?_
    refine zV_mask [false] rfl ?_
    exact K
def P_M_newName_J23 (s0 : Int) (h : zH) (Q : Int → zH → Prop) : Prop :=
(s0 = 0 ∨ s0 = 1) ∧
∀ h1 : zH, h1 = zw h 101 36 s0 →
P_M_newName_J43 (if zd h1 101 36 = 0 then 1 else 0) (zd h1 101 1) h1 Q
theorem W_M_newName_J23 (s0 : Int) (h : zH) (Q : Int → zH → Prop) (hP : P_M_newName_J23 s0 h Q) : zV true zy_X3_newName 1 23 [zR 101] [zI s0, zR 101] h (zQ0 Q) := by
  unfold P_M_newName_J23 at hP
  obtain ⟨ob, hP⟩ := hP
  refine zV_pf dX3_newName_23 sa_101 (by decide) fl_X3_267_3 rfl rfl ob (ki := 36) rfl (fun h1 e_h1 => ?_)
  have hP := hP h1 e_h1
  refine zV_aload_n dX3_newName_26 rfl ?_
  refine zV_dup dX3_newName_27 (Nat.ne_of_beq_eq_false rfl) ?_
  refine zV_gf dX3_newName_28 sa_101 (by decide) fl_X3_246_3 rfl (ki := 1) rfl ?_
  refine zV_aload_n dX3_newName_31 rfl ?_
  refine zV_gf dX3_newName_32 sa_101 (by decide) fl_X3_267_3 rfl (ki := 36) rfl ?_
  have K : zV true zy_X3_newName 1 43 [zR 101] [zI (if zd h1 101 36 = 0 then 1 else 0), zI (zd h1 101 1), zR 101] h1 (zQ0 Q) := by
    exact W_M_newName_J43 _ _ _ _ hP
  clear hP
  refine zV_if_eq (tgt := 42) dX3_newName_35 (by decide) (fun c => ?_) (fun c => ?_)
  · try simp only [if_pos c] at K
    refine zV_iconst dX3_newName_42 ⟨by decide, by decide⟩ ?_
    refine zV_mask [true] rfl ?_
    exact K
  · try simp only [if_neg c] at K
    refine zV_iconst dX3_newName_38 ⟨by decide, by decide⟩ ?_
    refine zV_goto (tgt := 43) dX3_newName_39 (by decide) ?_
    refine zV_mask [true] rfl ?_
    exact K
def P_M_newName (h : zH) (Q : Int → zH → Prop) : Prop :=
P_M_newName_J23 (if zd h 101 36 = 0 then if zd h 101 1 = 300 then 1 else 0 else 1) h Q
theorem W_M_newName (h : zH) (Q : Int → zH → Prop) (hP : P_M_newName  h Q) : zC true zy_X3_newName 1 [zR 101] h (zQ0 Q) := by
  unfold P_M_newName at hP
  refine zC.of (by decide) (Nat.le_of_ble_eq_true rfl) ?_
  show zV true zy_X3_newName 1 0 [zR 101] [] h (zQ0 Q)
  refine zV_aload_n dX3_newName_0 rfl ?_
  refine zV_aload_n dX3_newName_1 rfl ?_
  refine zV_gf dX3_newName_2 sa_101 (by decide) fl_X3_267_3 rfl (ki := 36) rfl ?_
  have K : zV true zy_X3_newName 1 23 [zR 101] [zI (if zd h 101 36 = 0 then if zd h 101 1 = 300 then 1 else 0 else 1), zR 101] h (zQ0 Q) := by
    exact W_M_newName_J23 _ _ _ hP
  clear hP
  refine zV_if_ne (tgt := 18) dX3_newName_5 (by decide) (fun c => ?_) (fun c => ?_)
  · try simp only [if_neg c] at K
    refine zV_iconst dX3_newName_18 ⟨by decide, by decide⟩ ?_
    refine zV_goto (tgt := 23) dX3_newName_19 (by decide) ?_
    refine zV_mask [true] rfl ?_
    exact K
  · try simp only [if_pos c] at K
    refine zV_aload_n dX3_newName_8 rfl ?_
    refine zV_gf dX3_newName_9 sa_101 (by decide) fl_X3_246_3 rfl (ki := 1) rfl ?_
    refine zV_sipush dX3_newName_12 ⟨by decide, by decide, by decide⟩ ?_
    refine zV_icmp_ne (tgt := 22) dX3_newName_15 (by decide) (fun c => ?_) (fun c => ?_)
    · try simp only [if_neg c] at K
      refine zV_iconst dX3_newName_22 ⟨by decide, by decide⟩ ?_
      refine zV_mask [true] rfl ?_
      exact K
    · try simp only [if_pos c] at K
      refine zV_iconst dX3_newName_18 ⟨by decide, by decide⟩ ?_
      refine zV_goto (tgt := 23) dX3_newName_19 (by decide) ?_
      refine zV_mask [true] rfl ?_
      exact K
def P_M_layTwo (a1 : Int) (a2 : Int) (h : zH) (Q : Int → zH → Prop) : Prop :=
P_M_lay a1 h (fun r1 h2 =>
P_M_lay a2 h2 (fun r3 h4 =>
P_M_endRow h4 (fun r5 h6 =>
Q 0 h6)))
theorem W_M_layTwo (a1 : Int) (a2 : Int) (h : zH) (Q : Int → zH → Prop) (hP : P_M_layTwo a1 a2 h Q) : zC true zy_X3_layTwo 2 [zR 101, zI a1, zI a2] h (zQ0 Q) := by
  unfold P_M_layTwo at hP
  refine zC.of (by decide) (Nat.le_of_ble_eq_true rfl) ?_
  show zV true zy_X3_layTwo 2 0 [zR 101, zI a1, zI a2] [] h (zQ0 Q)
  refine zV_aload_n dX3_layTwo_0 rfl ?_
  refine zV_iload_n dX3_layTwo_1 rfl ?_
  refine zV_cVv (As := [zI a1]) (rest := []) dX3_layTwo_2 sa_101 (W_M_lay _ _ _ hP) mi_X3_lay ml_X3_282 (by decide) (Nat.le_of_ble_eq_true rfl) rfl rfl (fun r1 h2 hP => ?_)
  refine zV_aload_n dX3_layTwo_5 rfl ?_
  refine zV_iload_n dX3_layTwo_6 rfl ?_
  refine zV_cVv (As := [zI a2]) (rest := []) dX3_layTwo_7 sa_101 (W_M_lay _ _ _ hP) mi_X3_lay ml_X3_282 (by decide) (Nat.le_of_ble_eq_true rfl) rfl rfl (fun r3 h4 hP => ?_)
  refine zV_aload_n dX3_layTwo_10 rfl ?_
  refine zV_cVv (As := []) (rest := []) dX3_layTwo_11 sa_101 (W_M_endRow _ _ hP) mi_X3_endRow ml_X3_286 (by decide) (Nat.le_of_ble_eq_true rfl) rfl rfl (fun r5 h6 hP => ?_)
  exact zV_return dX3_layTwo_14 rfl ⟨rfl, hP⟩
def P_M_layThree (a1 : Int) (a2 : Int) (a3 : Int) (h : zH) (Q : Int → zH → Prop) : Prop :=
P_M_lay a1 h (fun r1 h2 =>
P_M_lay a2 h2 (fun r3 h4 =>
P_M_lay a3 h4 (fun r5 h6 =>
P_M_endRow h6 (fun r7 h8 =>
Q 0 h8))))
theorem W_M_layThree (a1 : Int) (a2 : Int) (a3 : Int) (h : zH) (Q : Int → zH → Prop) (hP : P_M_layThree a1 a2 a3 h Q) : zC true zy_X3_layThree 2 [zR 101, zI a1, zI a2, zI a3] h (zQ0 Q) := by
  unfold P_M_layThree at hP
  refine zC.of (by decide) (Nat.le_of_ble_eq_true rfl) ?_
  show zV true zy_X3_layThree 2 0 [zR 101, zI a1, zI a2, zI a3] [] h (zQ0 Q)
  refine zV_aload_n dX3_layThree_0 rfl ?_
  refine zV_iload_n dX3_layThree_1 rfl ?_
  refine zV_cVv (As := [zI a1]) (rest := []) dX3_layThree_2 sa_101 (W_M_lay _ _ _ hP) mi_X3_lay ml_X3_282 (by decide) (Nat.le_of_ble_eq_true rfl) rfl rfl (fun r1 h2 hP => ?_)
  refine zV_aload_n dX3_layThree_5 rfl ?_
  refine zV_iload_n dX3_layThree_6 rfl ?_
  refine zV_cVv (As := [zI a2]) (rest := []) dX3_layThree_7 sa_101 (W_M_lay _ _ _ hP) mi_X3_lay ml_X3_282 (by decide) (Nat.le_of_ble_eq_true rfl) rfl rfl (fun r3 h4 hP => ?_)
  refine zV_aload_n dX3_layThree_10 rfl ?_
  refine zV_iload_n dX3_layThree_11 rfl ?_
  refine zV_cVv (As := [zI a3]) (rest := []) dX3_layThree_12 sa_101 (W_M_lay _ _ _ hP) mi_X3_lay ml_X3_282 (by decide) (Nat.le_of_ble_eq_true rfl) rfl rfl (fun r5 h6 hP => ?_)
  refine zV_aload_n dX3_layThree_15 rfl ?_
  refine zV_cVv (As := []) (rest := []) dX3_layThree_16 sa_101 (W_M_endRow _ _ hP) mi_X3_endRow ml_X3_286 (by decide) (Nat.le_of_ble_eq_true rfl) rfl rfl (fun r7 h8 hP => ?_)
  exact zV_return dX3_layThree_19 rfl ⟨rfl, hP⟩
def P_M_layAtMost_J200 (y1 : Int) (y2 : Int) (y3 : Int) (y4 : Int) (y5 : Int) (h : zH) (Q : Int → zH → Prop) (k23 : Int → zH → Prop) : Prop :=
∀ x5_11 : Int, x5_11 = w32 (y5 + 1) →
k23 x5_11 h
theorem W_M_layAtMost_J200 (y1 : Int) (y2 : Int) (y3 : Int) (y4 : Int) (y5 : Int) (h : zH) (Q : Int → zH → Prop) (k23 : Int → zH → Prop) (H23 : ∀ (v5 : Int) (h' : zH), k23 v5 h' → zV true zy_X3_layAtMost 3 23 [zR 101, zI y1, zI y2, zI y3, zI y4, zI v5, zU, zU, zU] [] h' (zQ0 Q)) (hP : P_M_layAtMost_J200 y1 y2 y3 y4 y5 h Q k23) : zV true zy_X3_layAtMost 3 200 [zR 101, zI y1, zI y2, zI y3, zI y4, zI y5, zU, zU, zU] [] h (zQ0 Q) := by
  unfold P_M_layAtMost_J200 at hP
  refine zV_inc (ls' := fun z => [zR 101, zI y1, zI y2, zI y3, zI y4, zI z, zU, zU, zU]) dX3_layAtMost_200 (Nat.le_of_ble_eq_true rfl) rfl rfl (fun _ => rfl) (fun x5_11 e_x5_11 => ?_)
  have hP := hP x5_11 e_x5_11
  refine zV_goto (tgt := 23) dX3_layAtMost_203 (by decide) ?_
  exact H23 _ _ hP
def P_M_layAtMost_J191 (y1 : Int) (y2 : Int) (y3 : Int) (y4 : Int) (y5 : Int) (y6 : Int) (h : zH) (Q : Int → zH → Prop) (k23 : Int → zH → Prop) : Prop :=
(0 ≤ y5 ∧ y5 < 14) ∧
∀ h10 : zH, h10 = zw h 128 y5 y6 →
P_M_layAtMost_J200 y1 y2 y3 y4 y5 h10 Q k23
theorem W_M_layAtMost_J191 (y1 : Int) (y2 : Int) (y3 : Int) (y4 : Int) (y5 : Int) (y6 : Int) (h : zH) (Q : Int → zH → Prop) (k23 : Int → zH → Prop) (H23 : ∀ (v5 : Int) (h' : zH), k23 v5 h' → zV true zy_X3_layAtMost 3 23 [zR 101, zI y1, zI y2, zI y3, zI y4, zI v5, zU, zU, zU] [] h' (zQ0 Q)) (hP : P_M_layAtMost_J191 y1 y2 y3 y4 y5 y6 h Q k23) : zV true zy_X3_layAtMost 3 191 [zR 101, zI y1, zI y2, zI y3, zI y4, zI y5, zI y6, zU, zU] [] h (zQ0 Q) := by
  unfold P_M_layAtMost_J191 at hP
  refine zV_aload_n dX3_layAtMost_191 rfl ?_
  refine zV_sg dX3_layAtMost_192 fm_101_43 sa_101 (by decide) fl_X3_89_3 rfl ?_
  refine zV_iload dX3_layAtMost_195 rfl ?_
  refine zV_iload dX3_layAtMost_197 rfl ?_
  obtain ⟨ob, hP⟩ := hP
  refine zV_ias dX3_layAtMost_199 sa_128 ob (fun h10 e_h10 => ?_)
  have hP := hP h10 e_h10
  refine zV_mask [true, true, true, true, true, true, false, true, true] (ls' := [zR 101, zI y1, zI y2, zI y3, zI y4, zI y5, zU, zU, zU]) rfl ?_
  exact W_M_layAtMost_J200 _ _ _ _ _ _ _ _ H23 hP
def P_M_layAtMost_J176 (y1 : Int) (y2 : Int) (y3 : Int) (y4 : Int) (y5 : Int) (y6 : Int) (y8 : Int) (h : zH) (Q : Int → zH → Prop) (k23 : Int → zH → Prop) : Prop :=
if y5 = y3 then
(P_M_layTwo y8 (w32 (-y6)) h (fun r12 h13 =>
P_M_layAtMost_J191 y1 y2 y3 y4 y5 y6 h13 Q k23))
else
(P_M_layAtMost_J191 y1 y2 y3 y4 y5 y6 h Q k23)
theorem W_M_layAtMost_J176 (y1 : Int) (y2 : Int) (y3 : Int) (y4 : Int) (y5 : Int) (y6 : Int) (y8 : Int) (h : zH) (Q : Int → zH → Prop) (k23 : Int → zH → Prop) (H23 : ∀ (v5 : Int) (h' : zH), k23 v5 h' → zV true zy_X3_layAtMost 3 23 [zR 101, zI y1, zI y2, zI y3, zI y4, zI v5, zU, zU, zU] [] h' (zQ0 Q)) (hP : P_M_layAtMost_J176 y1 y2 y3 y4 y5 y6 y8 h Q k23) : zV true zy_X3_layAtMost 3 176 [zR 101, zI y1, zI y2, zI y3, zI y4, zI y5, zI y6, zU, zI y8] [] h (zQ0 Q) := by
  unfold P_M_layAtMost_J176 at hP
  refine zV_iload dX3_layAtMost_176 rfl ?_
  refine zV_iload_n dX3_layAtMost_178 rfl ?_
  refine zV_icmp_ne (tgt := 191) dX3_layAtMost_179 (by decide) (fun c => ?_) (fun c => ?_)
  · have hP := zif_n hP c
    refine zV_mask [true, true, true, true, true, true, true, true, false] (ls' := [zR 101, zI y1, zI y2, zI y3, zI y4, zI y5, zI y6, zU, zU]) rfl ?_
    exact W_M_layAtMost_J191 _ _ _ _ _ _ _ _ _ H23 hP
  · have hP := zif_p hP c
    refine zV_aload_n dX3_layAtMost_182 rfl ?_
    refine zV_iload dX3_layAtMost_183 rfl ?_
    refine zV_iload dX3_layAtMost_185 rfl ?_
    refine zV_ineg dX3_layAtMost_187 ?_
    refine zV_cVv (As := [zI y8, zI (w32 (-y6))]) (rest := []) dX3_layAtMost_188 sa_101 (W_M_layTwo _ _ _ _ hP) mi_X3_layTwo ml_X3_302 (by decide) (Nat.le_of_ble_eq_true rfl) rfl rfl (fun r12 h13 hP => ?_)
    refine zV_mask [true, true, true, true, true, true, true, true, false] (ls' := [zR 101, zI y1, zI y2, zI y3, zI y4, zI y5, zI y6, zU, zU]) rfl ?_
    exact W_M_layAtMost_J191 _ _ _ _ _ _ _ _ _ H23 hP
def P_M_layAtMost_J153 (y1 : Int) (y2 : Int) (y3 : Int) (y4 : Int) (y5 : Int) (y6 : Int) (y7 : Int) (y8 : Int) (h : zH) (Q : Int → zH → Prop) (k23 : Int → zH → Prop) : Prop :=
if y5 ≤ 1 then
(P_M_layAtMost_J176 y1 y2 y3 y4 y5 y6 y8 h Q k23)
else
(if y3 ≤ y5 then
(P_M_layAtMost_J176 y1 y2 y3 y4 y5 y6 y8 h Q k23)
else
(P_M_layThree y7 y8 (w32 (-y6)) h (fun r14 h15 =>
P_M_layAtMost_J176 y1 y2 y3 y4 y5 y6 y8 h15 Q k23)))
theorem W_M_layAtMost_J153 (y1 : Int) (y2 : Int) (y3 : Int) (y4 : Int) (y5 : Int) (y6 : Int) (y7 : Int) (y8 : Int) (h : zH) (Q : Int → zH → Prop) (k23 : Int → zH → Prop) (H23 : ∀ (v5 : Int) (h' : zH), k23 v5 h' → zV true zy_X3_layAtMost 3 23 [zR 101, zI y1, zI y2, zI y3, zI y4, zI v5, zU, zU, zU] [] h' (zQ0 Q)) (hP : P_M_layAtMost_J153 y1 y2 y3 y4 y5 y6 y7 y8 h Q k23) : zV true zy_X3_layAtMost 3 153 [zR 101, zI y1, zI y2, zI y3, zI y4, zI y5, zI y6, zI y7, zI y8] [] h (zQ0 Q) := by
  unfold P_M_layAtMost_J153 at hP
  refine zV_iload dX3_layAtMost_153 rfl ?_
  refine zV_iconst dX3_layAtMost_155 ⟨by decide, by decide⟩ ?_
  refine zV_icmp_le (tgt := 176) dX3_layAtMost_156 (by decide) (fun c => ?_) (fun c => ?_)
  · have hP := zif_p hP c
    refine zV_mask [true, true, true, true, true, true, true, false, true] (ls' := [zR 101, zI y1, zI y2, zI y3, zI y4, zI y5, zI y6, zU, zI y8]) rfl ?_
    exact W_M_layAtMost_J176 _ _ _ _ _ _ _ _ _ _ H23 hP
  · have hP := zif_n hP c
    refine zV_iload dX3_layAtMost_159 rfl ?_
    refine zV_iload_n dX3_layAtMost_161 rfl ?_
    refine zV_icmp_ge (tgt := 176) dX3_layAtMost_162 (by decide) (fun c => ?_) (fun c => ?_)
    · have hP := zif_p hP c
      refine zV_mask [true, true, true, true, true, true, true, false, true] (ls' := [zR 101, zI y1, zI y2, zI y3, zI y4, zI y5, zI y6, zU, zI y8]) rfl ?_
      exact W_M_layAtMost_J176 _ _ _ _ _ _ _ _ _ _ H23 hP
    · have hP := zif_n hP c
      refine zV_aload_n dX3_layAtMost_165 rfl ?_
      refine zV_iload dX3_layAtMost_166 rfl ?_
      refine zV_iload dX3_layAtMost_168 rfl ?_
      refine zV_iload dX3_layAtMost_170 rfl ?_
      refine zV_ineg dX3_layAtMost_172 ?_
      refine zV_cVv (As := [zI y7, zI y8, zI (w32 (-y6))]) (rest := []) dX3_layAtMost_173 sa_101 (W_M_layThree _ _ _ _ _ hP) mi_X3_layThree ml_X3_306 (by decide) (Nat.le_of_ble_eq_true rfl) rfl rfl (fun r14 h15 hP => ?_)
      refine zV_mask [true, true, true, true, true, true, true, false, true] (ls' := [zR 101, zI y1, zI y2, zI y3, zI y4, zI y5, zI y6, zU, zI y8]) rfl ?_
      exact W_M_layAtMost_J176 _ _ _ _ _ _ _ _ _ _ H23 hP
def P_M_layAtMost_J124 (y1 : Int) (y2 : Int) (y3 : Int) (y4 : Int) (y5 : Int) (y6 : Int) (y7 : Int) (y8 : Int) (h : zH) (Q : Int → zH → Prop) (k23 : Int → zH → Prop) : Prop :=
if y5 = y3 then
(P_M_layTwo y4 (w32 (-y6)) h (fun r16 h17 =>
P_M_layAtMost_J153 y1 y2 y3 y4 y5 y6 y7 y8 h17 Q k23))
else
(P_M_layThree y7 y4 (w32 (-y6)) h (fun r8 h9 =>
P_M_layAtMost_J153 y1 y2 y3 y4 y5 y6 y7 y8 h9 Q k23))
theorem W_M_layAtMost_J124 (y1 : Int) (y2 : Int) (y3 : Int) (y4 : Int) (y5 : Int) (y6 : Int) (y7 : Int) (y8 : Int) (h : zH) (Q : Int → zH → Prop) (k23 : Int → zH → Prop) (H23 : ∀ (v5 : Int) (h' : zH), k23 v5 h' → zV true zy_X3_layAtMost 3 23 [zR 101, zI y1, zI y2, zI y3, zI y4, zI v5, zU, zU, zU] [] h' (zQ0 Q)) (hP : P_M_layAtMost_J124 y1 y2 y3 y4 y5 y6 y7 y8 h Q k23) : zV true zy_X3_layAtMost 3 124 [zR 101, zI y1, zI y2, zI y3, zI y4, zI y5, zI y6, zI y7, zI y8] [] h (zQ0 Q) := by
  unfold P_M_layAtMost_J124 at hP
  refine zV_iload dX3_layAtMost_124 rfl ?_
  refine zV_iload_n dX3_layAtMost_126 rfl ?_
  refine zV_icmp_ne (tgt := 142) dX3_layAtMost_127 (by decide) (fun c => ?_) (fun c => ?_)
  · have hP := zif_n hP c
    refine zV_aload_n dX3_layAtMost_142 rfl ?_
    refine zV_iload dX3_layAtMost_143 rfl ?_
    refine zV_iload dX3_layAtMost_145 rfl ?_
    refine zV_iload dX3_layAtMost_147 rfl ?_
    refine zV_ineg dX3_layAtMost_149 ?_
    refine zV_cVv (As := [zI y7, zI y4, zI (w32 (-y6))]) (rest := []) dX3_layAtMost_150 sa_101 (W_M_layThree _ _ _ _ _ hP) mi_X3_layThree ml_X3_306 (by decide) (Nat.le_of_ble_eq_true rfl) rfl rfl (fun r8 h9 hP => ?_)
    exact W_M_layAtMost_J153 _ _ _ _ _ _ _ _ _ _ _ H23 hP
  · have hP := zif_p hP c
    refine zV_aload_n dX3_layAtMost_130 rfl ?_
    refine zV_iload dX3_layAtMost_131 rfl ?_
    refine zV_iload dX3_layAtMost_133 rfl ?_
    refine zV_ineg dX3_layAtMost_135 ?_
    refine zV_cVv (As := [zI y4, zI (w32 (-y6))]) (rest := []) dX3_layAtMost_136 sa_101 (W_M_layTwo _ _ _ _ hP) mi_X3_layTwo ml_X3_302 (by decide) (Nat.le_of_ble_eq_true rfl) rfl rfl (fun r16 h17 hP => ?_)
    refine zV_goto (tgt := 153) dX3_layAtMost_139 (by decide) ?_
    exact W_M_layAtMost_J153 _ _ _ _ _ _ _ _ _ _ _ H23 hP
def P_M_layAtMost_J94 (y1 : Int) (y2 : Int) (y3 : Int) (y4 : Int) (y5 : Int) (y6 : Int) (y7 : Int) (y8 : Int) (h : zH) (Q : Int → zH → Prop) (k23 : Int → zH → Prop) : Prop :=
if y5 = 1 then
(P_M_layTwo (w32 (-y4)) y6 h (fun r18 h19 =>
P_M_layAtMost_J124 y1 y2 y3 y4 y5 y6 y7 y8 h19 Q k23))
else
(P_M_layThree (w32 (-y4)) (w32 (-y8)) y6 h (fun r6 h7 =>
P_M_layAtMost_J124 y1 y2 y3 y4 y5 y6 y7 y8 h7 Q k23))
theorem W_M_layAtMost_J94 (y1 : Int) (y2 : Int) (y3 : Int) (y4 : Int) (y5 : Int) (y6 : Int) (y7 : Int) (y8 : Int) (h : zH) (Q : Int → zH → Prop) (k23 : Int → zH → Prop) (H23 : ∀ (v5 : Int) (h' : zH), k23 v5 h' → zV true zy_X3_layAtMost 3 23 [zR 101, zI y1, zI y2, zI y3, zI y4, zI v5, zU, zU, zU] [] h' (zQ0 Q)) (hP : P_M_layAtMost_J94 y1 y2 y3 y4 y5 y6 y7 y8 h Q k23) : zV true zy_X3_layAtMost 3 94 [zR 101, zI y1, zI y2, zI y3, zI y4, zI y5, zI y6, zI y7, zI y8] [] h (zQ0 Q) := by
  unfold P_M_layAtMost_J94 at hP
  refine zV_iload dX3_layAtMost_94 rfl ?_
  refine zV_iconst dX3_layAtMost_96 ⟨by decide, by decide⟩ ?_
  refine zV_icmp_ne (tgt := 112) dX3_layAtMost_97 (by decide) (fun c => ?_) (fun c => ?_)
  · have hP := zif_n hP c
    refine zV_aload_n dX3_layAtMost_112 rfl ?_
    refine zV_iload dX3_layAtMost_113 rfl ?_
    refine zV_ineg dX3_layAtMost_115 ?_
    refine zV_iload dX3_layAtMost_116 rfl ?_
    refine zV_ineg dX3_layAtMost_118 ?_
    refine zV_iload dX3_layAtMost_119 rfl ?_
    refine zV_cVv (As := [zI (w32 (-y4)), zI (w32 (-y8)), zI y6]) (rest := []) dX3_layAtMost_121 sa_101 (W_M_layThree _ _ _ _ _ hP) mi_X3_layThree ml_X3_306 (by decide) (Nat.le_of_ble_eq_true rfl) rfl rfl (fun r6 h7 hP => ?_)
    exact W_M_layAtMost_J124 _ _ _ _ _ _ _ _ _ _ _ H23 hP
  · have hP := zif_p hP c
    refine zV_aload_n dX3_layAtMost_100 rfl ?_
    refine zV_iload dX3_layAtMost_101 rfl ?_
    refine zV_ineg dX3_layAtMost_103 ?_
    refine zV_iload dX3_layAtMost_104 rfl ?_
    refine zV_cVv (As := [zI (w32 (-y4)), zI y6]) (rest := []) dX3_layAtMost_106 sa_101 (W_M_layTwo _ _ _ _ hP) mi_X3_layTwo ml_X3_302 (by decide) (Nat.le_of_ble_eq_true rfl) rfl rfl (fun r18 h19 hP => ?_)
    refine zV_goto (tgt := 124) dX3_layAtMost_109 (by decide) ?_
    exact W_M_layAtMost_J124 _ _ _ _ _ _ _ _ _ _ _ H23 hP
def P_M_layAtMost_L23 (y1 : Int) (y2 : Int) (y3 : Int) (y4 : Int) (Q : Int → zH → Prop) (k206 : zH → Prop) : Nat → Int → zH → Prop
| 0, _, _ => False
| n23 + 1, y5, h =>
if y3 < y5 then
(k206 h)
else
(if w32 (y1 + 1) < y5 then
(k206 h)
else
(if y3 = 1 then
(∀ h22 : zH, h22 = zw h 128 1 y4 →
P_M_layAtMost_J200 y1 y2 y3 y4 y5 h22 Q (P_M_layAtMost_L23 y1 y2 y3 y4 Q k206 n23))
else
(P_M_newName h (fun r2 h3 =>
(0 ≤ y5 ∧ y5 < 14) ∧
∀ x7_4 : Int, x7_4 = (zd h3 129 y5) →
(0 ≤ w32 (y5 - 1) ∧ w32 (y5 - 1) < 14) ∧
∀ x8_5 : Int, x8_5 = (zd h3 129 (w32 (y5 - 1))) →
if y3 ≤ y5 then
(P_M_layAtMost_J94 y1 y2 y3 y4 y5 r2 x7_4 x8_5 h3 Q (P_M_layAtMost_L23 y1 y2 y3 y4 Q k206 n23))
else
(P_M_layTwo (w32 (-x7_4)) r2 h3 (fun r20 h21 =>
P_M_layAtMost_J94 y1 y2 y3 y4 y5 r2 x7_4 x8_5 h21 Q (P_M_layAtMost_L23 y1 y2 y3 y4 Q k206 n23)))))))
theorem W_M_layAtMost_L23 (y1 : Int) (y2 : Int) (y3 : Int) (y4 : Int) (Q : Int → zH → Prop) (k206 : zH → Prop) (H206 : ∀ (h' : zH), k206 h' → zV true zy_X3_layAtMost 3 206 [zR 101, zI y1, zI y2, zI y3, zU, zU, zU, zU, zU] [] h' (zQ0 Q)) : ∀ (n23 : Nat) (y5 : Int) (h : zH), P_M_layAtMost_L23 y1 y2 y3 y4 Q k206 n23 y5 h → zV true zy_X3_layAtMost 3 23 [zR 101, zI y1, zI y2, zI y3, zI y4, zI y5, zU, zU, zU] [] h (zQ0 Q) := by
  intro n23
  induction n23 with
  | zero => intro y5 h hP; exact absurd hP id
  | succ n23 ih =>
    intro y5 h hP
    unfold P_M_layAtMost_L23 at hP
    refine zV_iload dX3_layAtMost_23 rfl ?_
    refine zV_iload_n dX3_layAtMost_25 rfl ?_
    refine zV_icmp_gt (tgt := 206) dX3_layAtMost_26 (by decide) (fun c => ?_) (fun c => ?_)
    · have hP := zif_p hP c
      refine zV_mask [true, true, true, true, false, false, true, true, true] (ls' := [zR 101, zI y1, zI y2, zI y3, zU, zU, zU, zU, zU]) rfl ?_
      exact H206 _ hP
    · have hP := zif_n hP c
      refine zV_iload dX3_layAtMost_29 rfl ?_
      refine zV_iload_n dX3_layAtMost_31 rfl ?_
      refine zV_iconst dX3_layAtMost_32 ⟨by decide, by decide⟩ ?_
      refine zV_iadd dX3_layAtMost_33 ?_
      refine zV_icmp_gt (tgt := 206) dX3_layAtMost_34 (by decide) (fun c => ?_) (fun c => ?_)
      · have hP := zif_p hP c
        refine zV_mask [true, true, true, true, false, false, true, true, true] (ls' := [zR 101, zI y1, zI y2, zI y3, zU, zU, zU, zU, zU]) rfl ?_
        exact H206 _ hP
      · have hP := zif_n hP c
        refine zV_iload_n dX3_layAtMost_37 rfl ?_
        refine zV_iconst dX3_layAtMost_38 ⟨by decide, by decide⟩ ?_
        refine zV_icmp_ne (tgt := 53) dX3_layAtMost_39 (by decide) (fun c => ?_) (fun c => ?_)
        · have hP := zif_n hP c
          refine zV_aload_n dX3_layAtMost_53 rfl ?_
          refine zV_cVk (As := []) (rest := []) dX3_layAtMost_54 sa_101 (W_M_newName _ _ hP) mi_X3_newName ml_X3_298 (by decide) (Nat.le_of_ble_eq_true rfl) rfl rfl rfl (fun r2 h3 hP => ?_)
          refine zV_istore (ls' := [zR 101, zI y1, zI y2, zI y3, zI y4, zI y5, zI r2, zU, zU]) dX3_layAtMost_57 (Nat.le_of_ble_eq_true rfl) rfl rfl ?_
          refine zV_aload_n dX3_layAtMost_59 rfl ?_
          refine zV_sg dX3_layAtMost_60 fm_101_44 sa_101 (by decide) fl_X3_92_3 rfl ?_
          refine zV_iload dX3_layAtMost_63 rfl ?_
          obtain ⟨ob, hP⟩ := hP
          refine zV_ia dX3_layAtMost_65 sa_129 ob ?_
          refine zV_top (fun x7_4 e_x7_4 => ?_)
          have hP := hP x7_4 e_x7_4
          refine zV_istore (ls' := [zR 101, zI y1, zI y2, zI y3, zI y4, zI y5, zI r2, zI x7_4, zU]) dX3_layAtMost_66 (Nat.le_of_ble_eq_true rfl) rfl rfl ?_
          refine zV_aload_n dX3_layAtMost_68 rfl ?_
          refine zV_sg dX3_layAtMost_69 fm_101_44 sa_101 (by decide) fl_X3_92_3 rfl ?_
          refine zV_iload dX3_layAtMost_72 rfl ?_
          refine zV_iconst dX3_layAtMost_74 ⟨by decide, by decide⟩ ?_
          refine zV_isub dX3_layAtMost_75 ?_
          obtain ⟨ob, hP⟩ := hP
          refine zV_ia dX3_layAtMost_76 sa_129 ob ?_
          refine zV_top (fun x8_5 e_x8_5 => ?_)
          have hP := hP x8_5 e_x8_5
          refine zV_istore (ls' := [zR 101, zI y1, zI y2, zI y3, zI y4, zI y5, zI r2, zI x7_4, zI x8_5]) dX3_layAtMost_77 (Nat.le_of_ble_eq_true rfl) rfl rfl ?_
          refine zV_iload dX3_layAtMost_79 rfl ?_
          refine zV_iload_n dX3_layAtMost_81 rfl ?_
          refine zV_icmp_ge (tgt := 94) dX3_layAtMost_82 (by decide) (fun c => ?_) (fun c => ?_)
          · have hP := zif_p hP c
            exact W_M_layAtMost_J94 _ _ _ _ _ _ _ _ _ _ _ ih hP
          · have hP := zif_n hP c
            refine zV_aload_n dX3_layAtMost_85 rfl ?_
            refine zV_iload dX3_layAtMost_86 rfl ?_
            refine zV_ineg dX3_layAtMost_88 ?_
            refine zV_iload dX3_layAtMost_89 rfl ?_
            refine zV_cVv (As := [zI (w32 (-x7_4)), zI r2]) (rest := []) dX3_layAtMost_91 sa_101 (W_M_layTwo _ _ _ _ hP) mi_X3_layTwo ml_X3_302 (by decide) (Nat.le_of_ble_eq_true rfl) rfl rfl (fun r20 h21 hP => ?_)
            exact W_M_layAtMost_J94 _ _ _ _ _ _ _ _ _ _ _ ih hP
        · have hP := zif_p hP c
          refine zV_aload_n dX3_layAtMost_42 rfl ?_
          refine zV_sg dX3_layAtMost_43 fm_101_43 sa_101 (by decide) fl_X3_89_3 rfl ?_
          refine zV_iconst dX3_layAtMost_46 ⟨by decide, by decide⟩ ?_
          refine zV_iload dX3_layAtMost_47 rfl ?_
          refine zV_ias dX3_layAtMost_49 sa_128 (by decide) (fun h22 e_h22 => ?_)
          have hP := hP h22 e_h22
          refine zV_goto (tgt := 200) dX3_layAtMost_50 (by decide) ?_
          exact W_M_layAtMost_J200 _ _ _ _ _ _ _ _ ih hP
def P_M_layAtMost_L209 (y1 : Int) (y2 : Int) (y3 : Int) (Q : Int → zH → Prop) (k236 : zH → Prop) : Nat → Int → zH → Prop
| 0, _, _ => False
| n209 + 1, y5, h =>
if 13 < y5 then
(k236 h)
else
((0 ≤ y5 ∧ y5 < 14) ∧
(0 ≤ y5 ∧ y5 < 14) ∧
∀ h24 : zH, h24 = zw h 129 y5 (zd h 128 y5) →
∀ x5_25 : Int, x5_25 = w32 (y5 + 1) →
P_M_layAtMost_L209 y1 y2 y3 Q k236 n209 x5_25 h24)
theorem W_M_layAtMost_L209 (y1 : Int) (y2 : Int) (y3 : Int) (Q : Int → zH → Prop) (k236 : zH → Prop) (H236 : ∀ (h' : zH), k236 h' → zV true zy_X3_layAtMost 3 236 [zR 101, zI y1, zI y2, zI y3, zU, zU, zU, zU, zU] [] h' (zQ0 Q)) : ∀ (n209 : Nat) (y5 : Int) (h : zH), P_M_layAtMost_L209 y1 y2 y3 Q k236 n209 y5 h → zV true zy_X3_layAtMost 3 209 [zR 101, zI y1, zI y2, zI y3, zU, zI y5, zU, zU, zU] [] h (zQ0 Q) := by
  intro n209
  induction n209 with
  | zero => intro y5 h hP; exact absurd hP id
  | succ n209 ih =>
    intro y5 h hP
    unfold P_M_layAtMost_L209 at hP
    refine zV_iload dX3_layAtMost_209 rfl ?_
    refine zV_bipush dX3_layAtMost_211 ⟨by decide, by decide, by decide⟩ ?_
    refine zV_icmp_gt (tgt := 236) dX3_layAtMost_213 (by decide) (fun c => ?_) (fun c => ?_)
    · have hP := zif_p hP c
      refine zV_mask [true, true, true, true, true, false, true, true, true] (ls' := [zR 101, zI y1, zI y2, zI y3, zU, zU, zU, zU, zU]) rfl ?_
      exact H236 _ hP
    · have hP := zif_n hP c
      refine zV_aload_n dX3_layAtMost_216 rfl ?_
      refine zV_sg dX3_layAtMost_217 fm_101_44 sa_101 (by decide) fl_X3_92_3 rfl ?_
      refine zV_iload dX3_layAtMost_220 rfl ?_
      refine zV_aload_n dX3_layAtMost_222 rfl ?_
      refine zV_sg dX3_layAtMost_223 fm_101_43 sa_101 (by decide) fl_X3_89_3 rfl ?_
      refine zV_iload dX3_layAtMost_226 rfl ?_
      obtain ⟨ob, hP⟩ := hP
      refine zV_ia dX3_layAtMost_228 sa_128 ob ?_
      obtain ⟨ob, hP⟩ := hP
      refine zV_ias dX3_layAtMost_229 sa_129 ob (fun h24 e_h24 => ?_)
      have hP := hP h24 e_h24
      refine zV_inc (ls' := fun z => [zR 101, zI y1, zI y2, zI y3, zU, zI z, zU, zU, zU]) dX3_layAtMost_230 (Nat.le_of_ble_eq_true rfl) rfl rfl (fun _ => rfl) (fun x5_25 e_x5_25 => ?_)
      have hP := hP x5_25 e_x5_25
      refine zV_goto (tgt := 209) dX3_layAtMost_233 (by decide) ?_
      exact ih _ _ hP
def P_M_layAtMost_J206 (y1 : Int) (y2 : Int) (y3 : Int) (h : zH) (Q : Int → zH → Prop) (k2 : Int → zH → Prop) : Prop :=
∃ n209, P_M_layAtMost_L209 y1 y2 y3 Q (fun h26 =>
∀ x3_27 : Int, x3_27 = w32 (y3 + 1) →
k2 x3_27 h26) n209 1 h
theorem W_M_layAtMost_J206 (y1 : Int) (y2 : Int) (y3 : Int) (h : zH) (Q : Int → zH → Prop) (k2 : Int → zH → Prop) (H2 : ∀ (v3 : Int) (h' : zH), k2 v3 h' → zV true zy_X3_layAtMost 3 2 [zR 101, zI y1, zI y2, zI v3, zU, zU, zU, zU, zU] [] h' (zQ0 Q)) (hP : P_M_layAtMost_J206 y1 y2 y3 h Q k2) : zV true zy_X3_layAtMost 3 206 [zR 101, zI y1, zI y2, zI y3, zU, zU, zU, zU, zU] [] h (zQ0 Q) := by
  unfold P_M_layAtMost_J206 at hP
  refine zV_iconst dX3_layAtMost_206 ⟨by decide, by decide⟩ ?_
  refine zV_istore (ls' := [zR 101, zI y1, zI y2, zI y3, zU, zI 1, zU, zU, zU]) dX3_layAtMost_207 (Nat.le_of_ble_eq_true rfl) rfl rfl ?_
  obtain ⟨n209, hP⟩ := hP
  refine W_M_layAtMost_L209 _ _ _ _ _ (fun h26 hP => ?_) n209 _ _ hP
  refine zV_inc (ls' := fun z => [zR 101, zI y1, zI y2, zI z, zU, zU, zU, zU, zU]) dX3_layAtMost_236 (Nat.le_of_ble_eq_true rfl) rfl rfl (fun _ => rfl) (fun x3_27 e_x3_27 => ?_)
  have hP := hP x3_27 e_x3_27
  refine zV_goto (tgt := 2) dX3_layAtMost_239 (by decide) ?_
  exact H2 _ _ hP
def P_M_layAtMost_L2 (y1 : Int) (y2 : Int) (Q : Int → zH → Prop) (k242 : zH → Prop) : Nat → Int → zH → Prop
| 0, _, _ => False
| n2 + 1, y3, h =>
if zd h 101 42 < y3 then
(k242 h)
else
((0 ≤ w32 (y3 - 1) ∧ w32 (y3 - 1) < 40) ∧
∀ x4_1 : Int, x4_1 = (zd h 127 (w32 (y3 - 1))) →
∃ n23, P_M_layAtMost_L23 y1 y2 y3 x4_1 Q (fun h23 =>
P_M_layAtMost_J206 y1 y2 y3 h23 Q (P_M_layAtMost_L2 y1 y2 Q k242 n2)) n23 1 h)
theorem W_M_layAtMost_L2 (y1 : Int) (y2 : Int) (Q : Int → zH → Prop) (k242 : zH → Prop) (H242 : ∀ (h' : zH), k242 h' → zV true zy_X3_layAtMost 3 242 [zR 101, zI y1, zI y2, zU, zU, zU, zU, zU, zU] [] h' (zQ0 Q)) : ∀ (n2 : Nat) (y3 : Int) (h : zH), P_M_layAtMost_L2 y1 y2 Q k242 n2 y3 h → zV true zy_X3_layAtMost 3 2 [zR 101, zI y1, zI y2, zI y3, zU, zU, zU, zU, zU] [] h (zQ0 Q) := by
  intro n2
  induction n2 with
  | zero => intro y3 h hP; exact absurd hP id
  | succ n2 ih =>
    intro y3 h hP
    unfold P_M_layAtMost_L2 at hP
    refine zV_iload_n dX3_layAtMost_2 rfl ?_
    refine zV_aload_n dX3_layAtMost_3 rfl ?_
    refine zV_gf dX3_layAtMost_4 sa_101 (by decide) fl_X3_292_3 rfl (ki := 42) rfl ?_
    refine zV_icmp_gt (tgt := 242) dX3_layAtMost_7 (by decide) (fun c => ?_) (fun c => ?_)
    · have hP := zif_p hP c
      refine zV_mask [true, true, true, false, true, true, true, true, true] (ls' := [zR 101, zI y1, zI y2, zU, zU, zU, zU, zU, zU]) rfl ?_
      exact H242 _ hP
    · have hP := zif_n hP c
      refine zV_aload_n dX3_layAtMost_10 rfl ?_
      refine zV_sg dX3_layAtMost_11 fm_101_41 sa_101 (by decide) fl_X3_86_3 rfl ?_
      refine zV_iload_n dX3_layAtMost_14 rfl ?_
      refine zV_iconst dX3_layAtMost_15 ⟨by decide, by decide⟩ ?_
      refine zV_isub dX3_layAtMost_16 ?_
      obtain ⟨ob, hP⟩ := hP
      refine zV_ia dX3_layAtMost_17 sa_127 ob ?_
      refine zV_top (fun x4_1 e_x4_1 => ?_)
      have hP := hP x4_1 e_x4_1
      refine zV_istore (ls' := [zR 101, zI y1, zI y2, zI y3, zI x4_1, zU, zU, zU, zU]) dX3_layAtMost_18 (Nat.le_of_ble_eq_true rfl) rfl rfl ?_
      refine zV_iconst dX3_layAtMost_20 ⟨by decide, by decide⟩ ?_
      refine zV_istore (ls' := [zR 101, zI y1, zI y2, zI y3, zI x4_1, zI 1, zU, zU, zU]) dX3_layAtMost_21 (Nat.le_of_ble_eq_true rfl) rfl rfl ?_
      obtain ⟨n23, hP⟩ := hP
      refine W_M_layAtMost_L23 _ _ _ _ _ _ (fun h23 hP => ?_) n23 _ _ hP
      exact W_M_layAtMost_J206 _ _ _ _ _ _ ih hP
def P_M_layAtMost_J286 (y1 : Int) (y2 : Int) (h : zH) (Q : Int → zH → Prop) : Prop :=
if y2 = 0 then
(Q 0 h)
else
(if y1 ≤ 0 then
(Q 0 h)
else
((0 ≤ y1 ∧ y1 < 14) ∧
P_M_lay (zd h 128 y1) h (fun r29 h30 =>
P_M_endRow h30 (fun r31 h32 =>
Q 0 h32))))
theorem W_M_layAtMost_J286 (y1 : Int) (y2 : Int) (h : zH) (Q : Int → zH → Prop) (hP : P_M_layAtMost_J286 y1 y2 h Q) : zV true zy_X3_layAtMost 3 286 [zR 101, zI y1, zI y2, zU, zU, zU, zU, zU, zU] [] h (zQ0 Q) := by
  unfold P_M_layAtMost_J286 at hP
  refine zV_iload_n dX3_layAtMost_286 rfl ?_
  refine zV_if_eq (tgt := 308) dX3_layAtMost_287 (by decide) (fun c => ?_) (fun c => ?_)
  · have hP := zif_p hP c
    exact zV_return dX3_layAtMost_308 rfl ⟨rfl, hP⟩
  · have hP := zif_n hP c
    refine zV_iload_n dX3_layAtMost_290 rfl ?_
    refine zV_if_le (tgt := 308) dX3_layAtMost_291 (by decide) (fun c => ?_) (fun c => ?_)
    · have hP := zif_p hP c
      exact zV_return dX3_layAtMost_308 rfl ⟨rfl, hP⟩
    · have hP := zif_n hP c
      refine zV_aload_n dX3_layAtMost_294 rfl ?_
      refine zV_aload_n dX3_layAtMost_295 rfl ?_
      refine zV_sg dX3_layAtMost_296 fm_101_43 sa_101 (by decide) fl_X3_89_3 rfl ?_
      refine zV_iload_n dX3_layAtMost_299 rfl ?_
      obtain ⟨ob, hP⟩ := hP
      refine zV_ia dX3_layAtMost_300 sa_128 ob ?_
      refine zV_cVv (As := [zI (zd h 128 y1)]) (rest := []) dX3_layAtMost_301 sa_101 (W_M_lay _ _ _ hP) mi_X3_lay ml_X3_282 (by decide) (Nat.le_of_ble_eq_true rfl) rfl rfl (fun r29 h30 hP => ?_)
      refine zV_aload_n dX3_layAtMost_304 rfl ?_
      refine zV_cVv (As := []) (rest := []) dX3_layAtMost_305 sa_101 (W_M_endRow _ _ hP) mi_X3_endRow ml_X3_286 (by decide) (Nat.le_of_ble_eq_true rfl) rfl rfl (fun r31 h32 hP => ?_)
      exact zV_return dX3_layAtMost_308 rfl ⟨rfl, hP⟩
def P_M_layAtMost_J267 (y1 : Int) (y2 : Int) (h : zH) (Q : Int → zH → Prop) : Prop :=
if y2 = 0 then
(P_M_layAtMost_J286 y1 y2 h Q)
else
(if y1 ≤ zd h 101 42 then
(P_M_layAtMost_J286 y1 y2 h Q)
else
(P_M_endRow h (fun r33 h34 =>
Q 0 h34)))
theorem W_M_layAtMost_J267 (y1 : Int) (y2 : Int) (h : zH) (Q : Int → zH → Prop) (hP : P_M_layAtMost_J267 y1 y2 h Q) : zV true zy_X3_layAtMost 3 267 [zR 101, zI y1, zI y2, zU, zU, zU, zU, zU, zU] [] h (zQ0 Q) := by
  unfold P_M_layAtMost_J267 at hP
  refine zV_iload_n dX3_layAtMost_267 rfl ?_
  refine zV_if_eq (tgt := 286) dX3_layAtMost_268 (by decide) (fun c => ?_) (fun c => ?_)
  · have hP := zif_p hP c
    exact W_M_layAtMost_J286 _ _ _ _ hP
  · have hP := zif_n hP c
    refine zV_iload_n dX3_layAtMost_271 rfl ?_
    refine zV_aload_n dX3_layAtMost_272 rfl ?_
    refine zV_gf dX3_layAtMost_273 sa_101 (by decide) fl_X3_292_3 rfl (ki := 42) rfl ?_
    refine zV_icmp_le (tgt := 286) dX3_layAtMost_276 (by decide) (fun c => ?_) (fun c => ?_)
    · have hP := zif_p hP c
      exact W_M_layAtMost_J286 _ _ _ _ hP
    · have hP := zif_n hP c
      refine zV_aload_n dX3_layAtMost_279 rfl ?_
      refine zV_cVv (As := []) (rest := []) dX3_layAtMost_280 sa_101 (W_M_endRow _ _ hP) mi_X3_endRow ml_X3_286 (by decide) (Nat.le_of_ble_eq_true rfl) rfl rfl (fun r33 h34 hP => ?_)
      refine zV_goto (tgt := 308) dX3_layAtMost_283 (by decide) ?_
      exact zV_return dX3_layAtMost_308 rfl ⟨rfl, hP⟩
def P_M_layAtMost (a1 : Int) (a2 : Int) (h : zH) (Q : Int → zH → Prop) : Prop :=
∃ n2, P_M_layAtMost_L2 a1 a2 Q (fun h28 =>
if zd h28 101 42 ≤ a1 then
(P_M_layAtMost_J267 a1 a2 h28 Q)
else
((0 ≤ w32 (a1 + 1) ∧ w32 (a1 + 1) < 14) ∧
P_M_lay (w32 (-(zd h28 128 (w32 (a1 + 1))))) h28 (fun r35 h36 =>
P_M_endRow h36 (fun r37 h38 =>
P_M_layAtMost_J267 a1 a2 h38 Q)))) n2 1 h
theorem W_M_layAtMost (a1 : Int) (a2 : Int) (h : zH) (Q : Int → zH → Prop) (hP : P_M_layAtMost a1 a2 h Q) : zC true zy_X3_layAtMost 3 [zR 101, zI a1, zI a2] h (zQ0 Q) := by
  unfold P_M_layAtMost at hP
  refine zC.of (by decide) (Nat.le_of_ble_eq_true rfl) ?_
  show zV true zy_X3_layAtMost 3 0 [zR 101, zI a1, zI a2, zU, zU, zU, zU, zU, zU] [] h (zQ0 Q)
  refine zV_iconst dX3_layAtMost_0 ⟨by decide, by decide⟩ ?_
  refine zV_istore_n (ls' := [zR 101, zI a1, zI a2, zI 1, zU, zU, zU, zU, zU]) dX3_layAtMost_1 rfl (Nat.le_of_ble_eq_true rfl) rfl rfl ?_
  obtain ⟨n2, hP⟩ := hP
  refine W_M_layAtMost_L2 _ _ _ _ (fun h28 hP => ?_) n2 _ _ hP
  refine zV_aload_n dX3_layAtMost_242 rfl ?_
  refine zV_gf dX3_layAtMost_243 sa_101 (by decide) fl_X3_292_3 rfl (ki := 42) rfl ?_
  refine zV_iload_n dX3_layAtMost_246 rfl ?_
  refine zV_icmp_le (tgt := 267) dX3_layAtMost_247 (by decide) (fun c => ?_) (fun c => ?_)
  · have hP := zif_p hP c
    exact W_M_layAtMost_J267 _ _ _ _ hP
  · have hP := zif_n hP c
    refine zV_aload_n dX3_layAtMost_250 rfl ?_
    refine zV_aload_n dX3_layAtMost_251 rfl ?_
    refine zV_sg dX3_layAtMost_252 fm_101_43 sa_101 (by decide) fl_X3_89_3 rfl ?_
    refine zV_iload_n dX3_layAtMost_255 rfl ?_
    refine zV_iconst dX3_layAtMost_256 ⟨by decide, by decide⟩ ?_
    refine zV_iadd dX3_layAtMost_257 ?_
    obtain ⟨ob, hP⟩ := hP
    refine zV_ia dX3_layAtMost_258 sa_128 ob ?_
    refine zV_ineg dX3_layAtMost_259 ?_
    refine zV_cVv (As := [zI (w32 (-(zd h28 128 (w32 (a1 + 1)))))]) (rest := []) dX3_layAtMost_260 sa_101 (W_M_lay _ _ _ hP) mi_X3_lay ml_X3_282 (by decide) (Nat.le_of_ble_eq_true rfl) rfl rfl (fun r35 h36 hP => ?_)
    refine zV_aload_n dX3_layAtMost_263 rfl ?_
    refine zV_cVv (As := []) (rest := []) dX3_layAtMost_264 sa_101 (W_M_endRow _ _ hP) mi_X3_endRow ml_X3_286 (by decide) (Nat.le_of_ble_eq_true rfl) rfl rfl (fun r37 h38 hP => ?_)
    exact W_M_layAtMost_J267 _ _ _ _ hP
def P_M_summed (a1 : Int) (a2 : Int) (a3 : Int) (h : zH) (Q : Int → zH → Prop) : Prop :=
P_M_isRow a1 h (fun r1 h2 =>
if r1 = 0 then
(P_M_fail (-1001) h2 (fun r3 h4 =>
Q r3 h4))
else
(P_M_in a2 0 12 h2 (fun r5 h6 =>
if r5 = 0 then
(P_M_fail (-1001) h6 (fun r17 h18 =>
Q r17 h18))
else
(P_M_takeItems a1 h6 (fun r7 h8 =>
if 0 ≤ r7 then
(P_M_beginLaying h8 (fun r9 h10 =>
P_M_layAtMost a2 a3 h10 (fun r11 h12 =>
P_M_keepRule (if a3 = 0 then 1 else 2) a2 0 h12 (fun r13 h14 =>
Q r13 h14))))
else
(P_M_fail r7 h8 (fun r15 h16 =>
Q r15 h16)))))))
theorem W_M_summed (a1 : Int) (a2 : Int) (a3 : Int) (h : zH) (Q : Int → zH → Prop) (hP : P_M_summed a1 a2 a3 h Q) : zC true zy_X3_summed 4 [zR 101, zI a1, zI a2, zI a3] h (zQ0 Q) := by
  unfold P_M_summed at hP
  refine zC.of (by decide) (Nat.le_of_ble_eq_true rfl) ?_
  show zV true zy_X3_summed 4 0 [zR 101, zI a1, zI a2, zI a3, zU] [] h (zQ0 Q)
  refine zV_iload_n dX3_summed_0 rfl ?_
  refine zV_cSk (As := [zI a1]) (rest := []) dX3_summed_1 (W_M_isRow _ _ _ hP) mi_X3_isRow ml_X3_253 (by decide) (Nat.le_of_ble_eq_true rfl) rfl rfl rfl (fun r1 h2 hP => ?_)
  refine zV_if_eq (tgt := 17) dX3_summed_4 (by decide) (fun c => ?_) (fun c => ?_)
  · have hP := zif_p hP c
    refine zV_aload_n dX3_summed_17 rfl ?_
    refine zV_sipush dX3_summed_18 ⟨by decide, by decide, by decide⟩ ?_
    refine zV_cVk (As := [zI (-1001)]) (rest := []) dX3_summed_21 sa_101 (W_M_fail _ _ _ hP) mi_X3_fail ml_X3_242 (by decide) (Nat.le_of_ble_eq_true rfl) rfl rfl rfl (fun r3 h4 hP => ?_)
    exact zV_ireturn dX3_summed_24 rfl rfl rfl ⟨rfl, hP⟩
  · have hP := zif_n hP c
    refine zV_iload_n dX3_summed_7 rfl ?_
    refine zV_iconst dX3_summed_8 ⟨by decide, by decide⟩ ?_
    refine zV_bipush dX3_summed_9 ⟨by decide, by decide, by decide⟩ ?_
    refine zV_cSk (As := [zI a2, zI 0, zI 12]) (rest := []) dX3_summed_11 (W_M_in _ _ _ _ _ hP) mi_X3_in ml_X3_238 (by decide) (Nat.le_of_ble_eq_true rfl) rfl rfl rfl (fun r5 h6 hP => ?_)
    refine zV_if_ne (tgt := 25) dX3_summed_14 (by decide) (fun c => ?_) (fun c => ?_)
    · have hP := zif_n hP c
      refine zV_aload_n dX3_summed_25 rfl ?_
      refine zV_iload_n dX3_summed_26 rfl ?_
      refine zV_cVk (As := [zI a1]) (rest := []) dX3_summed_27 sa_101 (W_M_takeItems _ _ _ hP) mi_X3_takeItems ml_X3_310 (by decide) (Nat.le_of_ble_eq_true rfl) rfl rfl rfl (fun r7 h8 hP => ?_)
      refine zV_istore (ls' := [zR 101, zI a1, zI a2, zI a3, zI r7]) dX3_summed_30 (Nat.le_of_ble_eq_true rfl) rfl rfl ?_
      refine zV_iload dX3_summed_32 rfl ?_
      refine zV_if_ge (tgt := 44) dX3_summed_34 (by decide) (fun c => ?_) (fun c => ?_)
      · have hP := zif_p hP c
        refine zV_aload_n dX3_summed_44 rfl ?_
        refine zV_cVv (As := []) (rest := []) dX3_summed_45 sa_101 (W_M_beginLaying _ _ hP) mi_X3_beginLaying ml_X3_313 (by decide) (Nat.le_of_ble_eq_true rfl) rfl rfl (fun r9 h10 hP => ?_)
        refine zV_aload_n dX3_summed_48 rfl ?_
        refine zV_iload_n dX3_summed_49 rfl ?_
        refine zV_iload_n dX3_summed_50 rfl ?_
        refine zV_cVv (As := [zI a2, zI a3]) (rest := []) dX3_summed_51 sa_101 (W_M_layAtMost _ _ _ _ hP) mi_X3_layAtMost ml_X3_320 (by decide) (Nat.le_of_ble_eq_true rfl) rfl rfl (fun r11 h12 hP => ?_)
        refine zV_aload_n dX3_summed_54 rfl ?_
        refine zV_iload_n dX3_summed_55 rfl ?_
        have K : zV true zy_X3_summed 4 64 [zU, zU, zI a2, zU, zU] [zI (if a3 = 0 then 1 else 2), zR 101] h12 (zQ0 Q) := by
          refine zV_iload_n dX3_summed_64 rfl ?_
          refine zV_iconst dX3_summed_65 ⟨by decide, by decide⟩ ?_
          refine zV_cVk (As := [zI (if a3 = 0 then 1 else 2), zI a2, zI 0]) (rest := []) dX3_summed_66 sa_101 (W_M_keepRule _ _ _ _ _ hP) mi_X3_keepRule ml_X3_316 (by decide) (Nat.le_of_ble_eq_true rfl) rfl rfl rfl (fun r13 h14 hP => ?_)
          exact zV_ireturn dX3_summed_69 rfl rfl rfl ⟨rfl, hP⟩
        clear hP
        refine zV_if_eq (tgt := 63) dX3_summed_56 (by decide) (fun c => ?_) (fun c => ?_)
        · try simp only [if_pos c] at K
          refine zV_iconst dX3_summed_63 ⟨by decide, by decide⟩ ?_
          refine zV_mask [false, false, true, false, false] rfl ?_
          exact K
        · try simp only [if_neg c] at K
          refine zV_iconst dX3_summed_59 ⟨by decide, by decide⟩ ?_
          refine zV_goto (tgt := 64) dX3_summed_60 (by decide) ?_
          refine zV_mask [false, false, true, false, false] rfl ?_
          exact K
      · have hP := zif_n hP c
        refine zV_aload_n dX3_summed_37 rfl ?_
        refine zV_iload dX3_summed_38 rfl ?_
        refine zV_cVk (As := [zI r7]) (rest := []) dX3_summed_40 sa_101 (W_M_fail _ _ _ hP) mi_X3_fail ml_X3_242 (by decide) (Nat.le_of_ble_eq_true rfl) rfl rfl rfl (fun r15 h16 hP => ?_)
        exact zV_ireturn dX3_summed_43 rfl rfl rfl ⟨rfl, hP⟩
    · have hP := zif_p hP c
      refine zV_aload_n dX3_summed_17 rfl ?_
      refine zV_sipush dX3_summed_18 ⟨by decide, by decide, by decide⟩ ?_
      refine zV_cVk (As := [zI (-1001)]) (rest := []) dX3_summed_21 sa_101 (W_M_fail _ _ _ hP) mi_X3_fail ml_X3_242 (by decide) (Nat.le_of_ble_eq_true rfl) rfl rfl rfl (fun r17 h18 hP => ?_)
      exact zV_ireturn dX3_summed_24 rfl rfl rfl ⟨rfl, hP⟩
def P_M_atMost (a1 : Int) (a2 : Int) (h : zH) (Q : Int → zH → Prop) : Prop :=
P_M_summed a1 a2 0 h (fun r1 h2 =>
Q r1 h2)
theorem W_M_atMost (a1 : Int) (a2 : Int) (h : zH) (Q : Int → zH → Prop) (hP : P_M_atMost a1 a2 h Q) : zC true zy_X3_atMost 5 [zR 101, zI a1, zI a2] h (zQ0 Q) := by
  unfold P_M_atMost at hP
  refine zC.of (by decide) (Nat.le_of_ble_eq_true rfl) ?_
  show zV true zy_X3_atMost 5 0 [zR 101, zI a1, zI a2] [] h (zQ0 Q)
  refine zV_aload_n dX3_atMost_0 rfl ?_
  refine zV_iload_n dX3_atMost_1 rfl ?_
  refine zV_iload_n dX3_atMost_2 rfl ?_
  refine zV_iconst dX3_atMost_3 ⟨by decide, by decide⟩ ?_
  refine zV_cVk (As := [zI a1, zI a2, zI 0]) (rest := []) dX3_atMost_4 sa_101 (W_M_summed _ _ _ _ _ hP) mi_X3_summed ml_X3_324 (by decide) (Nat.le_of_ble_eq_true rfl) rfl rfl rfl (fun r1 h2 hP => ?_)
  exact zV_ireturn dX3_atMost_7 rfl rfl rfl ⟨rfl, hP⟩
def P_M_group (a1 : Int) (a2 : Int) (h : zH) (Q : Int → zH → Prop) : Prop :=
P_M_summed a1 a2 1 h (fun r1 h2 =>
Q r1 h2)
theorem W_M_group (a1 : Int) (a2 : Int) (h : zH) (Q : Int → zH → Prop) (hP : P_M_group a1 a2 h Q) : zC true zy_X3_group 5 [zR 101, zI a1, zI a2] h (zQ0 Q) := by
  unfold P_M_group at hP
  refine zC.of (by decide) (Nat.le_of_ble_eq_true rfl) ?_
  show zV true zy_X3_group 5 0 [zR 101, zI a1, zI a2] [] h (zQ0 Q)
  refine zV_aload_n dX3_group_0 rfl ?_
  refine zV_iload_n dX3_group_1 rfl ?_
  refine zV_iload_n dX3_group_2 rfl ?_
  refine zV_iconst dX3_group_3 ⟨by decide, by decide⟩ ?_
  refine zV_cVk (As := [zI a1, zI a2, zI 1]) (rest := []) dX3_group_4 sa_101 (W_M_summed _ _ _ _ _ hP) mi_X3_summed ml_X3_324 (by decide) (Nat.le_of_ble_eq_true rfl) rfl rfl rfl (fun r1 h2 hP => ?_)
  exact zV_ireturn dX3_group_7 rfl rfl rfl ⟨rfl, hP⟩
def P_M_layParity_J81 (y1 : Int) (y2 : Int) (y3 : Int) (h : zH) (Q : Int → zH → Prop) (k4 : Int → Int → zH → Prop) : Prop :=
∀ x3_12 : Int, x3_12 = w32 (y3 + 1) →
k4 y2 x3_12 h
theorem W_M_layParity_J81 (y1 : Int) (y2 : Int) (y3 : Int) (h : zH) (Q : Int → zH → Prop) (k4 : Int → Int → zH → Prop) (H4 : ∀ (v2 v3 : Int) (h' : zH), k4 v2 v3 h' → zV true zy_X3_layParity 3 4 [zR 101, zI y1, zI v2, zI v3, zU, zU] [] h' (zQ0 Q)) (hP : P_M_layParity_J81 y1 y2 y3 h Q k4) : zV true zy_X3_layParity 3 81 [zR 101, zI y1, zI y2, zI y3, zU, zU] [] h (zQ0 Q) := by
  unfold P_M_layParity_J81 at hP
  refine zV_inc (ls' := fun z => [zR 101, zI y1, zI y2, zI z, zU, zU]) dX3_layParity_81 (Nat.le_of_ble_eq_true rfl) rfl rfl (fun _ => rfl) (fun x3_12 e_x3_12 => ?_)
  have hP := hP x3_12 e_x3_12
  refine zV_goto (tgt := 4) dX3_layParity_84 (by decide) ?_
  exact H4 _ _ _ hP
def P_M_layParity_L4 (y1 : Int) (Q : Int → zH → Prop) (k87 : Int → zH → Prop) : Nat → Int → Int → zH → Prop
| 0, _, _, _ => False
| n4 + 1, y2, y3, h =>
if zd h 101 42 ≤ y3 then
(k87 y2 h)
else
((0 ≤ y3 ∧ y3 < 40) ∧
∀ x4_1 : Int, x4_1 = (zd h 127 y3) →
if y3 = 0 then
(P_M_layParity_J81 y1 x4_1 y3 h Q (P_M_layParity_L4 y1 Q k87 n4))
else
(P_M_newName h (fun r2 h3 =>
P_M_layThree (w32 (-y2)) (w32 (-x4_1)) (w32 (-r2)) h3 (fun r4 h5 =>
P_M_layThree y2 x4_1 (w32 (-r2)) h5 (fun r6 h7 =>
P_M_layThree y2 (w32 (-x4_1)) r2 h7 (fun r8 h9 =>
P_M_layThree (w32 (-y2)) x4_1 r2 h9 (fun r10 h11 =>
P_M_layParity_J81 y1 r2 y3 h11 Q (P_M_layParity_L4 y1 Q k87 n4))))))))
theorem W_M_layParity_L4 (y1 : Int) (Q : Int → zH → Prop) (k87 : Int → zH → Prop) (H87 : ∀ (v2 : Int) (h' : zH), k87 v2 h' → zV true zy_X3_layParity 3 87 [zR 101, zI y1, zI v2, zU, zU, zU] [] h' (zQ0 Q)) : ∀ (n4 : Nat) (y2 y3 : Int) (h : zH), P_M_layParity_L4 y1 Q k87 n4 y2 y3 h → zV true zy_X3_layParity 3 4 [zR 101, zI y1, zI y2, zI y3, zU, zU] [] h (zQ0 Q) := by
  intro n4
  induction n4 with
  | zero => intro y2 y3 h hP; exact absurd hP id
  | succ n4 ih =>
    intro y2 y3 h hP
    unfold P_M_layParity_L4 at hP
    refine zV_iload_n dX3_layParity_4 rfl ?_
    refine zV_aload_n dX3_layParity_5 rfl ?_
    refine zV_gf dX3_layParity_6 sa_101 (by decide) fl_X3_292_3 rfl (ki := 42) rfl ?_
    refine zV_icmp_ge (tgt := 87) dX3_layParity_9 (by decide) (fun c => ?_) (fun c => ?_)
    · have hP := zif_p hP c
      refine zV_mask [true, true, true, false, true, true] (ls' := [zR 101, zI y1, zI y2, zU, zU, zU]) rfl ?_
      exact H87 _ _ hP
    · have hP := zif_n hP c
      refine zV_aload_n dX3_layParity_12 rfl ?_
      refine zV_sg dX3_layParity_13 fm_101_41 sa_101 (by decide) fl_X3_86_3 rfl ?_
      refine zV_iload_n dX3_layParity_16 rfl ?_
      obtain ⟨ob, hP⟩ := hP
      refine zV_ia dX3_layParity_17 sa_127 ob ?_
      refine zV_top (fun x4_1 e_x4_1 => ?_)
      have hP := hP x4_1 e_x4_1
      refine zV_istore (ls' := [zR 101, zI y1, zI y2, zI y3, zI x4_1, zU]) dX3_layParity_18 (Nat.le_of_ble_eq_true rfl) rfl rfl ?_
      refine zV_iload_n dX3_layParity_20 rfl ?_
      refine zV_if_ne (tgt := 30) dX3_layParity_21 (by decide) (fun c => ?_) (fun c => ?_)
      · have hP := zif_n hP c
        refine zV_aload_n dX3_layParity_30 rfl ?_
        refine zV_cVk (As := []) (rest := []) dX3_layParity_31 sa_101 (W_M_newName _ _ hP) mi_X3_newName ml_X3_298 (by decide) (Nat.le_of_ble_eq_true rfl) rfl rfl rfl (fun r2 h3 hP => ?_)
        refine zV_istore (ls' := [zR 101, zI y1, zI y2, zI y3, zI x4_1, zI r2]) dX3_layParity_34 (Nat.le_of_ble_eq_true rfl) rfl rfl ?_
        refine zV_aload_n dX3_layParity_36 rfl ?_
        refine zV_iload_n dX3_layParity_37 rfl ?_
        refine zV_ineg dX3_layParity_38 ?_
        refine zV_iload dX3_layParity_39 rfl ?_
        refine zV_ineg dX3_layParity_41 ?_
        refine zV_iload dX3_layParity_42 rfl ?_
        refine zV_ineg dX3_layParity_44 ?_
        refine zV_cVv (As := [zI (w32 (-y2)), zI (w32 (-x4_1)), zI (w32 (-r2))]) (rest := []) dX3_layParity_45 sa_101 (W_M_layThree _ _ _ _ _ hP) mi_X3_layThree ml_X3_306 (by decide) (Nat.le_of_ble_eq_true rfl) rfl rfl (fun r4 h5 hP => ?_)
        refine zV_aload_n dX3_layParity_48 rfl ?_
        refine zV_iload_n dX3_layParity_49 rfl ?_
        refine zV_iload dX3_layParity_50 rfl ?_
        refine zV_iload dX3_layParity_52 rfl ?_
        refine zV_ineg dX3_layParity_54 ?_
        refine zV_cVv (As := [zI y2, zI x4_1, zI (w32 (-r2))]) (rest := []) dX3_layParity_55 sa_101 (W_M_layThree _ _ _ _ _ hP) mi_X3_layThree ml_X3_306 (by decide) (Nat.le_of_ble_eq_true rfl) rfl rfl (fun r6 h7 hP => ?_)
        refine zV_aload_n dX3_layParity_58 rfl ?_
        refine zV_iload_n dX3_layParity_59 rfl ?_
        refine zV_iload dX3_layParity_60 rfl ?_
        refine zV_ineg dX3_layParity_62 ?_
        refine zV_iload dX3_layParity_63 rfl ?_
        refine zV_cVv (As := [zI y2, zI (w32 (-x4_1)), zI r2]) (rest := []) dX3_layParity_65 sa_101 (W_M_layThree _ _ _ _ _ hP) mi_X3_layThree ml_X3_306 (by decide) (Nat.le_of_ble_eq_true rfl) rfl rfl (fun r8 h9 hP => ?_)
        refine zV_aload_n dX3_layParity_68 rfl ?_
        refine zV_iload_n dX3_layParity_69 rfl ?_
        refine zV_ineg dX3_layParity_70 ?_
        refine zV_iload dX3_layParity_71 rfl ?_
        refine zV_iload dX3_layParity_73 rfl ?_
        refine zV_cVv (As := [zI (w32 (-y2)), zI x4_1, zI r2]) (rest := []) dX3_layParity_75 sa_101 (W_M_layThree _ _ _ _ _ hP) mi_X3_layThree ml_X3_306 (by decide) (Nat.le_of_ble_eq_true rfl) rfl rfl (fun r10 h11 hP => ?_)
        refine zV_iload dX3_layParity_78 rfl ?_
        refine zV_istore_n (ls' := [zR 101, zI y1, zI r2, zI y3, zI x4_1, zI r2]) dX3_layParity_80 rfl (Nat.le_of_ble_eq_true rfl) rfl rfl ?_
        refine zV_mask [true, true, true, true, false, false] (ls' := [zR 101, zI y1, zI r2, zI y3, zU, zU]) rfl ?_
        exact W_M_layParity_J81 _ _ _ _ _ _ ih hP
      · have hP := zif_p hP c
        refine zV_iload dX3_layParity_24 rfl ?_
        refine zV_istore_n (ls' := [zR 101, zI y1, zI x4_1, zI y3, zI x4_1, zU]) dX3_layParity_26 rfl (Nat.le_of_ble_eq_true rfl) rfl rfl ?_
        refine zV_goto (tgt := 81) dX3_layParity_27 (by decide) ?_
        refine zV_mask [true, true, true, true, false, true] (ls' := [zR 101, zI y1, zI x4_1, zI y3, zU, zU]) rfl ?_
        exact W_M_layParity_J81 _ _ _ _ _ _ ih hP
def P_M_layParity (a1 : Int) (h : zH) (Q : Int → zH → Prop) : Prop :=
∃ n4, P_M_layParity_L4 a1 Q (fun u2_87 h13 =>
if zd h13 101 42 ≤ 0 then
(if a1 = 0 then
(Q 0 h13)
else
(P_M_endRow h13 (fun r14 h15 =>
Q 0 h15)))
else
(P_M_lay (if a1 = 0 then w32 (-u2_87) else u2_87) h13 (fun r16 h17 =>
P_M_endRow h17 (fun r18 h19 =>
Q 0 h19)))) n4 0 0 h
theorem W_M_layParity (a1 : Int) (h : zH) (Q : Int → zH → Prop) (hP : P_M_layParity a1 h Q) : zC true zy_X3_layParity 3 [zR 101, zI a1] h (zQ0 Q) := by
  unfold P_M_layParity at hP
  refine zC.of (by decide) (Nat.le_of_ble_eq_true rfl) ?_
  show zV true zy_X3_layParity 3 0 [zR 101, zI a1, zU, zU, zU, zU] [] h (zQ0 Q)
  refine zV_iconst dX3_layParity_0 ⟨by decide, by decide⟩ ?_
  refine zV_istore_n (ls' := [zR 101, zI a1, zI 0, zU, zU, zU]) dX3_layParity_1 rfl (Nat.le_of_ble_eq_true rfl) rfl rfl ?_
  refine zV_iconst dX3_layParity_2 ⟨by decide, by decide⟩ ?_
  refine zV_istore_n (ls' := [zR 101, zI a1, zI 0, zI 0, zU, zU]) dX3_layParity_3 rfl (Nat.le_of_ble_eq_true rfl) rfl rfl ?_
  obtain ⟨n4, hP⟩ := hP
  refine W_M_layParity_L4 _ _ _ (fun u2_87 h13 hP => ?_) n4 _ _ _ hP
  refine zV_aload_n dX3_layParity_87 rfl ?_
  refine zV_gf dX3_layParity_88 sa_101 (by decide) fl_X3_292_3 rfl (ki := 42) rfl ?_
  refine zV_if_le (tgt := 115) dX3_layParity_91 (by decide) (fun c => ?_) (fun c => ?_)
  · have hP := zif_p hP c
    refine zV_iload_n dX3_layParity_115 rfl ?_
    refine zV_if_eq (tgt := 123) dX3_layParity_116 (by decide) (fun c => ?_) (fun c => ?_)
    · have hP := zif_p hP c
      exact zV_return dX3_layParity_123 rfl ⟨rfl, hP⟩
    · have hP := zif_n hP c
      refine zV_aload_n dX3_layParity_119 rfl ?_
      refine zV_cVv (As := []) (rest := []) dX3_layParity_120 sa_101 (W_M_endRow _ _ hP) mi_X3_endRow ml_X3_286 (by decide) (Nat.le_of_ble_eq_true rfl) rfl rfl (fun r14 h15 hP => ?_)
      exact zV_return dX3_layParity_123 rfl ⟨rfl, hP⟩
  · have hP := zif_n hP c
    refine zV_aload_n dX3_layParity_94 rfl ?_
    refine zV_iload_n dX3_layParity_95 rfl ?_
    have K : zV true zy_X3_layParity 3 105 [zR 101, zU, zU, zU, zU, zU] [zI (if a1 = 0 then w32 (-u2_87) else u2_87), zR 101] h13 (zQ0 Q) := by
      refine zV_cVv (As := [zI (if a1 = 0 then w32 (-u2_87) else u2_87)]) (rest := []) dX3_layParity_105 sa_101 (W_M_lay _ _ _ hP) mi_X3_lay ml_X3_282 (by decide) (Nat.le_of_ble_eq_true rfl) rfl rfl (fun r16 h17 hP => ?_)
      refine zV_aload_n dX3_layParity_108 rfl ?_
      refine zV_cVv (As := []) (rest := []) dX3_layParity_109 sa_101 (W_M_endRow _ _ hP) mi_X3_endRow ml_X3_286 (by decide) (Nat.le_of_ble_eq_true rfl) rfl rfl (fun r18 h19 hP => ?_)
      refine zV_goto (tgt := 123) dX3_layParity_112 (by decide) ?_
      exact zV_return dX3_layParity_123 rfl ⟨rfl, hP⟩
    clear hP
    refine zV_if_eq (tgt := 103) dX3_layParity_96 (by decide) (fun c => ?_) (fun c => ?_)
    · try simp only [if_pos c] at K
      refine zV_iload_n dX3_layParity_103 rfl ?_
      refine zV_ineg dX3_layParity_104 ?_
      refine zV_mask [true, false, false, false, false, false] rfl ?_
      exact K
    · try simp only [if_neg c] at K
      refine zV_iload_n dX3_layParity_99 rfl ?_
      refine zV_goto (tgt := 105) dX3_layParity_100 (by decide) ?_
      refine zV_mask [true, false, false, false, false, false] rfl ?_
      exact K
def P_M_parity (a1 : Int) (a2 : Int) (h : zH) (Q : Int → zH → Prop) : Prop :=
P_M_isRow a1 h (fun r1 h2 =>
if r1 = 0 then
(P_M_fail (-1001) h2 (fun r13 h14 =>
Q r13 h14))
else
(P_M_takeItems a1 h2 (fun r3 h4 =>
if 0 ≤ r3 then
(P_M_beginLaying h4 (fun r5 h6 =>
P_M_layParity a2 h6 (fun r7 h8 =>
P_M_keepRule 3 0 a2 h8 (fun r9 h10 =>
Q r9 h10))))
else
(P_M_fail r3 h4 (fun r11 h12 =>
Q r11 h12)))))
theorem W_M_parity (a1 : Int) (a2 : Int) (h : zH) (Q : Int → zH → Prop) (hP : P_M_parity a1 a2 h Q) : zC true zy_X3_parity 4 [zR 101, zI a1, zI a2] h (zQ0 Q) := by
  unfold P_M_parity at hP
  refine zC.of (by decide) (Nat.le_of_ble_eq_true rfl) ?_
  show zV true zy_X3_parity 4 0 [zR 101, zI a1, zI a2, zU] [] h (zQ0 Q)
  refine zV_iload_n dX3_parity_0 rfl ?_
  refine zV_cSk (As := [zI a1]) (rest := []) dX3_parity_1 (W_M_isRow _ _ _ hP) mi_X3_isRow ml_X3_253 (by decide) (Nat.le_of_ble_eq_true rfl) rfl rfl rfl (fun r1 h2 hP => ?_)
  refine zV_if_ne (tgt := 15) dX3_parity_4 (by decide) (fun c => ?_) (fun c => ?_)
  · have hP := zif_n hP c
    refine zV_aload_n dX3_parity_15 rfl ?_
    refine zV_iload_n dX3_parity_16 rfl ?_
    refine zV_cVk (As := [zI a1]) (rest := []) dX3_parity_17 sa_101 (W_M_takeItems _ _ _ hP) mi_X3_takeItems ml_X3_310 (by decide) (Nat.le_of_ble_eq_true rfl) rfl rfl rfl (fun r3 h4 hP => ?_)
    refine zV_istore_n (ls' := [zR 101, zI a1, zI a2, zI r3]) dX3_parity_20 rfl (Nat.le_of_ble_eq_true rfl) rfl rfl ?_
    refine zV_iload_n dX3_parity_21 rfl ?_
    refine zV_if_ge (tgt := 31) dX3_parity_22 (by decide) (fun c => ?_) (fun c => ?_)
    · have hP := zif_p hP c
      refine zV_aload_n dX3_parity_31 rfl ?_
      refine zV_cVv (As := []) (rest := []) dX3_parity_32 sa_101 (W_M_beginLaying _ _ hP) mi_X3_beginLaying ml_X3_313 (by decide) (Nat.le_of_ble_eq_true rfl) rfl rfl (fun r5 h6 hP => ?_)
      refine zV_aload_n dX3_parity_35 rfl ?_
      refine zV_iload_n dX3_parity_36 rfl ?_
      refine zV_cVv (As := [zI a2]) (rest := []) dX3_parity_37 sa_101 (W_M_layParity _ _ _ hP) mi_X3_layParity ml_X3_327 (by decide) (Nat.le_of_ble_eq_true rfl) rfl rfl (fun r7 h8 hP => ?_)
      refine zV_aload_n dX3_parity_40 rfl ?_
      refine zV_iconst dX3_parity_41 ⟨by decide, by decide⟩ ?_
      refine zV_iconst dX3_parity_42 ⟨by decide, by decide⟩ ?_
      refine zV_iload_n dX3_parity_43 rfl ?_
      refine zV_cVk (As := [zI 3, zI 0, zI a2]) (rest := []) dX3_parity_44 sa_101 (W_M_keepRule _ _ _ _ _ hP) mi_X3_keepRule ml_X3_316 (by decide) (Nat.le_of_ble_eq_true rfl) rfl rfl rfl (fun r9 h10 hP => ?_)
      exact zV_ireturn dX3_parity_47 rfl rfl rfl ⟨rfl, hP⟩
    · have hP := zif_n hP c
      refine zV_aload_n dX3_parity_25 rfl ?_
      refine zV_iload_n dX3_parity_26 rfl ?_
      refine zV_cVk (As := [zI r3]) (rest := []) dX3_parity_27 sa_101 (W_M_fail _ _ _ hP) mi_X3_fail ml_X3_242 (by decide) (Nat.le_of_ble_eq_true rfl) rfl rfl rfl (fun r11 h12 hP => ?_)
      exact zV_ireturn dX3_parity_30 rfl rfl rfl ⟨rfl, hP⟩
  · have hP := zif_p hP c
    refine zV_aload_n dX3_parity_7 rfl ?_
    refine zV_sipush dX3_parity_8 ⟨by decide, by decide, by decide⟩ ?_
    refine zV_cVk (As := [zI (-1001)]) (rest := []) dX3_parity_11 sa_101 (W_M_fail _ _ _ hP) mi_X3_fail ml_X3_242 (by decide) (Nat.le_of_ble_eq_true rfl) rfl rfl rfl (fun r13 h14 hP => ?_)
    exact zV_ireturn dX3_parity_14 rfl rfl rfl ⟨rfl, hP⟩
def P_M_byteAt (a1 : Int) (h : zH) (Q : Int → zH → Prop) : Prop :=
(if zd h 101 8 ≤ a1 then True else (0 ≤ a1 ∧ a1 < 60) ∧ True) ∧
Q (if zd h 101 8 ≤ a1 then (-1) else zd h 106 a1) h
theorem W_M_byteAt (a1 : Int) (h : zH) (Q : Int → zH → Prop) (hP : P_M_byteAt a1 h Q) : zC true zy_X3_byteAt 1 [zR 101, zI a1] h (zQ0 Q) := by
  unfold P_M_byteAt at hP
  refine zC.of (by decide) (Nat.le_of_ble_eq_true rfl) ?_
  show zV true zy_X3_byteAt 1 0 [zR 101, zI a1] [] h (zQ0 Q)
  refine zV_iload_n dX3_byteAt_0 rfl ?_
  refine zV_aload_n dX3_byteAt_1 rfl ?_
  refine zV_gf dX3_byteAt_2 sa_101 (by decide) fl_X3_259_3 rfl (ki := 8) rfl ?_
  obtain ⟨hO, hP⟩ := hP
  have K : zV true zy_X3_byteAt 1 18 [zU, zU] [zI (if zd h 101 8 ≤ a1 then (-1) else zd h 106 a1)] h (zQ0 Q) := by
    exact zV_ireturn dX3_byteAt_18 rfl rfl rfl ⟨rfl, hP⟩
  clear hP
  refine zV_icmp_ge (tgt := 17) dX3_byteAt_5 (by decide) (fun c => ?_) (fun c => ?_)
  · try simp only [if_pos c] at K
    have hO := zif_p hO c
    refine zV_iconst dX3_byteAt_17 ⟨by decide, by decide⟩ ?_
    refine zV_mask [false, false] rfl ?_
    exact K
  · try simp only [if_neg c] at K
    have hO := zif_n hO c
    refine zV_aload_n dX3_byteAt_8 rfl ?_
    refine zV_sg dX3_byteAt_9 fm_101_7 sa_101 (by decide) fl_X3_23_3 rfl ?_
    refine zV_iload_n dX3_byteAt_12 rfl ?_
    obtain ⟨ob, hO⟩ := hO
    refine zV_ia dX3_byteAt_13 sa_106 ob ?_
    refine zV_goto (tgt := 18) dX3_byteAt_14 (by decide) ?_
    refine zV_mask [false, false] rfl ?_
    exact K
def P_M_isDigit (a1 : Int) (h : zH) (Q : Int → zH → Prop) : Prop :=
Q (if a1 < 48 then 0 else if 57 < a1 then 0 else 1) h
theorem W_M_isDigit (a1 : Int) (h : zH) (Q : Int → zH → Prop) (hP : P_M_isDigit a1 h Q) : zC true zy_X3_isDigit 1 [zI a1] h (zQ0 Q) := by
  unfold P_M_isDigit at hP
  refine zC.of (by decide) (Nat.le_of_ble_eq_true rfl) ?_
  show zV true zy_X3_isDigit 1 0 [zI a1] [] h (zQ0 Q)
  refine zV_iload_n dX3_isDigit_0 rfl ?_
  refine zV_bipush dX3_isDigit_1 ⟨by decide, by decide, by decide⟩ ?_
  have K : zV true zy_X3_isDigit 1 17 [zU] [zI (if a1 < 48 then 0 else if 57 < a1 then 0 else 1)] h (zQ0 Q) := by
    exact zV_ireturn dX3_isDigit_17 rfl rfl (z01 (z01_if z0 (z01_if z0 z1))) ⟨rfl, hP⟩
  clear hP
  refine zV_icmp_lt (tgt := 16) dX3_isDigit_3 (by decide) (fun c => ?_) (fun c => ?_)
  · try simp only [if_pos c] at K
    refine zV_iconst dX3_isDigit_16 ⟨by decide, by decide⟩ ?_
    refine zV_mask [false] rfl ?_
    exact K
  · try simp only [if_neg c] at K
    refine zV_iload_n dX3_isDigit_6 rfl ?_
    refine zV_bipush dX3_isDigit_7 ⟨by decide, by decide, by decide⟩ ?_
    refine zV_icmp_gt (tgt := 16) dX3_isDigit_9 (by decide) (fun c => ?_) (fun c => ?_)
    · try simp only [if_pos c] at K
      refine zV_iconst dX3_isDigit_16 ⟨by decide, by decide⟩ ?_
      refine zV_mask [false] rfl ?_
      exact K
    · try simp only [if_neg c] at K
      refine zV_iconst dX3_isDigit_12 ⟨by decide, by decide⟩ ?_
      refine zV_goto (tgt := 17) dX3_isDigit_13 (by decide) ?_
      refine zV_mask [false] rfl ?_
      exact K
def P_M_beginPart_J255 (y1 : Int) (h : zH) (Q : Int → zH → Prop) : Prop :=
∀ h3 : zH, h3 = zw h 101 51 (w32 ((zd h 101 51) + 1)) →
P_M_byteAt (zd h3 101 51) h3 (fun r4 h5 =>
if r4 = 40 then
(if zd h5 101 50 = 8 then
(Q 0 h5)
else
(∀ h6 : zH, h6 = zw h5 101 51 (w32 ((zd h5 101 51) + 1)) →
∀ h7 : zH, h7 = zw h6 101 50 (w32 ((zd h6 101 50) + 1)) →
(0 ≤ zd h7 101 49 ∧ zd h7 101 49 < 60) ∧
∀ h8 : zH, h8 = zw h7 131 (zd h7 101 49) y1 →
(0 ≤ zd h8 101 49 ∧ zd h8 101 49 < 60) ∧
∀ h9 : zH, h9 = zw h8 132 (zd h8 101 49) 0 →
∀ h10 : zH, h10 = zw h9 101 49 (w32 ((zd h9 101 49) + 1)) →
Q 1 h10))
else
(Q 0 h5))
theorem W_M_beginPart_J255 (y1 : Int) (h : zH) (Q : Int → zH → Prop) (hP : P_M_beginPart_J255 y1 h Q) : zV true zy_X3_beginPart 2 255 [zR 101, zI y1, zU, zU] [] h (zQ0 Q) := by
  unfold P_M_beginPart_J255 at hP
  refine zV_aload_n dX3_beginPart_255 rfl ?_
  refine zV_dup dX3_beginPart_256 (Nat.ne_of_beq_eq_false rfl) ?_
  refine zV_gf dX3_beginPart_257 sa_101 (by decide) fl_X3_331_3 rfl (ki := 51) rfl ?_
  refine zV_iconst dX3_beginPart_260 ⟨by decide, by decide⟩ ?_
  refine zV_iadd dX3_beginPart_261 ?_
  refine zV_pf dX3_beginPart_262 sa_101 (by decide) fl_X3_331_3 rfl rfl trivial (ki := 51) rfl (fun h3 e_h3 => ?_)
  have hP := hP h3 e_h3
  refine zV_aload_n dX3_beginPart_265 rfl ?_
  refine zV_aload_n dX3_beginPart_266 rfl ?_
  refine zV_gf dX3_beginPart_267 sa_101 (by decide) fl_X3_331_3 rfl (ki := 51) rfl ?_
  refine zV_cVk (As := [zI (zd h3 101 51)]) (rest := []) dX3_beginPart_270 sa_101 (W_M_byteAt _ _ _ hP) mi_X3_byteAt ml_X3_334 (by decide) (Nat.le_of_ble_eq_true rfl) rfl rfl rfl (fun r4 h5 hP => ?_)
  refine zV_bipush dX3_beginPart_273 ⟨by decide, by decide, by decide⟩ ?_
  refine zV_icmp_ne (tgt := 287) dX3_beginPart_275 (by decide) (fun c => ?_) (fun c => ?_)
  · have hP := zif_n hP c
    refine zV_iconst dX3_beginPart_287 ⟨by decide, by decide⟩ ?_
    exact zV_ireturn dX3_beginPart_288 rfl rfl (z01 z0) ⟨rfl, hP⟩
  · have hP := zif_p hP c
    refine zV_aload_n dX3_beginPart_278 rfl ?_
    refine zV_gf dX3_beginPart_279 sa_101 (by decide) fl_X3_349_3 rfl (ki := 50) rfl ?_
    refine zV_bipush dX3_beginPart_282 ⟨by decide, by decide, by decide⟩ ?_
    refine zV_icmp_ne (tgt := 289) dX3_beginPart_284 (by decide) (fun c => ?_) (fun c => ?_)
    · have hP := zif_n hP c
      refine zV_aload_n dX3_beginPart_289 rfl ?_
      refine zV_dup dX3_beginPart_290 (Nat.ne_of_beq_eq_false rfl) ?_
      refine zV_gf dX3_beginPart_291 sa_101 (by decide) fl_X3_331_3 rfl (ki := 51) rfl ?_
      refine zV_iconst dX3_beginPart_294 ⟨by decide, by decide⟩ ?_
      refine zV_iadd dX3_beginPart_295 ?_
      refine zV_pf dX3_beginPart_296 sa_101 (by decide) fl_X3_331_3 rfl rfl trivial (ki := 51) rfl (fun h6 e_h6 => ?_)
      have hP := hP h6 e_h6
      refine zV_aload_n dX3_beginPart_299 rfl ?_
      refine zV_dup dX3_beginPart_300 (Nat.ne_of_beq_eq_false rfl) ?_
      refine zV_gf dX3_beginPart_301 sa_101 (by decide) fl_X3_349_3 rfl (ki := 50) rfl ?_
      refine zV_iconst dX3_beginPart_304 ⟨by decide, by decide⟩ ?_
      refine zV_iadd dX3_beginPart_305 ?_
      refine zV_pf dX3_beginPart_306 sa_101 (by decide) fl_X3_349_3 rfl rfl trivial (ki := 50) rfl (fun h7 e_h7 => ?_)
      have hP := hP h7 e_h7
      refine zV_aload_n dX3_beginPart_309 rfl ?_
      refine zV_sg dX3_beginPart_310 fm_101_47 sa_101 (by decide) fl_X3_98_3 rfl ?_
      refine zV_aload_n dX3_beginPart_313 rfl ?_
      refine zV_gf dX3_beginPart_314 sa_101 (by decide) fl_X3_337_3 rfl (ki := 49) rfl ?_
      refine zV_iload_n dX3_beginPart_317 rfl ?_
      obtain ⟨ob, hP⟩ := hP
      refine zV_ias dX3_beginPart_318 sa_131 ob (fun h8 e_h8 => ?_)
      have hP := hP h8 e_h8
      refine zV_aload_n dX3_beginPart_319 rfl ?_
      refine zV_sg dX3_beginPart_320 fm_101_48 sa_101 (by decide) fl_X3_101_3 rfl ?_
      refine zV_aload_n dX3_beginPart_323 rfl ?_
      refine zV_gf dX3_beginPart_324 sa_101 (by decide) fl_X3_337_3 rfl (ki := 49) rfl ?_
      refine zV_iconst dX3_beginPart_327 ⟨by decide, by decide⟩ ?_
      obtain ⟨ob, hP⟩ := hP
      refine zV_ias dX3_beginPart_328 sa_132 ob (fun h9 e_h9 => ?_)
      have hP := hP h9 e_h9
      refine zV_aload_n dX3_beginPart_329 rfl ?_
      refine zV_dup dX3_beginPart_330 (Nat.ne_of_beq_eq_false rfl) ?_
      refine zV_gf dX3_beginPart_331 sa_101 (by decide) fl_X3_337_3 rfl (ki := 49) rfl ?_
      refine zV_iconst dX3_beginPart_334 ⟨by decide, by decide⟩ ?_
      refine zV_iadd dX3_beginPart_335 ?_
      refine zV_pf dX3_beginPart_336 sa_101 (by decide) fl_X3_337_3 rfl rfl trivial (ki := 49) rfl (fun h10 e_h10 => ?_)
      have hP := hP h10 e_h10
      refine zV_iconst dX3_beginPart_339 ⟨by decide, by decide⟩ ?_
      exact zV_ireturn dX3_beginPart_340 rfl rfl (z01 z1) ⟨rfl, hP⟩
    · have hP := zif_p hP c
      refine zV_iconst dX3_beginPart_287 ⟨by decide, by decide⟩ ?_
      exact zV_ireturn dX3_beginPart_288 rfl rfl (z01 z0) ⟨rfl, hP⟩
def P_M_beginPart_L68 (Q : Int → zH → Prop) (k120 : Int → Int → zH → Prop) : Nat → Int → Int → zH → Prop
| 0, _, _, _ => False
| n68 + 1, y2, y3, h =>
if 3 ≤ y3 then
(k120 y2 y3 h)
else
(P_M_byteAt (zd h 101 51) h (fun r15 h16 =>
P_M_isDigit r15 h16 (fun r17 h18 =>
if r17 = 0 then
(k120 y2 y3 h18)
else
(P_M_byteAt (zd h18 101 51) h18 (fun r19 h20 =>
∀ x2_21 : Int, x2_21 = (w32 ((w32 ((w32 (10 * y2)) + r19)) - 48)) →
∀ x3_22 : Int, x3_22 = w32 (y3 + 1) →
∀ h23 : zH, h23 = zw h20 101 51 (w32 ((zd h20 101 51) + 1)) →
P_M_beginPart_L68 Q k120 n68 x2_21 x3_22 h23)))))
theorem W_M_beginPart_L68 (Q : Int → zH → Prop) (k120 : Int → Int → zH → Prop) (H120 : ∀ (v2 v3 : Int) (h' : zH), k120 v2 v3 h' → zV true zy_X3_beginPart 2 120 [zR 101, zU, zI v2, zI v3] [] h' (zQ0 Q)) : ∀ (n68 : Nat) (y2 y3 : Int) (h : zH), P_M_beginPart_L68 Q k120 n68 y2 y3 h → zV true zy_X3_beginPart 2 68 [zR 101, zU, zI y2, zI y3] [] h (zQ0 Q) := by
  intro n68
  induction n68 with
  | zero => intro y2 y3 h hP; exact absurd hP id
  | succ n68 ih =>
    intro y2 y3 h hP
    unfold P_M_beginPart_L68 at hP
    refine zV_iload_n dX3_beginPart_68 rfl ?_
    refine zV_iconst dX3_beginPart_69 ⟨by decide, by decide⟩ ?_
    refine zV_icmp_ge (tgt := 120) dX3_beginPart_70 (by decide) (fun c => ?_) (fun c => ?_)
    · have hP := zif_p hP c
      exact H120 _ _ _ hP
    · have hP := zif_n hP c
      refine zV_aload_n dX3_beginPart_73 rfl ?_
      refine zV_aload_n dX3_beginPart_74 rfl ?_
      refine zV_gf dX3_beginPart_75 sa_101 (by decide) fl_X3_331_3 rfl (ki := 51) rfl ?_
      refine zV_cVk (As := [zI (zd h 101 51)]) (rest := []) dX3_beginPart_78 sa_101 (W_M_byteAt _ _ _ hP) mi_X3_byteAt ml_X3_334 (by decide) (Nat.le_of_ble_eq_true rfl) rfl rfl rfl (fun r15 h16 hP => ?_)
      refine zV_cSk (As := [zI r15]) (rest := []) dX3_beginPart_81 (W_M_isDigit _ _ _ hP) mi_X3_isDigit ml_X3_340 (by decide) (Nat.le_of_ble_eq_true rfl) rfl rfl rfl (fun r17 h18 hP => ?_)
      refine zV_if_eq (tgt := 120) dX3_beginPart_84 (by decide) (fun c => ?_) (fun c => ?_)
      · have hP := zif_p hP c
        exact H120 _ _ _ hP
      · have hP := zif_n hP c
        refine zV_bipush dX3_beginPart_87 ⟨by decide, by decide, by decide⟩ ?_
        refine zV_iload_n dX3_beginPart_89 rfl ?_
        refine zV_imul dX3_beginPart_90 ?_
        refine zV_aload_n dX3_beginPart_91 rfl ?_
        refine zV_aload_n dX3_beginPart_92 rfl ?_
        refine zV_gf dX3_beginPart_93 sa_101 (by decide) fl_X3_331_3 rfl (ki := 51) rfl ?_
        refine zV_cVk (As := [zI (zd h18 101 51)]) (rest := [zI (w32 (10 * y2))]) dX3_beginPart_96 sa_101 (W_M_byteAt _ _ _ hP) mi_X3_byteAt ml_X3_334 (by decide) (Nat.le_of_ble_eq_true rfl) rfl rfl rfl (fun r19 h20 hP => ?_)
        refine zV_iadd dX3_beginPart_99 ?_
        refine zV_bipush dX3_beginPart_100 ⟨by decide, by decide, by decide⟩ ?_
        refine zV_isub dX3_beginPart_102 ?_
        refine zV_top (fun x2_21 e_x2_21 => ?_)
        have hP := hP x2_21 e_x2_21
        refine zV_istore_n (ls' := [zR 101, zU, zI x2_21, zI y3]) dX3_beginPart_103 rfl (Nat.le_of_ble_eq_true rfl) rfl rfl ?_
        refine zV_inc (ls' := fun z => [zR 101, zU, zI x2_21, zI z]) dX3_beginPart_104 (Nat.le_of_ble_eq_true rfl) rfl rfl (fun _ => rfl) (fun x3_22 e_x3_22 => ?_)
        have hP := hP x3_22 e_x3_22
        refine zV_aload_n dX3_beginPart_107 rfl ?_
        refine zV_dup dX3_beginPart_108 (Nat.ne_of_beq_eq_false rfl) ?_
        refine zV_gf dX3_beginPart_109 sa_101 (by decide) fl_X3_331_3 rfl (ki := 51) rfl ?_
        refine zV_iconst dX3_beginPart_112 ⟨by decide, by decide⟩ ?_
        refine zV_iadd dX3_beginPart_113 ?_
        refine zV_pf dX3_beginPart_114 sa_101 (by decide) fl_X3_331_3 rfl rfl trivial (ki := 51) rfl (fun h23 e_h23 => ?_)
        have hP := hP h23 e_h23
        refine zV_goto (tgt := 68) dX3_beginPart_117 (by decide) ?_
        exact ih _ _ _ hP
def P_M_beginPart_J120 (y2 : Int) (y3 : Int) (h : zH) (Q : Int → zH → Prop) : Prop :=
if y3 = 0 then
(Q 0 h)
else
(P_M_byteAt (zd h 101 51) h (fun r25 h26 =>
P_M_isDigit r25 h26 (fun r27 h28 =>
if r27 = 0 then
((0 ≤ zd h28 101 42 ∧ zd h28 101 42 < 40) ∧
∀ h29 : zH, h29 = zw h28 127 (zd h28 101 42) y2 →
∀ h30 : zH, h30 = zw h29 101 42 (w32 ((zd h29 101 42) + 1)) →
(0 ≤ zd h30 101 46 ∧ zd h30 101 46 < 60) ∧
∀ h31 : zH, h31 = zw h30 130 (zd h30 101 46) (w32 (-(zd h30 101 42))) →
∀ h32 : zH, h32 = zw h31 101 46 (w32 ((zd h31 101 46) + 1)) →
∀ h33 : zH, h33 = zw h32 101 52 0 →
Q 1 h33)
else
(Q 0 h28))))
theorem W_M_beginPart_J120 (y2 : Int) (y3 : Int) (h : zH) (Q : Int → zH → Prop) (hP : P_M_beginPart_J120 y2 y3 h Q) : zV true zy_X3_beginPart 2 120 [zR 101, zU, zI y2, zI y3] [] h (zQ0 Q) := by
  unfold P_M_beginPart_J120 at hP
  refine zV_iload_n dX3_beginPart_120 rfl ?_
  refine zV_if_eq (tgt := 138) dX3_beginPart_121 (by decide) (fun c => ?_) (fun c => ?_)
  · have hP := zif_p hP c
    refine zV_iconst dX3_beginPart_138 ⟨by decide, by decide⟩ ?_
    exact zV_ireturn dX3_beginPart_139 rfl rfl (z01 z0) ⟨rfl, hP⟩
  · have hP := zif_n hP c
    refine zV_aload_n dX3_beginPart_124 rfl ?_
    refine zV_aload_n dX3_beginPart_125 rfl ?_
    refine zV_gf dX3_beginPart_126 sa_101 (by decide) fl_X3_331_3 rfl (ki := 51) rfl ?_
    refine zV_cVk (As := [zI (zd h 101 51)]) (rest := []) dX3_beginPart_129 sa_101 (W_M_byteAt _ _ _ hP) mi_X3_byteAt ml_X3_334 (by decide) (Nat.le_of_ble_eq_true rfl) rfl rfl rfl (fun r25 h26 hP => ?_)
    refine zV_cSk (As := [zI r25]) (rest := []) dX3_beginPart_132 (W_M_isDigit _ _ _ hP) mi_X3_isDigit ml_X3_340 (by decide) (Nat.le_of_ble_eq_true rfl) rfl rfl rfl (fun r27 h28 hP => ?_)
    refine zV_if_eq (tgt := 140) dX3_beginPart_135 (by decide) (fun c => ?_) (fun c => ?_)
    · have hP := zif_p hP c
      refine zV_aload_n dX3_beginPart_140 rfl ?_
      refine zV_sg dX3_beginPart_141 fm_101_41 sa_101 (by decide) fl_X3_86_3 rfl ?_
      refine zV_aload_n dX3_beginPart_144 rfl ?_
      refine zV_gf dX3_beginPart_145 sa_101 (by decide) fl_X3_292_3 rfl (ki := 42) rfl ?_
      refine zV_iload_n dX3_beginPart_148 rfl ?_
      obtain ⟨ob, hP⟩ := hP
      refine zV_ias dX3_beginPart_149 sa_127 ob (fun h29 e_h29 => ?_)
      have hP := hP h29 e_h29
      refine zV_aload_n dX3_beginPart_150 rfl ?_
      refine zV_dup dX3_beginPart_151 (Nat.ne_of_beq_eq_false rfl) ?_
      refine zV_gf dX3_beginPart_152 sa_101 (by decide) fl_X3_292_3 rfl (ki := 42) rfl ?_
      refine zV_iconst dX3_beginPart_155 ⟨by decide, by decide⟩ ?_
      refine zV_iadd dX3_beginPart_156 ?_
      refine zV_pf dX3_beginPart_157 sa_101 (by decide) fl_X3_292_3 rfl rfl trivial (ki := 42) rfl (fun h30 e_h30 => ?_)
      have hP := hP h30 e_h30
      refine zV_aload_n dX3_beginPart_160 rfl ?_
      refine zV_sg dX3_beginPart_161 fm_101_45 sa_101 (by decide) fl_X3_95_3 rfl ?_
      refine zV_aload_n dX3_beginPart_164 rfl ?_
      refine zV_gf dX3_beginPart_165 sa_101 (by decide) fl_X3_343_3 rfl (ki := 46) rfl ?_
      refine zV_aload_n dX3_beginPart_168 rfl ?_
      refine zV_gf dX3_beginPart_169 sa_101 (by decide) fl_X3_292_3 rfl (ki := 42) rfl ?_
      refine zV_ineg dX3_beginPart_172 ?_
      obtain ⟨ob, hP⟩ := hP
      refine zV_ias dX3_beginPart_173 sa_130 ob (fun h31 e_h31 => ?_)
      have hP := hP h31 e_h31
      refine zV_aload_n dX3_beginPart_174 rfl ?_
      refine zV_dup dX3_beginPart_175 (Nat.ne_of_beq_eq_false rfl) ?_
      refine zV_gf dX3_beginPart_176 sa_101 (by decide) fl_X3_343_3 rfl (ki := 46) rfl ?_
      refine zV_iconst dX3_beginPart_179 ⟨by decide, by decide⟩ ?_
      refine zV_iadd dX3_beginPart_180 ?_
      refine zV_pf dX3_beginPart_181 sa_101 (by decide) fl_X3_343_3 rfl rfl trivial (ki := 46) rfl (fun h32 e_h32 => ?_)
      have hP := hP h32 e_h32
      refine zV_aload_n dX3_beginPart_184 rfl ?_
      refine zV_iconst dX3_beginPart_185 ⟨by decide, by decide⟩ ?_
      refine zV_pf dX3_beginPart_186 sa_101 (by decide) fl_X3_346_3 rfl rfl z0 (ki := 52) rfl (fun h33 e_h33 => ?_)
      have hP := hP h33 e_h33
      refine zV_iconst dX3_beginPart_189 ⟨by decide, by decide⟩ ?_
      exact zV_ireturn dX3_beginPart_190 rfl rfl (z01 z1) ⟨rfl, hP⟩
    · have hP := zif_n hP c
      refine zV_iconst dX3_beginPart_138 ⟨by decide, by decide⟩ ?_
      exact zV_ireturn dX3_beginPart_139 rfl rfl (z01 z0) ⟨rfl, hP⟩
def P_M_beginPart_J48 (y1 : Int) (h : zH) (Q : Int → zH → Prop) : Prop :=
if y1 = 120 then
(∀ h14 : zH, h14 = zw h 101 51 (w32 ((zd h 101 51) + 1)) →
∃ n68, P_M_beginPart_L68 Q (fun u2_120 u3_120 h24 =>
P_M_beginPart_J120 u2_120 u3_120 h24 Q) n68 0 0 h14)
else
(if y1 = 33 then
((0 ≤ zd h 101 49 ∧ zd h 101 49 < 60) ∧
∀ h11 : zH, h11 = zw h 131 (zd h 101 49) 0 →
∀ h12 : zH, h12 = zw h11 101 49 (w32 ((zd h11 101 49) + 1)) →
∀ h13 : zH, h13 = zw h12 101 51 (w32 ((zd h12 101 51) + 1)) →
Q 1 h13)
else
(if y1 = 38 then
(P_M_beginPart_J255 y1 h Q)
else
(if y1 = 124 then
(P_M_beginPart_J255 y1 h Q)
else
(if y1 = 106 then
(P_M_beginPart_J255 y1 h Q)
else
(if y1 = 62 then
(P_M_beginPart_J255 y1 h Q)
else
(Q 0 h))))))
theorem W_M_beginPart_J48 (y1 : Int) (h : zH) (Q : Int → zH → Prop) (hP : P_M_beginPart_J48 y1 h Q) : zV true zy_X3_beginPart 2 48 [zR 101, zI y1, zU, zU] [] h (zQ0 Q) := by
  unfold P_M_beginPart_J48 at hP
  refine zV_iload_n dX3_beginPart_48 rfl ?_
  refine zV_bipush dX3_beginPart_49 ⟨by decide, by decide, by decide⟩ ?_
  refine zV_icmp_ne (tgt := 191) dX3_beginPart_51 (by decide) (fun c => ?_) (fun c => ?_)
  · have hP := zif_n hP c
    refine zV_iload_n dX3_beginPart_191 rfl ?_
    refine zV_bipush dX3_beginPart_192 ⟨by decide, by decide, by decide⟩ ?_
    refine zV_icmp_ne (tgt := 229) dX3_beginPart_194 (by decide) (fun c => ?_) (fun c => ?_)
    · have hP := zif_n hP c
      refine zV_iload_n dX3_beginPart_229 rfl ?_
      refine zV_bipush dX3_beginPart_230 ⟨by decide, by decide, by decide⟩ ?_
      refine zV_icmp_eq (tgt := 255) dX3_beginPart_232 (by decide) (fun c => ?_) (fun c => ?_)
      · have hP := zif_p hP c
        exact W_M_beginPart_J255 _ _ _ hP
      · have hP := zif_n hP c
        refine zV_iload_n dX3_beginPart_235 rfl ?_
        refine zV_bipush dX3_beginPart_236 ⟨by decide, by decide, by decide⟩ ?_
        refine zV_icmp_eq (tgt := 255) dX3_beginPart_238 (by decide) (fun c => ?_) (fun c => ?_)
        · have hP := zif_p hP c
          exact W_M_beginPart_J255 _ _ _ hP
        · have hP := zif_n hP c
          refine zV_iload_n dX3_beginPart_241 rfl ?_
          refine zV_bipush dX3_beginPart_242 ⟨by decide, by decide, by decide⟩ ?_
          refine zV_icmp_eq (tgt := 255) dX3_beginPart_244 (by decide) (fun c => ?_) (fun c => ?_)
          · have hP := zif_p hP c
            exact W_M_beginPart_J255 _ _ _ hP
          · have hP := zif_n hP c
            refine zV_iload_n dX3_beginPart_247 rfl ?_
            refine zV_bipush dX3_beginPart_248 ⟨by decide, by decide, by decide⟩ ?_
            refine zV_icmp_eq (tgt := 255) dX3_beginPart_250 (by decide) (fun c => ?_) (fun c => ?_)
            · have hP := zif_p hP c
              exact W_M_beginPart_J255 _ _ _ hP
            · have hP := zif_n hP c
              refine zV_iconst dX3_beginPart_253 ⟨by decide, by decide⟩ ?_
              exact zV_ireturn dX3_beginPart_254 rfl rfl (z01 z0) ⟨rfl, hP⟩
    · have hP := zif_p hP c
      refine zV_aload_n dX3_beginPart_197 rfl ?_
      refine zV_sg dX3_beginPart_198 fm_101_47 sa_101 (by decide) fl_X3_98_3 rfl ?_
      refine zV_aload_n dX3_beginPart_201 rfl ?_
      refine zV_gf dX3_beginPart_202 sa_101 (by decide) fl_X3_337_3 rfl (ki := 49) rfl ?_
      refine zV_iconst dX3_beginPart_205 ⟨by decide, by decide⟩ ?_
      obtain ⟨ob, hP⟩ := hP
      refine zV_ias dX3_beginPart_206 sa_131 ob (fun h11 e_h11 => ?_)
      have hP := hP h11 e_h11
      refine zV_aload_n dX3_beginPart_207 rfl ?_
      refine zV_dup dX3_beginPart_208 (Nat.ne_of_beq_eq_false rfl) ?_
      refine zV_gf dX3_beginPart_209 sa_101 (by decide) fl_X3_337_3 rfl (ki := 49) rfl ?_
      refine zV_iconst dX3_beginPart_212 ⟨by decide, by decide⟩ ?_
      refine zV_iadd dX3_beginPart_213 ?_
      refine zV_pf dX3_beginPart_214 sa_101 (by decide) fl_X3_337_3 rfl rfl trivial (ki := 49) rfl (fun h12 e_h12 => ?_)
      have hP := hP h12 e_h12
      refine zV_aload_n dX3_beginPart_217 rfl ?_
      refine zV_dup dX3_beginPart_218 (Nat.ne_of_beq_eq_false rfl) ?_
      refine zV_gf dX3_beginPart_219 sa_101 (by decide) fl_X3_331_3 rfl (ki := 51) rfl ?_
      refine zV_iconst dX3_beginPart_222 ⟨by decide, by decide⟩ ?_
      refine zV_iadd dX3_beginPart_223 ?_
      refine zV_pf dX3_beginPart_224 sa_101 (by decide) fl_X3_331_3 rfl rfl trivial (ki := 51) rfl (fun h13 e_h13 => ?_)
      have hP := hP h13 e_h13
      refine zV_iconst dX3_beginPart_227 ⟨by decide, by decide⟩ ?_
      exact zV_ireturn dX3_beginPart_228 rfl rfl (z01 z1) ⟨rfl, hP⟩
  · have hP := zif_p hP c
    refine zV_aload_n dX3_beginPart_54 rfl ?_
    refine zV_dup dX3_beginPart_55 (Nat.ne_of_beq_eq_false rfl) ?_
    refine zV_gf dX3_beginPart_56 sa_101 (by decide) fl_X3_331_3 rfl (ki := 51) rfl ?_
    refine zV_iconst dX3_beginPart_59 ⟨by decide, by decide⟩ ?_
    refine zV_iadd dX3_beginPart_60 ?_
    refine zV_pf dX3_beginPart_61 sa_101 (by decide) fl_X3_331_3 rfl rfl trivial (ki := 51) rfl (fun h14 e_h14 => ?_)
    have hP := hP h14 e_h14
    refine zV_iconst dX3_beginPart_64 ⟨by decide, by decide⟩ ?_
    refine zV_istore_n (ls' := [zR 101, zI y1, zI 0, zU]) dX3_beginPart_65 rfl (Nat.le_of_ble_eq_true rfl) rfl rfl ?_
    refine zV_iconst dX3_beginPart_66 ⟨by decide, by decide⟩ ?_
    refine zV_istore_n (ls' := [zR 101, zI y1, zI 0, zI 0]) dX3_beginPart_67 rfl (Nat.le_of_ble_eq_true rfl) rfl rfl ?_
    obtain ⟨n68, hP⟩ := hP
    refine zV_mask [true, false, true, true] (ls' := [zR 101, zU, zI 0, zI 0]) rfl ?_
    refine W_M_beginPart_L68 _ _ (fun u2_120 u3_120 h24 hP => ?_) n68 _ _ _ hP
    exact W_M_beginPart_J120 _ _ _ _ hP
def P_M_beginPart (h : zH) (Q : Int → zH → Prop) : Prop :=
P_M_byteAt (zd h 101 51) h (fun r1 h2 =>
if zd h2 101 49 ≤ 0 then
(P_M_beginPart_J48 r1 h2 Q)
else
((0 ≤ w32 ((zd h2 101 49) - 1) ∧ w32 ((zd h2 101 49) - 1) < 60) ∧
if zd h2 131 (w32 ((zd h2 101 49) - 1)) ≤ 0 then
(P_M_beginPart_J48 r1 h2 Q)
else
((0 ≤ w32 ((zd h2 101 49) - 1) ∧ w32 ((zd h2 101 49) - 1) < 60) ∧
if zd h2 132 (w32 ((zd h2 101 49) - 1)) = 8 then
(Q 0 h2)
else
(P_M_beginPart_J48 r1 h2 Q))))
theorem W_M_beginPart (h : zH) (Q : Int → zH → Prop) (hP : P_M_beginPart  h Q) : zC true zy_X3_beginPart 2 [zR 101] h (zQ0 Q) := by
  unfold P_M_beginPart at hP
  refine zC.of (by decide) (Nat.le_of_ble_eq_true rfl) ?_
  show zV true zy_X3_beginPart 2 0 [zR 101, zU, zU, zU] [] h (zQ0 Q)
  refine zV_aload_n dX3_beginPart_0 rfl ?_
  refine zV_aload_n dX3_beginPart_1 rfl ?_
  refine zV_gf dX3_beginPart_2 sa_101 (by decide) fl_X3_331_3 rfl (ki := 51) rfl ?_
  refine zV_cVk (As := [zI (zd h 101 51)]) (rest := []) dX3_beginPart_5 sa_101 (W_M_byteAt _ _ _ hP) mi_X3_byteAt ml_X3_334 (by decide) (Nat.le_of_ble_eq_true rfl) rfl rfl rfl (fun r1 h2 hP => ?_)
  refine zV_istore_n (ls' := [zR 101, zI r1, zU, zU]) dX3_beginPart_8 rfl (Nat.le_of_ble_eq_true rfl) rfl rfl ?_
  refine zV_aload_n dX3_beginPart_9 rfl ?_
  refine zV_gf dX3_beginPart_10 sa_101 (by decide) fl_X3_337_3 rfl (ki := 49) rfl ?_
  refine zV_if_le (tgt := 48) dX3_beginPart_13 (by decide) (fun c => ?_) (fun c => ?_)
  · have hP := zif_p hP c
    exact W_M_beginPart_J48 _ _ _ hP
  · have hP := zif_n hP c
    refine zV_aload_n dX3_beginPart_16 rfl ?_
    refine zV_sg dX3_beginPart_17 fm_101_47 sa_101 (by decide) fl_X3_98_3 rfl ?_
    refine zV_aload_n dX3_beginPart_20 rfl ?_
    refine zV_gf dX3_beginPart_21 sa_101 (by decide) fl_X3_337_3 rfl (ki := 49) rfl ?_
    refine zV_iconst dX3_beginPart_24 ⟨by decide, by decide⟩ ?_
    refine zV_isub dX3_beginPart_25 ?_
    obtain ⟨ob, hP⟩ := hP
    refine zV_ia dX3_beginPart_26 sa_131 ob ?_
    refine zV_if_le (tgt := 48) dX3_beginPart_27 (by decide) (fun c => ?_) (fun c => ?_)
    · have hP := zif_p hP c
      exact W_M_beginPart_J48 _ _ _ hP
    · have hP := zif_n hP c
      refine zV_aload_n dX3_beginPart_30 rfl ?_
      refine zV_sg dX3_beginPart_31 fm_101_48 sa_101 (by decide) fl_X3_101_3 rfl ?_
      refine zV_aload_n dX3_beginPart_34 rfl ?_
      refine zV_gf dX3_beginPart_35 sa_101 (by decide) fl_X3_337_3 rfl (ki := 49) rfl ?_
      refine zV_iconst dX3_beginPart_38 ⟨by decide, by decide⟩ ?_
      refine zV_isub dX3_beginPart_39 ?_
      obtain ⟨ob, hP⟩ := hP
      refine zV_ia dX3_beginPart_40 sa_132 ob ?_
      refine zV_bipush dX3_beginPart_41 ⟨by decide, by decide, by decide⟩ ?_
      refine zV_icmp_ne (tgt := 48) dX3_beginPart_43 (by decide) (fun c => ?_) (fun c => ?_)
      · have hP := zif_n hP c
        exact W_M_beginPart_J48 _ _ _ hP
      · have hP := zif_p hP c
        refine zV_iconst dX3_beginPart_46 ⟨by decide, by decide⟩ ?_
        exact zV_ireturn dX3_beginPart_47 rfl rfl (z01 z0) ⟨rfl, hP⟩
def P_M_endPart_L0 (Q : Int → zH → Prop) (k54 : zH → Prop) : Nat → zH → Prop
| 0, _ => False
| n0 + 1, h =>
if zd h 101 49 ≤ 0 then
(k54 h)
else
((0 ≤ w32 ((zd h 101 49) - 1) ∧ w32 ((zd h 101 49) - 1) < 60) ∧
if zd h 131 (w32 ((zd h 101 49) - 1)) = 0 then
((0 ≤ zd h 101 46 ∧ zd h 101 46 < 60) ∧
∀ h1 : zH, h1 = zw h 130 (zd h 101 46) 0 →
∀ h2 : zH, h2 = zw h1 101 46 (w32 ((zd h1 101 46) + 1)) →
∀ h3 : zH, h3 = zw h2 101 49 (w32 ((zd h2 101 49) - 1)) →
P_M_endPart_L0 Q k54 n0 h3)
else
(k54 h))
theorem W_M_endPart_L0 (Q : Int → zH → Prop) (k54 : zH → Prop) (H54 : ∀ (h' : zH), k54 h' → zV true zy_X3_endPart 2 54 [zR 101, zU, zU, zU] [] h' (zQ0 Q)) : ∀ (n0 : Nat) (h : zH), P_M_endPart_L0 Q k54 n0 h → zV true zy_X3_endPart 2 0 [zR 101, zU, zU, zU] [] h (zQ0 Q) := by
  intro n0
  induction n0 with
  | zero => intro h hP; exact absurd hP id
  | succ n0 ih =>
    intro h hP
    unfold P_M_endPart_L0 at hP
    refine zV_aload_n dX3_endPart_0 rfl ?_
    refine zV_gf dX3_endPart_1 sa_101 (by decide) fl_X3_337_3 rfl (ki := 49) rfl ?_
    refine zV_if_le (tgt := 54) dX3_endPart_4 (by decide) (fun c => ?_) (fun c => ?_)
    · have hP := zif_p hP c
      exact H54 _ hP
    · have hP := zif_n hP c
      refine zV_aload_n dX3_endPart_7 rfl ?_
      refine zV_sg dX3_endPart_8 fm_101_47 sa_101 (by decide) fl_X3_98_3 rfl ?_
      refine zV_aload_n dX3_endPart_11 rfl ?_
      refine zV_gf dX3_endPart_12 sa_101 (by decide) fl_X3_337_3 rfl (ki := 49) rfl ?_
      refine zV_iconst dX3_endPart_15 ⟨by decide, by decide⟩ ?_
      refine zV_isub dX3_endPart_16 ?_
      obtain ⟨ob, hP⟩ := hP
      refine zV_ia dX3_endPart_17 sa_131 ob ?_
      refine zV_if_ne (tgt := 54) dX3_endPart_18 (by decide) (fun c => ?_) (fun c => ?_)
      · have hP := zif_n hP c
        exact H54 _ hP
      · have hP := zif_p hP c
        refine zV_aload_n dX3_endPart_21 rfl ?_
        refine zV_sg dX3_endPart_22 fm_101_45 sa_101 (by decide) fl_X3_95_3 rfl ?_
        refine zV_aload_n dX3_endPart_25 rfl ?_
        refine zV_gf dX3_endPart_26 sa_101 (by decide) fl_X3_343_3 rfl (ki := 46) rfl ?_
        refine zV_iconst dX3_endPart_29 ⟨by decide, by decide⟩ ?_
        obtain ⟨ob, hP⟩ := hP
        refine zV_ias dX3_endPart_30 sa_130 ob (fun h1 e_h1 => ?_)
        have hP := hP h1 e_h1
        refine zV_aload_n dX3_endPart_31 rfl ?_
        refine zV_dup dX3_endPart_32 (Nat.ne_of_beq_eq_false rfl) ?_
        refine zV_gf dX3_endPart_33 sa_101 (by decide) fl_X3_343_3 rfl (ki := 46) rfl ?_
        refine zV_iconst dX3_endPart_36 ⟨by decide, by decide⟩ ?_
        refine zV_iadd dX3_endPart_37 ?_
        refine zV_pf dX3_endPart_38 sa_101 (by decide) fl_X3_343_3 rfl rfl trivial (ki := 46) rfl (fun h2 e_h2 => ?_)
        have hP := hP h2 e_h2
        refine zV_aload_n dX3_endPart_41 rfl ?_
        refine zV_dup dX3_endPart_42 (Nat.ne_of_beq_eq_false rfl) ?_
        refine zV_gf dX3_endPart_43 sa_101 (by decide) fl_X3_337_3 rfl (ki := 49) rfl ?_
        refine zV_iconst dX3_endPart_46 ⟨by decide, by decide⟩ ?_
        refine zV_isub dX3_endPart_47 ?_
        refine zV_pf dX3_endPart_48 sa_101 (by decide) fl_X3_337_3 rfl rfl trivial (ki := 49) rfl (fun h3 e_h3 => ?_)
        have hP := hP h3 e_h3
        refine zV_goto (tgt := 0) dX3_endPart_51 (by decide) ?_
        exact ih _ hP
def P_M_endPart_J165 (y1 : Int) (h : zH) (Q : Int → zH → Prop) : Prop :=
(0 ≤ y1 ∧ y1 < 60) ∧
(0 ≤ y1 ∧ y1 < 60) ∧
(0 ≤ zd h 101 46 ∧ zd h 101 46 < 60) ∧
∀ h9 : zH, h9 = zw h 130 (zd h 101 46) (w32 ((w32 (1000 * (zd h 131 y1))) + (zd h 132 y1))) →
∀ h10 : zH, h10 = zw h9 101 46 (w32 ((zd h9 101 46) + 1)) →
∀ h11 : zH, h11 = zw h10 101 49 (w32 ((zd h10 101 49) - 1)) →
∀ h12 : zH, h12 = zw h11 101 50 (w32 ((zd h11 101 50) - 1)) →
∀ h13 : zH, h13 = zw h12 101 51 (w32 ((zd h12 101 51) + 1)) →
Q 1 h13
theorem W_M_endPart_J165 (y1 : Int) (h : zH) (Q : Int → zH → Prop) (hP : P_M_endPart_J165 y1 h Q) : zV true zy_X3_endPart 2 165 [zR 101, zI y1, zU, zU] [] h (zQ0 Q) := by
  unfold P_M_endPart_J165 at hP
  refine zV_aload_n dX3_endPart_165 rfl ?_
  refine zV_sg dX3_endPart_166 fm_101_45 sa_101 (by decide) fl_X3_95_3 rfl ?_
  refine zV_aload_n dX3_endPart_169 rfl ?_
  refine zV_gf dX3_endPart_170 sa_101 (by decide) fl_X3_343_3 rfl (ki := 46) rfl ?_
  refine zV_sipush dX3_endPart_173 ⟨by decide, by decide, by decide⟩ ?_
  refine zV_aload_n dX3_endPart_176 rfl ?_
  refine zV_sg dX3_endPart_177 fm_101_47 sa_101 (by decide) fl_X3_98_3 rfl ?_
  refine zV_iload_n dX3_endPart_180 rfl ?_
  obtain ⟨ob, hP⟩ := hP
  refine zV_ia dX3_endPart_181 sa_131 ob ?_
  refine zV_imul dX3_endPart_182 ?_
  refine zV_aload_n dX3_endPart_183 rfl ?_
  refine zV_sg dX3_endPart_184 fm_101_48 sa_101 (by decide) fl_X3_101_3 rfl ?_
  refine zV_iload_n dX3_endPart_187 rfl ?_
  obtain ⟨ob, hP⟩ := hP
  refine zV_ia dX3_endPart_188 sa_132 ob ?_
  refine zV_iadd dX3_endPart_189 ?_
  obtain ⟨ob, hP⟩ := hP
  refine zV_ias dX3_endPart_190 sa_130 ob (fun h9 e_h9 => ?_)
  have hP := hP h9 e_h9
  refine zV_aload_n dX3_endPart_191 rfl ?_
  refine zV_dup dX3_endPart_192 (Nat.ne_of_beq_eq_false rfl) ?_
  refine zV_gf dX3_endPart_193 sa_101 (by decide) fl_X3_343_3 rfl (ki := 46) rfl ?_
  refine zV_iconst dX3_endPart_196 ⟨by decide, by decide⟩ ?_
  refine zV_iadd dX3_endPart_197 ?_
  refine zV_pf dX3_endPart_198 sa_101 (by decide) fl_X3_343_3 rfl rfl trivial (ki := 46) rfl (fun h10 e_h10 => ?_)
  have hP := hP h10 e_h10
  refine zV_aload_n dX3_endPart_201 rfl ?_
  refine zV_dup dX3_endPart_202 (Nat.ne_of_beq_eq_false rfl) ?_
  refine zV_gf dX3_endPart_203 sa_101 (by decide) fl_X3_337_3 rfl (ki := 49) rfl ?_
  refine zV_iconst dX3_endPart_206 ⟨by decide, by decide⟩ ?_
  refine zV_isub dX3_endPart_207 ?_
  refine zV_pf dX3_endPart_208 sa_101 (by decide) fl_X3_337_3 rfl rfl trivial (ki := 49) rfl (fun h11 e_h11 => ?_)
  have hP := hP h11 e_h11
  refine zV_aload_n dX3_endPart_211 rfl ?_
  refine zV_dup dX3_endPart_212 (Nat.ne_of_beq_eq_false rfl) ?_
  refine zV_gf dX3_endPart_213 sa_101 (by decide) fl_X3_349_3 rfl (ki := 50) rfl ?_
  refine zV_iconst dX3_endPart_216 ⟨by decide, by decide⟩ ?_
  refine zV_isub dX3_endPart_217 ?_
  refine zV_pf dX3_endPart_218 sa_101 (by decide) fl_X3_349_3 rfl rfl trivial (ki := 50) rfl (fun h12 e_h12 => ?_)
  have hP := hP h12 e_h12
  refine zV_aload_n dX3_endPart_221 rfl ?_
  refine zV_dup dX3_endPart_222 (Nat.ne_of_beq_eq_false rfl) ?_
  refine zV_gf dX3_endPart_223 sa_101 (by decide) fl_X3_331_3 rfl (ki := 51) rfl ?_
  refine zV_iconst dX3_endPart_226 ⟨by decide, by decide⟩ ?_
  refine zV_iadd dX3_endPart_227 ?_
  refine zV_pf dX3_endPart_228 sa_101 (by decide) fl_X3_331_3 rfl rfl trivial (ki := 51) rfl (fun h13 e_h13 => ?_)
  have hP := hP h13 e_h13
  refine zV_iconst dX3_endPart_231 ⟨by decide, by decide⟩ ?_
  exact zV_ireturn dX3_endPart_232 rfl rfl (z01 z1) ⟨rfl, hP⟩
def P_M_endPart_J143 (y1 : Int) (y2 : Int) (y3 : Int) (h : zH) (Q : Int → zH → Prop) : Prop :=
if y2 = 41 then
(if y3 = 0 then
(P_M_endPart_J165 y1 h Q)
else
((0 ≤ y1 ∧ y1 < 60) ∧
if 2 ≤ zd h 132 y1 then
(P_M_endPart_J165 y1 h Q)
else
(Q 0 h)))
else
(Q 0 h)
theorem W_M_endPart_J143 (y1 : Int) (y2 : Int) (y3 : Int) (h : zH) (Q : Int → zH → Prop) (hP : P_M_endPart_J143 y1 y2 y3 h Q) : zV true zy_X3_endPart 2 143 [zR 101, zI y1, zI y2, zI y3] [] h (zQ0 Q) := by
  unfold P_M_endPart_J143 at hP
  refine zV_iload_n dX3_endPart_143 rfl ?_
  refine zV_bipush dX3_endPart_144 ⟨by decide, by decide, by decide⟩ ?_
  refine zV_icmp_ne (tgt := 163) dX3_endPart_146 (by decide) (fun c => ?_) (fun c => ?_)
  · have hP := zif_n hP c
    refine zV_iconst dX3_endPart_163 ⟨by decide, by decide⟩ ?_
    exact zV_ireturn dX3_endPart_164 rfl rfl (z01 z0) ⟨rfl, hP⟩
  · have hP := zif_p hP c
    refine zV_iload_n dX3_endPart_149 rfl ?_
    refine zV_if_eq (tgt := 165) dX3_endPart_150 (by decide) (fun c => ?_) (fun c => ?_)
    · have hP := zif_p hP c
      refine zV_mask [true, true, false, false] (ls' := [zR 101, zI y1, zU, zU]) rfl ?_
      exact W_M_endPart_J165 _ _ _ hP
    · have hP := zif_n hP c
      refine zV_aload_n dX3_endPart_153 rfl ?_
      refine zV_sg dX3_endPart_154 fm_101_48 sa_101 (by decide) fl_X3_101_3 rfl ?_
      refine zV_iload_n dX3_endPart_157 rfl ?_
      obtain ⟨ob, hP⟩ := hP
      refine zV_ia dX3_endPart_158 sa_132 ob ?_
      refine zV_iconst dX3_endPart_159 ⟨by decide, by decide⟩ ?_
      refine zV_icmp_ge (tgt := 165) dX3_endPart_160 (by decide) (fun c => ?_) (fun c => ?_)
      · have hP := zif_p hP c
        refine zV_mask [true, true, false, false] (ls' := [zR 101, zI y1, zU, zU]) rfl ?_
        exact W_M_endPart_J165 _ _ _ hP
      · have hP := zif_n hP c
        refine zV_iconst dX3_endPart_163 ⟨by decide, by decide⟩ ?_
        exact zV_ireturn dX3_endPart_164 rfl rfl (z01 z0) ⟨rfl, hP⟩
def P_M_endPart_J126 (h : zH) (Q : Int → zH → Prop) : Prop :=
∀ h14 : zH, h14 = zw h 101 51 (w32 ((zd h 101 51) + 1)) →
∀ h15 : zH, h15 = zw h14 101 52 1 →
Q 1 h15
theorem W_M_endPart_J126 (h : zH) (Q : Int → zH → Prop) (hP : P_M_endPart_J126  h Q) : zV true zy_X3_endPart 2 126 [zR 101, zU, zU, zU] [] h (zQ0 Q) := by
  unfold P_M_endPart_J126 at hP
  refine zV_aload_n dX3_endPart_126 rfl ?_
  refine zV_dup dX3_endPart_127 (Nat.ne_of_beq_eq_false rfl) ?_
  refine zV_gf dX3_endPart_128 sa_101 (by decide) fl_X3_331_3 rfl (ki := 51) rfl ?_
  refine zV_iconst dX3_endPart_131 ⟨by decide, by decide⟩ ?_
  refine zV_iadd dX3_endPart_132 ?_
  refine zV_pf dX3_endPart_133 sa_101 (by decide) fl_X3_331_3 rfl rfl trivial (ki := 51) rfl (fun h14 e_h14 => ?_)
  have hP := hP h14 e_h14
  refine zV_aload_n dX3_endPart_136 rfl ?_
  refine zV_iconst dX3_endPart_137 ⟨by decide, by decide⟩ ?_
  refine zV_pf dX3_endPart_138 sa_101 (by decide) fl_X3_346_3 rfl rfl z1 (ki := 52) rfl (fun h15 e_h15 => ?_)
  have hP := hP h15 e_h15
  refine zV_iconst dX3_endPart_141 ⟨by decide, by decide⟩ ?_
  exact zV_ireturn dX3_endPart_142 rfl rfl (z01 z1) ⟨rfl, hP⟩
def P_M_endPart_J105 (y1 : Int) (y2 : Int) (s0 : Int) (h : zH) (Q : Int → zH → Prop) : Prop :=
if y2 = 44 then
(if s0 = 0 then
(P_M_endPart_J126  h Q)
else
((0 ≤ y1 ∧ y1 < 60) ∧
if zd h 132 y1 = 2 then
(P_M_endPart_J143 y1 y2 s0 h Q)
else
(P_M_endPart_J126  h Q)))
else
(P_M_endPart_J143 y1 y2 s0 h Q)
theorem W_M_endPart_J105 (y1 : Int) (y2 : Int) (s0 : Int) (h : zH) (Q : Int → zH → Prop) (hP : P_M_endPart_J105 y1 y2 s0 h Q) : zV true zy_X3_endPart 2 105 [zR 101, zI y1, zI y2, zU] [zI s0] h (zQ0 Q) := by
  unfold P_M_endPart_J105 at hP
  refine zV_istore_n (ls' := [zR 101, zI y1, zI y2, zI s0]) dX3_endPart_105 rfl (Nat.le_of_ble_eq_true rfl) rfl rfl ?_
  refine zV_iload_n dX3_endPart_106 rfl ?_
  refine zV_bipush dX3_endPart_107 ⟨by decide, by decide, by decide⟩ ?_
  refine zV_icmp_ne (tgt := 143) dX3_endPart_109 (by decide) (fun c => ?_) (fun c => ?_)
  · have hP := zif_n hP c
    exact W_M_endPart_J143 _ _ _ _ _ hP
  · have hP := zif_p hP c
    refine zV_iload_n dX3_endPart_112 rfl ?_
    refine zV_if_eq (tgt := 126) dX3_endPart_113 (by decide) (fun c => ?_) (fun c => ?_)
    · have hP := zif_p hP c
      refine zV_mask [true, false, false, false] (ls' := [zR 101, zU, zU, zU]) rfl ?_
      exact W_M_endPart_J126 _ _ hP
    · have hP := zif_n hP c
      refine zV_aload_n dX3_endPart_116 rfl ?_
      refine zV_sg dX3_endPart_117 fm_101_48 sa_101 (by decide) fl_X3_101_3 rfl ?_
      refine zV_iload_n dX3_endPart_120 rfl ?_
      obtain ⟨ob, hP⟩ := hP
      refine zV_ia dX3_endPart_121 sa_132 ob ?_
      refine zV_iconst dX3_endPart_122 ⟨by decide, by decide⟩ ?_
      refine zV_icmp_eq (tgt := 143) dX3_endPart_123 (by decide) (fun c => ?_) (fun c => ?_)
      · have hP := zif_p hP c
        exact W_M_endPart_J143 _ _ _ _ _ hP
      · have hP := zif_n hP c
        refine zV_mask [true, false, false, false] (ls' := [zR 101, zU, zU, zU]) rfl ?_
        exact W_M_endPart_J126 _ _ hP
def P_M_endPart_J54 (h : zH) (Q : Int → zH → Prop) : Prop :=
if zd h 101 49 = 0 then
(Q 0 h)
else
(∀ x1_5 : Int, x1_5 = (w32 ((zd h 101 49) - 1)) →
(0 ≤ x1_5 ∧ x1_5 < 60) ∧
(0 ≤ x1_5 ∧ x1_5 < 60) ∧
∀ h6 : zH, h6 = zw h 132 x1_5 (w32 ((zd h 132 x1_5) + 1)) →
P_M_byteAt (zd h6 101 51) h6 (fun r7 h8 =>
(0 ≤ x1_5 ∧ x1_5 < 60) ∧
P_M_endPart_J105 x1_5 r7 (if zd h8 131 x1_5 = 62 then 1 else 0) h8 Q))
theorem W_M_endPart_J54 (h : zH) (Q : Int → zH → Prop) (hP : P_M_endPart_J54  h Q) : zV true zy_X3_endPart 2 54 [zR 101, zU, zU, zU] [] h (zQ0 Q) := by
  unfold P_M_endPart_J54 at hP
  refine zV_aload_n dX3_endPart_54 rfl ?_
  refine zV_gf dX3_endPart_55 sa_101 (by decide) fl_X3_337_3 rfl (ki := 49) rfl ?_
  refine zV_if_ne (tgt := 63) dX3_endPart_58 (by decide) (fun c => ?_) (fun c => ?_)
  · have hP := zif_n hP c
    refine zV_aload_n dX3_endPart_63 rfl ?_
    refine zV_gf dX3_endPart_64 sa_101 (by decide) fl_X3_337_3 rfl (ki := 49) rfl ?_
    refine zV_iconst dX3_endPart_67 ⟨by decide, by decide⟩ ?_
    refine zV_isub dX3_endPart_68 ?_
    refine zV_top (fun x1_5 e_x1_5 => ?_)
    have hP := hP x1_5 e_x1_5
    refine zV_istore_n (ls' := [zR 101, zI x1_5, zU, zU]) dX3_endPart_69 rfl (Nat.le_of_ble_eq_true rfl) rfl rfl ?_
    refine zV_aload_n dX3_endPart_70 rfl ?_
    refine zV_sg dX3_endPart_71 fm_101_48 sa_101 (by decide) fl_X3_101_3 rfl ?_
    refine zV_iload_n dX3_endPart_74 rfl ?_
    refine zV_dup2 dX3_endPart_75 (Nat.ne_of_beq_eq_false rfl) (Nat.ne_of_beq_eq_false rfl) ?_
    obtain ⟨ob, hP⟩ := hP
    refine zV_ia dX3_endPart_76 sa_132 ob ?_
    refine zV_iconst dX3_endPart_77 ⟨by decide, by decide⟩ ?_
    refine zV_iadd dX3_endPart_78 ?_
    obtain ⟨ob, hP⟩ := hP
    refine zV_ias dX3_endPart_79 sa_132 ob (fun h6 e_h6 => ?_)
    have hP := hP h6 e_h6
    refine zV_aload_n dX3_endPart_80 rfl ?_
    refine zV_aload_n dX3_endPart_81 rfl ?_
    refine zV_gf dX3_endPart_82 sa_101 (by decide) fl_X3_331_3 rfl (ki := 51) rfl ?_
    refine zV_cVk (As := [zI (zd h6 101 51)]) (rest := []) dX3_endPart_85 sa_101 (W_M_byteAt _ _ _ hP) mi_X3_byteAt ml_X3_334 (by decide) (Nat.le_of_ble_eq_true rfl) rfl rfl rfl (fun r7 h8 hP => ?_)
    refine zV_istore_n (ls' := [zR 101, zI x1_5, zI r7, zU]) dX3_endPart_88 rfl (Nat.le_of_ble_eq_true rfl) rfl rfl ?_
    refine zV_aload_n dX3_endPart_89 rfl ?_
    refine zV_sg dX3_endPart_90 fm_101_47 sa_101 (by decide) fl_X3_98_3 rfl ?_
    refine zV_iload_n dX3_endPart_93 rfl ?_
    obtain ⟨ob, hP⟩ := hP
    refine zV_ia dX3_endPart_94 sa_131 ob ?_
    refine zV_bipush dX3_endPart_95 ⟨by decide, by decide, by decide⟩ ?_
    have K : zV true zy_X3_endPart 2 105 [zR 101, zI x1_5, zI r7, zU] [zI (if zd h8 131 x1_5 = 62 then 1 else 0)] h8 (zQ0 Q) := by
      exact W_M_endPart_J105 _ _ _ _ _ hP
    clear hP
    refine zV_icmp_ne (tgt := 104) dX3_endPart_97 (by decide) (fun c => ?_) (fun c => ?_)
    · try simp only [if_neg c] at K
      refine zV_iconst dX3_endPart_104 ⟨by decide, by decide⟩ ?_
      refine zV_mask [true, true, true, false] rfl ?_
      exact K
    · try simp only [if_pos c] at K
      refine zV_iconst dX3_endPart_100 ⟨by decide, by decide⟩ ?_
      refine zV_goto (tgt := 105) dX3_endPart_101 (by decide) ?_
      refine zV_mask [true, true, true, false] rfl ?_
      exact K
  · have hP := zif_p hP c
    refine zV_iconst dX3_endPart_61 ⟨by decide, by decide⟩ ?_
    exact zV_ireturn dX3_endPart_62 rfl rfl (z01 z0) ⟨rfl, hP⟩
def P_M_endPart (h : zH) (Q : Int → zH → Prop) : Prop :=
∃ n0, P_M_endPart_L0 Q (fun h4 =>
P_M_endPart_J54 h4 Q) n0 h
theorem W_M_endPart (h : zH) (Q : Int → zH → Prop) (hP : P_M_endPart  h Q) : zC true zy_X3_endPart 2 [zR 101] h (zQ0 Q) := by
  unfold P_M_endPart at hP
  refine zC.of (by decide) (Nat.le_of_ble_eq_true rfl) ?_
  show zV true zy_X3_endPart 2 0 [zR 101, zU, zU, zU] [] h (zQ0 Q)
  obtain ⟨n0, hP⟩ := hP
  refine W_M_endPart_L0 _ _ (fun h4 hP => ?_) n0 _ hP
  exact W_M_endPart_J54 _ _ hP
def P_M_faultOfTape_J54 (s0 : Int) (h : zH) (Q : Int → zH → Prop) (k32 : Int → zH → Prop) : Prop :=
k32 s0 h
theorem W_M_faultOfTape_J54 (s0 : Int) (h : zH) (Q : Int → zH → Prop) (k32 : Int → zH → Prop) (H32 : ∀ (v1 : Int) (h' : zH), k32 v1 h' → zV true zy_X3_faultOfTape 3 32 [zR 101, zI v1] [] h' (zQ0 Q)) (hP : P_M_faultOfTape_J54 s0 h Q k32) : zV true zy_X3_faultOfTape 3 54 [zR 101, zU] [zI s0] h (zQ0 Q) := by
  unfold P_M_faultOfTape_J54 at hP
  refine zV_istore_n (ls' := [zR 101, zI s0]) dX3_faultOfTape_54 rfl (Nat.le_of_ble_eq_true rfl) rfl rfl ?_
  refine zV_goto (tgt := 32) dX3_faultOfTape_55 (by decide) ?_
  exact H32 _ _ hP
def P_M_faultOfTape_L32 (Q : Int → zH → Prop) (k58 : zH → Prop) : Nat → Int → zH → Prop
| 0, _, _ => False
| n32 + 1, y1, h =>
if y1 = 0 then
(k58 h)
else
(if zd h 101 52 = 0 then
(P_M_endPart h (fun r7 h8 =>
P_M_faultOfTape_J54 r7 h8 Q (P_M_faultOfTape_L32 Q k58 n32)))
else
(P_M_beginPart h (fun r9 h10 =>
P_M_faultOfTape_J54 r9 h10 Q (P_M_faultOfTape_L32 Q k58 n32))))
theorem W_M_faultOfTape_L32 (Q : Int → zH → Prop) (k58 : zH → Prop) (H58 : ∀ (h' : zH), k58 h' → zV true zy_X3_faultOfTape 3 58 [zR 101, zU] [] h' (zQ0 Q)) : ∀ (n32 : Nat) (y1 : Int) (h : zH), P_M_faultOfTape_L32 Q k58 n32 y1 h → zV true zy_X3_faultOfTape 3 32 [zR 101, zI y1] [] h (zQ0 Q) := by
  intro n32
  induction n32 with
  | zero => intro y1 h hP; exact absurd hP id
  | succ n32 ih =>
    intro y1 h hP
    unfold P_M_faultOfTape_L32 at hP
    refine zV_iload_n dX3_faultOfTape_32 rfl ?_
    refine zV_if_eq (tgt := 58) dX3_faultOfTape_33 (by decide) (fun c => ?_) (fun c => ?_)
    · have hP := zif_p hP c
      refine zV_mask [true, false] (ls' := [zR 101, zU]) rfl ?_
      exact H58 _ hP
    · have hP := zif_n hP c
      refine zV_aload_n dX3_faultOfTape_36 rfl ?_
      refine zV_gf dX3_faultOfTape_37 sa_101 (by decide) fl_X3_346_3 rfl (ki := 52) rfl ?_
      refine zV_if_eq (tgt := 50) dX3_faultOfTape_40 (by decide) (fun c => ?_) (fun c => ?_)
      · have hP := zif_p hP c
        refine zV_aload_n dX3_faultOfTape_50 rfl ?_
        refine zV_cVk (As := []) (rest := []) dX3_faultOfTape_51 sa_101 (W_M_endPart _ _ hP) mi_X3_endPart ml_X3_356 (by decide) (Nat.le_of_ble_eq_true rfl) rfl rfl rfl (fun r7 h8 hP => ?_)
        refine zV_mask [true, false] (ls' := [zR 101, zU]) rfl ?_
        exact W_M_faultOfTape_J54 _ _ _ _ ih hP
      · have hP := zif_n hP c
        refine zV_aload_n dX3_faultOfTape_43 rfl ?_
        refine zV_cVk (As := []) (rest := []) dX3_faultOfTape_44 sa_101 (W_M_beginPart _ _ hP) mi_X3_beginPart ml_X3_352 (by decide) (Nat.le_of_ble_eq_true rfl) rfl rfl rfl (fun r9 h10 hP => ?_)
        refine zV_goto (tgt := 54) dX3_faultOfTape_47 (by decide) ?_
        refine zV_mask [true, false] (ls' := [zR 101, zU]) rfl ?_
        exact W_M_faultOfTape_J54 _ _ _ _ ih hP
def P_M_faultOfTape (h : zH) (Q : Int → zH → Prop) : Prop :=
∀ h1 : zH, h1 = zw h 101 46 0 →
∀ h2 : zH, h2 = zw h1 101 42 0 →
∀ h3 : zH, h3 = zw h2 101 49 0 →
∀ h4 : zH, h4 = zw h3 101 50 0 →
∀ h5 : zH, h5 = zw h4 101 51 0 →
∀ h6 : zH, h6 = zw h5 101 52 1 →
∃ n32, P_M_faultOfTape_L32 Q (fun h11 =>
Q (if zd h11 101 52 = 0 then if zd h11 101 49 = 0 then if zd h11 101 51 = zd h11 101 8 then (-1) else zd h11 101 51 else zd h11 101 51 else zd h11 101 51) h11) n32 1 h6
theorem W_M_faultOfTape (h : zH) (Q : Int → zH → Prop) (hP : P_M_faultOfTape  h Q) : zC true zy_X3_faultOfTape 3 [zR 101] h (zQ0 Q) := by
  unfold P_M_faultOfTape at hP
  refine zC.of (by decide) (Nat.le_of_ble_eq_true rfl) ?_
  show zV true zy_X3_faultOfTape 3 0 [zR 101, zU] [] h (zQ0 Q)
  refine zV_aload_n dX3_faultOfTape_0 rfl ?_
  refine zV_iconst dX3_faultOfTape_1 ⟨by decide, by decide⟩ ?_
  refine zV_pf dX3_faultOfTape_2 sa_101 (by decide) fl_X3_343_3 rfl rfl trivial (ki := 46) rfl (fun h1 e_h1 => ?_)
  have hP := hP h1 e_h1
  refine zV_aload_n dX3_faultOfTape_5 rfl ?_
  refine zV_iconst dX3_faultOfTape_6 ⟨by decide, by decide⟩ ?_
  refine zV_pf dX3_faultOfTape_7 sa_101 (by decide) fl_X3_292_3 rfl rfl trivial (ki := 42) rfl (fun h2 e_h2 => ?_)
  have hP := hP h2 e_h2
  refine zV_aload_n dX3_faultOfTape_10 rfl ?_
  refine zV_iconst dX3_faultOfTape_11 ⟨by decide, by decide⟩ ?_
  refine zV_pf dX3_faultOfTape_12 sa_101 (by decide) fl_X3_337_3 rfl rfl trivial (ki := 49) rfl (fun h3 e_h3 => ?_)
  have hP := hP h3 e_h3
  refine zV_aload_n dX3_faultOfTape_15 rfl ?_
  refine zV_iconst dX3_faultOfTape_16 ⟨by decide, by decide⟩ ?_
  refine zV_pf dX3_faultOfTape_17 sa_101 (by decide) fl_X3_349_3 rfl rfl trivial (ki := 50) rfl (fun h4 e_h4 => ?_)
  have hP := hP h4 e_h4
  refine zV_aload_n dX3_faultOfTape_20 rfl ?_
  refine zV_iconst dX3_faultOfTape_21 ⟨by decide, by decide⟩ ?_
  refine zV_pf dX3_faultOfTape_22 sa_101 (by decide) fl_X3_331_3 rfl rfl trivial (ki := 51) rfl (fun h5 e_h5 => ?_)
  have hP := hP h5 e_h5
  refine zV_aload_n dX3_faultOfTape_25 rfl ?_
  refine zV_iconst dX3_faultOfTape_26 ⟨by decide, by decide⟩ ?_
  refine zV_pf dX3_faultOfTape_27 sa_101 (by decide) fl_X3_346_3 rfl rfl z1 (ki := 52) rfl (fun h6 e_h6 => ?_)
  have hP := hP h6 e_h6
  refine zV_iconst dX3_faultOfTape_30 ⟨by decide, by decide⟩ ?_
  refine zV_istore_n (ls' := [zR 101, zI 1]) dX3_faultOfTape_31 rfl (Nat.le_of_ble_eq_true rfl) rfl rfl ?_
  obtain ⟨n32, hP⟩ := hP
  refine W_M_faultOfTape_L32 _ _ (fun h11 hP => ?_) n32 _ _ hP
  refine zV_aload_n dX3_faultOfTape_58 rfl ?_
  refine zV_gf dX3_faultOfTape_59 sa_101 (by decide) fl_X3_346_3 rfl (ki := 52) rfl ?_
  have K : zV true zy_X3_faultOfTape 3 91 [zU, zU] [zI (if zd h11 101 52 = 0 then if zd h11 101 49 = 0 then if zd h11 101 51 = zd h11 101 8 then (-1) else zd h11 101 51 else zd h11 101 51 else zd h11 101 51)] h11 (zQ0 Q) := by
    exact zV_ireturn dX3_faultOfTape_91 rfl rfl rfl ⟨rfl, hP⟩
  clear hP
  refine zV_if_ne (tgt := 87) dX3_faultOfTape_62 (by decide) (fun c => ?_) (fun c => ?_)
  · try simp only [if_neg c] at K
    refine zV_aload_n dX3_faultOfTape_87 rfl ?_
    refine zV_gf dX3_faultOfTape_88 sa_101 (by decide) fl_X3_331_3 rfl (ki := 51) rfl ?_
    refine zV_mask [false, false] rfl ?_
    exact K
  · try simp only [if_pos c] at K
    refine zV_aload_n dX3_faultOfTape_65 rfl ?_
    refine zV_gf dX3_faultOfTape_66 sa_101 (by decide) fl_X3_337_3 rfl (ki := 49) rfl ?_
    refine zV_if_ne (tgt := 87) dX3_faultOfTape_69 (by decide) (fun c => ?_) (fun c => ?_)
    · try simp only [if_neg c] at K
      refine zV_aload_n dX3_faultOfTape_87 rfl ?_
      refine zV_gf dX3_faultOfTape_88 sa_101 (by decide) fl_X3_331_3 rfl (ki := 51) rfl ?_
      refine zV_mask [false, false] rfl ?_
      exact K
    · try simp only [if_pos c] at K
      refine zV_aload_n dX3_faultOfTape_72 rfl ?_
      refine zV_gf dX3_faultOfTape_73 sa_101 (by decide) fl_X3_331_3 rfl (ki := 51) rfl ?_
      refine zV_aload_n dX3_faultOfTape_76 rfl ?_
      refine zV_gf dX3_faultOfTape_77 sa_101 (by decide) fl_X3_259_3 rfl (ki := 8) rfl ?_
      refine zV_icmp_ne (tgt := 87) dX3_faultOfTape_80 (by decide) (fun c => ?_) (fun c => ?_)
      · try simp only [if_neg c] at K
        refine zV_aload_n dX3_faultOfTape_87 rfl ?_
        refine zV_gf dX3_faultOfTape_88 sa_101 (by decide) fl_X3_331_3 rfl (ki := 51) rfl ?_
        refine zV_mask [false, false] rfl ?_
        exact K
      · try simp only [if_pos c] at K
        refine zV_iconst dX3_faultOfTape_83 ⟨by decide, by decide⟩ ?_
        refine zV_goto (tgt := 91) dX3_faultOfTape_84 (by decide) ?_
        refine zV_mask [false, false] rfl ?_
        exact K
def P_M_layJust_L3 (y1 : Int) (y2 : Int) (y3 : Int) (Q : Int → zH → Prop) (k28 : zH → Prop) : Nat → Int → zH → Prop
| 0, _, _ => False
| n3 + 1, y4, h =>
if y3 ≤ y4 then
(k28 h)
else
((0 ≤ w32 (y2 + y4) ∧ w32 (y2 + y4) < 60) ∧
P_M_lay (zd h 133 (w32 (y2 + y4))) h (fun r1 h2 =>
∀ x4_3 : Int, x4_3 = w32 (y4 + 1) →
P_M_layJust_L3 y1 y2 y3 Q k28 n3 x4_3 h2))
theorem W_M_layJust_L3 (y1 : Int) (y2 : Int) (y3 : Int) (Q : Int → zH → Prop) (k28 : zH → Prop) (H28 : ∀ (h' : zH), k28 h' → zV true zy_X3_layJust 3 28 [zR 101, zI y1, zI y2, zI y3, zU, zU] [] h' (zQ0 Q)) : ∀ (n3 : Nat) (y4 : Int) (h : zH), P_M_layJust_L3 y1 y2 y3 Q k28 n3 y4 h → zV true zy_X3_layJust 3 3 [zR 101, zI y1, zI y2, zI y3, zI y4, zU] [] h (zQ0 Q) := by
  intro n3
  induction n3 with
  | zero => intro y4 h hP; exact absurd hP id
  | succ n3 ih =>
    intro y4 h hP
    unfold P_M_layJust_L3 at hP
    refine zV_iload dX3_layJust_3 rfl ?_
    refine zV_iload_n dX3_layJust_5 rfl ?_
    refine zV_icmp_ge (tgt := 28) dX3_layJust_6 (by decide) (fun c => ?_) (fun c => ?_)
    · have hP := zif_p hP c
      refine zV_mask [true, true, true, true, false, true] (ls' := [zR 101, zI y1, zI y2, zI y3, zU, zU]) rfl ?_
      exact H28 _ hP
    · have hP := zif_n hP c
      refine zV_aload_n dX3_layJust_9 rfl ?_
      refine zV_aload_n dX3_layJust_10 rfl ?_
      refine zV_sg dX3_layJust_11 fm_101_53 sa_101 (by decide) fl_X3_104_3 rfl ?_
      refine zV_iload_n dX3_layJust_14 rfl ?_
      refine zV_iload dX3_layJust_15 rfl ?_
      refine zV_iadd dX3_layJust_17 ?_
      obtain ⟨ob, hP⟩ := hP
      refine zV_ia dX3_layJust_18 sa_133 ob ?_
      refine zV_cVv (As := [zI (zd h 133 (w32 (y2 + y4)))]) (rest := []) dX3_layJust_19 sa_101 (W_M_lay _ _ _ hP) mi_X3_lay ml_X3_282 (by decide) (Nat.le_of_ble_eq_true rfl) rfl rfl (fun r1 h2 hP => ?_)
      refine zV_inc (ls' := fun z => [zR 101, zI y1, zI y2, zI y3, zI z, zU]) dX3_layJust_22 (Nat.le_of_ble_eq_true rfl) rfl rfl (fun _ => rfl) (fun x4_3 e_x4_3 => ?_)
      have hP := hP x4_3 e_x4_3
      refine zV_goto (tgt := 3) dX3_layJust_25 (by decide) ?_
      exact ih _ _ hP
def P_M_layJust_L53 (y1 : Int) (y2 : Int) (y3 : Int) (y4 : Int) (Q : Int → zH → Prop) (k91 : zH → Prop) : Nat → Int → zH → Prop
| 0, _, _ => False
| n53 + 1, y5, h =>
if y3 ≤ y5 then
(k91 h)
else
((0 ≤ w32 (y2 + y4) ∧ w32 (y2 + y4) < 60) ∧
(0 ≤ w32 (y2 + y5) ∧ w32 (y2 + y5) < 60) ∧
P_M_layThree (w32 (-(zd h 133 (w32 (y2 + y4))))) (w32 (-(zd h 133 (w32 (y2 + y5))))) (w32 (-y1)) h (fun r10 h11 =>
∀ x5_12 : Int, x5_12 = w32 (y5 + 1) →
P_M_layJust_L53 y1 y2 y3 y4 Q k91 n53 x5_12 h11))
theorem W_M_layJust_L53 (y1 : Int) (y2 : Int) (y3 : Int) (y4 : Int) (Q : Int → zH → Prop) (k91 : zH → Prop) (H91 : ∀ (h' : zH), k91 h' → zV true zy_X3_layJust 3 91 [zR 101, zI y1, zI y2, zI y3, zI y4, zU] [] h' (zQ0 Q)) : ∀ (n53 : Nat) (y5 : Int) (h : zH), P_M_layJust_L53 y1 y2 y3 y4 Q k91 n53 y5 h → zV true zy_X3_layJust 3 53 [zR 101, zI y1, zI y2, zI y3, zI y4, zI y5] [] h (zQ0 Q) := by
  intro n53
  induction n53 with
  | zero => intro y5 h hP; exact absurd hP id
  | succ n53 ih =>
    intro y5 h hP
    unfold P_M_layJust_L53 at hP
    refine zV_iload dX3_layJust_53 rfl ?_
    refine zV_iload_n dX3_layJust_55 rfl ?_
    refine zV_icmp_ge (tgt := 91) dX3_layJust_56 (by decide) (fun c => ?_) (fun c => ?_)
    · have hP := zif_p hP c
      refine zV_mask [true, true, true, true, true, false] (ls' := [zR 101, zI y1, zI y2, zI y3, zI y4, zU]) rfl ?_
      exact H91 _ hP
    · have hP := zif_n hP c
      refine zV_aload_n dX3_layJust_59 rfl ?_
      refine zV_aload_n dX3_layJust_60 rfl ?_
      refine zV_sg dX3_layJust_61 fm_101_53 sa_101 (by decide) fl_X3_104_3 rfl ?_
      refine zV_iload_n dX3_layJust_64 rfl ?_
      refine zV_iload dX3_layJust_65 rfl ?_
      refine zV_iadd dX3_layJust_67 ?_
      obtain ⟨ob, hP⟩ := hP
      refine zV_ia dX3_layJust_68 sa_133 ob ?_
      refine zV_ineg dX3_layJust_69 ?_
      refine zV_aload_n dX3_layJust_70 rfl ?_
      refine zV_sg dX3_layJust_71 fm_101_53 sa_101 (by decide) fl_X3_104_3 rfl ?_
      refine zV_iload_n dX3_layJust_74 rfl ?_
      refine zV_iload dX3_layJust_75 rfl ?_
      refine zV_iadd dX3_layJust_77 ?_
      obtain ⟨ob, hP⟩ := hP
      refine zV_ia dX3_layJust_78 sa_133 ob ?_
      refine zV_ineg dX3_layJust_79 ?_
      refine zV_iload_n dX3_layJust_80 rfl ?_
      refine zV_ineg dX3_layJust_81 ?_
      refine zV_cVv (As := [zI (w32 (-(zd h 133 (w32 (y2 + y4))))), zI (w32 (-(zd h 133 (w32 (y2 + y5))))), zI (w32 (-y1))]) (rest := []) dX3_layJust_82 sa_101 (W_M_layThree _ _ _ _ _ hP) mi_X3_layThree ml_X3_306 (by decide) (Nat.le_of_ble_eq_true rfl) rfl rfl (fun r10 h11 hP => ?_)
      refine zV_inc (ls' := fun z => [zR 101, zI y1, zI y2, zI y3, zI y4, zI z]) dX3_layJust_85 (Nat.le_of_ble_eq_true rfl) rfl rfl (fun _ => rfl) (fun x5_12 e_x5_12 => ?_)
      have hP := hP x5_12 e_x5_12
      refine zV_goto (tgt := 53) dX3_layJust_88 (by decide) ?_
      exact ih _ _ hP
def P_M_layJust_L41 (y1 : Int) (y2 : Int) (y3 : Int) (Q : Int → zH → Prop) (k97 : zH → Prop) : Nat → Int → zH → Prop
| 0, _, _ => False
| n41 + 1, y4, h =>
if y3 ≤ y4 then
(k97 h)
else
(∀ x5_9 : Int, x5_9 = (w32 (y4 + 1)) →
∃ n53, P_M_layJust_L53 y1 y2 y3 y4 Q (fun h13 =>
∀ x4_14 : Int, x4_14 = w32 (y4 + 1) →
P_M_layJust_L41 y1 y2 y3 Q k97 n41 x4_14 h13) n53 x5_9 h)
theorem W_M_layJust_L41 (y1 : Int) (y2 : Int) (y3 : Int) (Q : Int → zH → Prop) (k97 : zH → Prop) (H97 : ∀ (h' : zH), k97 h' → zV true zy_X3_layJust 3 97 [zR 101, zI y1, zI y2, zI y3, zU, zU] [] h' (zQ0 Q)) : ∀ (n41 : Nat) (y4 : Int) (h : zH), P_M_layJust_L41 y1 y2 y3 Q k97 n41 y4 h → zV true zy_X3_layJust 3 41 [zR 101, zI y1, zI y2, zI y3, zI y4, zU] [] h (zQ0 Q) := by
  intro n41
  induction n41 with
  | zero => intro y4 h hP; exact absurd hP id
  | succ n41 ih =>
    intro y4 h hP
    unfold P_M_layJust_L41 at hP
    refine zV_iload dX3_layJust_41 rfl ?_
    refine zV_iload_n dX3_layJust_43 rfl ?_
    refine zV_icmp_ge (tgt := 97) dX3_layJust_44 (by decide) (fun c => ?_) (fun c => ?_)
    · have hP := zif_p hP c
      refine zV_mask [true, true, true, true, false, true] (ls' := [zR 101, zI y1, zI y2, zI y3, zU, zU]) rfl ?_
      exact H97 _ hP
    · have hP := zif_n hP c
      refine zV_iload dX3_layJust_47 rfl ?_
      refine zV_iconst dX3_layJust_49 ⟨by decide, by decide⟩ ?_
      refine zV_iadd dX3_layJust_50 ?_
      refine zV_top (fun x5_9 e_x5_9 => ?_)
      have hP := hP x5_9 e_x5_9
      refine zV_istore (ls' := [zR 101, zI y1, zI y2, zI y3, zI y4, zI x5_9]) dX3_layJust_51 (Nat.le_of_ble_eq_true rfl) rfl rfl ?_
      obtain ⟨n53, hP⟩ := hP
      refine W_M_layJust_L53 _ _ _ _ _ _ (fun h13 hP => ?_) n53 _ _ hP
      refine zV_inc (ls' := fun z => [zR 101, zI y1, zI y2, zI y3, zI z, zU]) dX3_layJust_91 (Nat.le_of_ble_eq_true rfl) rfl rfl (fun _ => rfl) (fun x4_14 e_x4_14 => ?_)
      have hP := hP x4_14 e_x4_14
      refine zV_goto (tgt := 41) dX3_layJust_94 (by decide) ?_
      exact ih _ _ hP
def P_M_layJust_J154 (y1 : Int) (y2 : Int) (y3 : Int) (y4 : Int) (y5 : Int) (h : zH) (Q : Int → zH → Prop) (k128 : Int → zH → Prop) : Prop :=
∀ x5_20 : Int, x5_20 = w32 (y5 + 1) →
k128 x5_20 h
theorem W_M_layJust_J154 (y1 : Int) (y2 : Int) (y3 : Int) (y4 : Int) (y5 : Int) (h : zH) (Q : Int → zH → Prop) (k128 : Int → zH → Prop) (H128 : ∀ (v5 : Int) (h' : zH), k128 v5 h' → zV true zy_X3_layJust 3 128 [zR 101, zI y1, zI y2, zI y3, zI y4, zI v5] [] h' (zQ0 Q)) (hP : P_M_layJust_J154 y1 y2 y3 y4 y5 h Q k128) : zV true zy_X3_layJust 3 154 [zR 101, zI y1, zI y2, zI y3, zI y4, zI y5] [] h (zQ0 Q) := by
  unfold P_M_layJust_J154 at hP
  refine zV_inc (ls' := fun z => [zR 101, zI y1, zI y2, zI y3, zI y4, zI z]) dX3_layJust_154 (Nat.le_of_ble_eq_true rfl) rfl rfl (fun _ => rfl) (fun x5_20 e_x5_20 => ?_)
  have hP := hP x5_20 e_x5_20
  refine zV_goto (tgt := 128) dX3_layJust_157 (by decide) ?_
  exact H128 _ _ hP
def P_M_layJust_L128 (y1 : Int) (y2 : Int) (y3 : Int) (y4 : Int) (Q : Int → zH → Prop) (k160 : zH → Prop) : Nat → Int → zH → Prop
| 0, _, _ => False
| n128 + 1, y5, h =>
if y3 ≤ y5 then
(k160 h)
else
(if y5 = y4 then
(P_M_layJust_J154 y1 y2 y3 y4 y5 h Q (P_M_layJust_L128 y1 y2 y3 y4 Q k160 n128))
else
((0 ≤ w32 (y2 + y5) ∧ w32 (y2 + y5) < 60) ∧
P_M_lay (zd h 133 (w32 (y2 + y5))) h (fun r21 h22 =>
P_M_layJust_J154 y1 y2 y3 y4 y5 h22 Q (P_M_layJust_L128 y1 y2 y3 y4 Q k160 n128))))
theorem W_M_layJust_L128 (y1 : Int) (y2 : Int) (y3 : Int) (y4 : Int) (Q : Int → zH → Prop) (k160 : zH → Prop) (H160 : ∀ (h' : zH), k160 h' → zV true zy_X3_layJust 3 160 [zR 101, zI y1, zI y2, zI y3, zI y4, zU] [] h' (zQ0 Q)) : ∀ (n128 : Nat) (y5 : Int) (h : zH), P_M_layJust_L128 y1 y2 y3 y4 Q k160 n128 y5 h → zV true zy_X3_layJust 3 128 [zR 101, zI y1, zI y2, zI y3, zI y4, zI y5] [] h (zQ0 Q) := by
  intro n128
  induction n128 with
  | zero => intro y5 h hP; exact absurd hP id
  | succ n128 ih =>
    intro y5 h hP
    unfold P_M_layJust_L128 at hP
    refine zV_iload dX3_layJust_128 rfl ?_
    refine zV_iload_n dX3_layJust_130 rfl ?_
    refine zV_icmp_ge (tgt := 160) dX3_layJust_131 (by decide) (fun c => ?_) (fun c => ?_)
    · have hP := zif_p hP c
      refine zV_mask [true, true, true, true, true, false] (ls' := [zR 101, zI y1, zI y2, zI y3, zI y4, zU]) rfl ?_
      exact H160 _ hP
    · have hP := zif_n hP c
      refine zV_iload dX3_layJust_134 rfl ?_
      refine zV_iload dX3_layJust_136 rfl ?_
      refine zV_icmp_eq (tgt := 154) dX3_layJust_138 (by decide) (fun c => ?_) (fun c => ?_)
      · have hP := zif_p hP c
        exact W_M_layJust_J154 _ _ _ _ _ _ _ _ ih hP
      · have hP := zif_n hP c
        refine zV_aload_n dX3_layJust_141 rfl ?_
        refine zV_aload_n dX3_layJust_142 rfl ?_
        refine zV_sg dX3_layJust_143 fm_101_53 sa_101 (by decide) fl_X3_104_3 rfl ?_
        refine zV_iload_n dX3_layJust_146 rfl ?_
        refine zV_iload dX3_layJust_147 rfl ?_
        refine zV_iadd dX3_layJust_149 ?_
        obtain ⟨ob, hP⟩ := hP
        refine zV_ia dX3_layJust_150 sa_133 ob ?_
        refine zV_cVv (As := [zI (zd h 133 (w32 (y2 + y5)))]) (rest := []) dX3_layJust_151 sa_101 (W_M_lay _ _ _ hP) mi_X3_lay ml_X3_282 (by decide) (Nat.le_of_ble_eq_true rfl) rfl rfl (fun r21 h22 hP => ?_)
        exact W_M_layJust_J154 _ _ _ _ _ _ _ _ ih hP
def P_M_layJust_L100 (y1 : Int) (y2 : Int) (y3 : Int) (Q : Int → zH → Prop) : Nat → Int → zH → Prop
| 0, _, _ => False
| n100 + 1, y4, h =>
if y3 ≤ y4 then
(Q 0 h)
else
(P_M_lay y1 h (fun r16 h17 =>
(0 ≤ w32 (y2 + y4) ∧ w32 (y2 + y4) < 60) ∧
P_M_lay (w32 (-(zd h17 133 (w32 (y2 + y4))))) h17 (fun r18 h19 =>
∃ n128, P_M_layJust_L128 y1 y2 y3 y4 Q (fun h23 =>
P_M_endRow h23 (fun r24 h25 =>
∀ x4_26 : Int, x4_26 = w32 (y4 + 1) →
P_M_layJust_L100 y1 y2 y3 Q n100 x4_26 h25)) n128 0 h19)))
theorem W_M_layJust_L100 (y1 : Int) (y2 : Int) (y3 : Int) (Q : Int → zH → Prop) : ∀ (n100 : Nat) (y4 : Int) (h : zH), P_M_layJust_L100 y1 y2 y3 Q n100 y4 h → zV true zy_X3_layJust 3 100 [zR 101, zI y1, zI y2, zI y3, zI y4, zU] [] h (zQ0 Q) := by
  intro n100
  induction n100 with
  | zero => intro y4 h hP; exact absurd hP id
  | succ n100 ih =>
    intro y4 h hP
    unfold P_M_layJust_L100 at hP
    refine zV_iload dX3_layJust_100 rfl ?_
    refine zV_iload_n dX3_layJust_102 rfl ?_
    refine zV_icmp_ge (tgt := 170) dX3_layJust_103 (by decide) (fun c => ?_) (fun c => ?_)
    · have hP := zif_p hP c
      exact zV_return dX3_layJust_170 rfl ⟨rfl, hP⟩
    · have hP := zif_n hP c
      refine zV_aload_n dX3_layJust_106 rfl ?_
      refine zV_iload_n dX3_layJust_107 rfl ?_
      refine zV_cVv (As := [zI y1]) (rest := []) dX3_layJust_108 sa_101 (W_M_lay _ _ _ hP) mi_X3_lay ml_X3_282 (by decide) (Nat.le_of_ble_eq_true rfl) rfl rfl (fun r16 h17 hP => ?_)
      refine zV_aload_n dX3_layJust_111 rfl ?_
      refine zV_aload_n dX3_layJust_112 rfl ?_
      refine zV_sg dX3_layJust_113 fm_101_53 sa_101 (by decide) fl_X3_104_3 rfl ?_
      refine zV_iload_n dX3_layJust_116 rfl ?_
      refine zV_iload dX3_layJust_117 rfl ?_
      refine zV_iadd dX3_layJust_119 ?_
      obtain ⟨ob, hP⟩ := hP
      refine zV_ia dX3_layJust_120 sa_133 ob ?_
      refine zV_ineg dX3_layJust_121 ?_
      refine zV_cVv (As := [zI (w32 (-(zd h17 133 (w32 (y2 + y4)))))]) (rest := []) dX3_layJust_122 sa_101 (W_M_lay _ _ _ hP) mi_X3_lay ml_X3_282 (by decide) (Nat.le_of_ble_eq_true rfl) rfl rfl (fun r18 h19 hP => ?_)
      refine zV_iconst dX3_layJust_125 ⟨by decide, by decide⟩ ?_
      refine zV_istore (ls' := [zR 101, zI y1, zI y2, zI y3, zI y4, zI 0]) dX3_layJust_126 (Nat.le_of_ble_eq_true rfl) rfl rfl ?_
      obtain ⟨n128, hP⟩ := hP
      refine W_M_layJust_L128 _ _ _ _ _ _ (fun h23 hP => ?_) n128 _ _ hP
      refine zV_aload_n dX3_layJust_160 rfl ?_
      refine zV_cVv (As := []) (rest := []) dX3_layJust_161 sa_101 (W_M_endRow _ _ hP) mi_X3_endRow ml_X3_286 (by decide) (Nat.le_of_ble_eq_true rfl) rfl rfl (fun r24 h25 hP => ?_)
      refine zV_inc (ls' := fun z => [zR 101, zI y1, zI y2, zI y3, zI z, zU]) dX3_layJust_164 (Nat.le_of_ble_eq_true rfl) rfl rfl (fun _ => rfl) (fun x4_26 e_x4_26 => ?_)
      have hP := hP x4_26 e_x4_26
      refine zV_goto (tgt := 100) dX3_layJust_167 (by decide) ?_
      exact ih _ _ hP
def P_M_layJust (a1 : Int) (a2 : Int) (a3 : Int) (h : zH) (Q : Int → zH → Prop) : Prop :=
∃ n3, P_M_layJust_L3 a1 a2 a3 Q (fun h4 =>
P_M_lay (w32 (-a1)) h4 (fun r5 h6 =>
P_M_endRow h6 (fun r7 h8 =>
∃ n41, P_M_layJust_L41 a1 a2 a3 Q (fun h15 =>
∃ n100, P_M_layJust_L100 a1 a2 a3 Q n100 0 h15) n41 0 h8))) n3 0 h
theorem W_M_layJust (a1 : Int) (a2 : Int) (a3 : Int) (h : zH) (Q : Int → zH → Prop) (hP : P_M_layJust a1 a2 a3 h Q) : zC true zy_X3_layJust 3 [zR 101, zI a1, zI a2, zI a3] h (zQ0 Q) := by
  unfold P_M_layJust at hP
  refine zC.of (by decide) (Nat.le_of_ble_eq_true rfl) ?_
  show zV true zy_X3_layJust 3 0 [zR 101, zI a1, zI a2, zI a3, zU, zU] [] h (zQ0 Q)
  refine zV_iconst dX3_layJust_0 ⟨by decide, by decide⟩ ?_
  refine zV_istore (ls' := [zR 101, zI a1, zI a2, zI a3, zI 0, zU]) dX3_layJust_1 (Nat.le_of_ble_eq_true rfl) rfl rfl ?_
  obtain ⟨n3, hP⟩ := hP
  refine W_M_layJust_L3 _ _ _ _ _ (fun h4 hP => ?_) n3 _ _ hP
  refine zV_aload_n dX3_layJust_28 rfl ?_
  refine zV_iload_n dX3_layJust_29 rfl ?_
  refine zV_ineg dX3_layJust_30 ?_
  refine zV_cVv (As := [zI (w32 (-a1))]) (rest := []) dX3_layJust_31 sa_101 (W_M_lay _ _ _ hP) mi_X3_lay ml_X3_282 (by decide) (Nat.le_of_ble_eq_true rfl) rfl rfl (fun r5 h6 hP => ?_)
  refine zV_aload_n dX3_layJust_34 rfl ?_
  refine zV_cVv (As := []) (rest := []) dX3_layJust_35 sa_101 (W_M_endRow _ _ hP) mi_X3_endRow ml_X3_286 (by decide) (Nat.le_of_ble_eq_true rfl) rfl rfl (fun r7 h8 hP => ?_)
  refine zV_iconst dX3_layJust_38 ⟨by decide, by decide⟩ ?_
  refine zV_istore (ls' := [zR 101, zI a1, zI a2, zI a3, zI 0, zU]) dX3_layJust_39 (Nat.le_of_ble_eq_true rfl) rfl rfl ?_
  obtain ⟨n41, hP⟩ := hP
  refine W_M_layJust_L41 _ _ _ _ _ (fun h15 hP => ?_) n41 _ _ hP
  refine zV_iconst dX3_layJust_97 ⟨by decide, by decide⟩ ?_
  refine zV_istore (ls' := [zR 101, zI a1, zI a2, zI a3, zI 0, zU]) dX3_layJust_98 (Nat.le_of_ble_eq_true rfl) rfl rfl ?_
  obtain ⟨n100, hP⟩ := hP
  refine W_M_layJust_L100 _ _ _ _ n100 _ _ hP
def P_M_layPart_J316 (y4 : Int) (y5 : Int) (h : zH) (Q : Int → zH → Prop) : Prop :=
∀ h8 : zH, h8 = zw h 101 54 (w32 (y5 + 1)) →
(0 ≤ y5 ∧ y5 < 60) ∧
∀ h9 : zH, h9 = zw h8 133 y5 y4 →
Q 0 h9
theorem W_M_layPart_J316 (y4 : Int) (y5 : Int) (h : zH) (Q : Int → zH → Prop) (hP : P_M_layPart_J316 y4 y5 h Q) : zV true zy_X3_layPart 4 316 [zR 101, zU, zU, zU, zI y4, zI y5, zU, zU] [] h (zQ0 Q) := by
  unfold P_M_layPart_J316 at hP
  refine zV_aload_n dX3_layPart_316 rfl ?_
  refine zV_iload dX3_layPart_317 rfl ?_
  refine zV_iconst dX3_layPart_319 ⟨by decide, by decide⟩ ?_
  refine zV_iadd dX3_layPart_320 ?_
  refine zV_pf dX3_layPart_321 sa_101 (by decide) fl_X3_359_3 rfl rfl trivial (ki := 54) rfl (fun h8 e_h8 => ?_)
  have hP := hP h8 e_h8
  refine zV_aload_n dX3_layPart_324 rfl ?_
  refine zV_sg dX3_layPart_325 fm_101_53 sa_101 (by decide) fl_X3_104_3 rfl ?_
  refine zV_iload dX3_layPart_328 rfl ?_
  refine zV_iload dX3_layPart_330 rfl ?_
  obtain ⟨ob, hP⟩ := hP
  refine zV_ias dX3_layPart_332 sa_133 ob (fun h9 e_h9 => ?_)
  have hP := hP h9 e_h9
  exact zV_return dX3_layPart_333 rfl ⟨rfl, hP⟩
def P_M_layPart_L177 (y2 : Int) (y4 : Int) (y5 : Int) (Q : Int → zH → Prop) (k206 : zH → Prop) : Nat → Int → zH → Prop
| 0, _, _ => False
| n177 + 1, y6, h =>
if y2 ≤ y6 then
(k206 h)
else
((0 ≤ w32 (y5 + y6) ∧ w32 (y5 + y6) < 60) ∧
P_M_layTwo (w32 (-(zd h 133 (w32 (y5 + y6))))) y4 h (fun r18 h19 =>
∀ x6_20 : Int, x6_20 = w32 (y6 + 1) →
P_M_layPart_L177 y2 y4 y5 Q k206 n177 x6_20 h19))
theorem W_M_layPart_L177 (y2 : Int) (y4 : Int) (y5 : Int) (Q : Int → zH → Prop) (k206 : zH → Prop) (H206 : ∀ (h' : zH), k206 h' → zV true zy_X3_layPart 4 206 [zR 101, zU, zI y2, zU, zI y4, zI y5, zU, zU] [] h' (zQ0 Q)) : ∀ (n177 : Nat) (y6 : Int) (h : zH), P_M_layPart_L177 y2 y4 y5 Q k206 n177 y6 h → zV true zy_X3_layPart 4 177 [zR 101, zU, zI y2, zU, zI y4, zI y5, zI y6, zU] [] h (zQ0 Q) := by
  intro n177
  induction n177 with
  | zero => intro y6 h hP; exact absurd hP id
  | succ n177 ih =>
    intro y6 h hP
    unfold P_M_layPart_L177 at hP
    refine zV_iload dX3_layPart_177 rfl ?_
    refine zV_iload_n dX3_layPart_179 rfl ?_
    refine zV_icmp_ge (tgt := 206) dX3_layPart_180 (by decide) (fun c => ?_) (fun c => ?_)
    · have hP := zif_p hP c
      refine zV_mask [true, true, true, true, true, true, false, true] (ls' := [zR 101, zU, zI y2, zU, zI y4, zI y5, zU, zU]) rfl ?_
      exact H206 _ hP
    · have hP := zif_n hP c
      refine zV_aload_n dX3_layPart_183 rfl ?_
      refine zV_aload_n dX3_layPart_184 rfl ?_
      refine zV_sg dX3_layPart_185 fm_101_53 sa_101 (by decide) fl_X3_104_3 rfl ?_
      refine zV_iload dX3_layPart_188 rfl ?_
      refine zV_iload dX3_layPart_190 rfl ?_
      refine zV_iadd dX3_layPart_192 ?_
      obtain ⟨ob, hP⟩ := hP
      refine zV_ia dX3_layPart_193 sa_133 ob ?_
      refine zV_ineg dX3_layPart_194 ?_
      refine zV_iload dX3_layPart_195 rfl ?_
      refine zV_cVv (As := [zI (w32 (-(zd h 133 (w32 (y5 + y6))))), zI y4]) (rest := []) dX3_layPart_197 sa_101 (W_M_layTwo _ _ _ _ hP) mi_X3_layTwo ml_X3_302 (by decide) (Nat.le_of_ble_eq_true rfl) rfl rfl (fun r18 h19 hP => ?_)
      refine zV_inc (ls' := fun z => [zR 101, zU, zI y2, zU, zI y4, zI y5, zI z, zU]) dX3_layPart_200 (Nat.le_of_ble_eq_true rfl) rfl rfl (fun _ => rfl) (fun x6_20 e_x6_20 => ?_)
      have hP := hP x6_20 e_x6_20
      refine zV_goto (tgt := 177) dX3_layPart_203 (by decide) ?_
      exact ih _ _ hP
def P_M_layPart_L209 (y2 : Int) (y4 : Int) (y5 : Int) (Q : Int → zH → Prop) (k235 : zH → Prop) : Nat → Int → zH → Prop
| 0, _, _ => False
| n209 + 1, y6, h =>
if y2 ≤ y6 then
(k235 h)
else
((0 ≤ w32 (y5 + y6) ∧ w32 (y5 + y6) < 60) ∧
P_M_lay (zd h 133 (w32 (y5 + y6))) h (fun r22 h23 =>
∀ x6_24 : Int, x6_24 = w32 (y6 + 1) →
P_M_layPart_L209 y2 y4 y5 Q k235 n209 x6_24 h23))
theorem W_M_layPart_L209 (y2 : Int) (y4 : Int) (y5 : Int) (Q : Int → zH → Prop) (k235 : zH → Prop) (H235 : ∀ (h' : zH), k235 h' → zV true zy_X3_layPart 4 235 [zR 101, zU, zU, zU, zI y4, zI y5, zU, zU] [] h' (zQ0 Q)) : ∀ (n209 : Nat) (y6 : Int) (h : zH), P_M_layPart_L209 y2 y4 y5 Q k235 n209 y6 h → zV true zy_X3_layPart 4 209 [zR 101, zU, zI y2, zU, zI y4, zI y5, zI y6, zU] [] h (zQ0 Q) := by
  intro n209
  induction n209 with
  | zero => intro y6 h hP; exact absurd hP id
  | succ n209 ih =>
    intro y6 h hP
    unfold P_M_layPart_L209 at hP
    refine zV_iload dX3_layPart_209 rfl ?_
    refine zV_iload_n dX3_layPart_211 rfl ?_
    refine zV_icmp_ge (tgt := 235) dX3_layPart_212 (by decide) (fun c => ?_) (fun c => ?_)
    · have hP := zif_p hP c
      refine zV_mask [true, true, false, true, true, true, false, true] (ls' := [zR 101, zU, zU, zU, zI y4, zI y5, zU, zU]) rfl ?_
      exact H235 _ hP
    · have hP := zif_n hP c
      refine zV_aload_n dX3_layPart_215 rfl ?_
      refine zV_aload_n dX3_layPart_216 rfl ?_
      refine zV_sg dX3_layPart_217 fm_101_53 sa_101 (by decide) fl_X3_104_3 rfl ?_
      refine zV_iload dX3_layPart_220 rfl ?_
      refine zV_iload dX3_layPart_222 rfl ?_
      refine zV_iadd dX3_layPart_224 ?_
      obtain ⟨ob, hP⟩ := hP
      refine zV_ia dX3_layPart_225 sa_133 ob ?_
      refine zV_cVv (As := [zI (zd h 133 (w32 (y5 + y6)))]) (rest := []) dX3_layPart_226 sa_101 (W_M_lay _ _ _ hP) mi_X3_lay ml_X3_282 (by decide) (Nat.le_of_ble_eq_true rfl) rfl rfl (fun r22 h23 hP => ?_)
      refine zV_inc (ls' := fun z => [zR 101, zU, zI y2, zU, zI y4, zI y5, zI z, zU]) dX3_layPart_229 (Nat.le_of_ble_eq_true rfl) rfl rfl (fun _ => rfl) (fun x6_24 e_x6_24 => ?_)
      have hP := hP x6_24 e_x6_24
      refine zV_goto (tgt := 209) dX3_layPart_232 (by decide) ?_
      exact ih _ _ hP
def P_M_layPart_L96 (y2 : Int) (y4 : Int) (y5 : Int) (Q : Int → zH → Prop) (k125 : zH → Prop) : Nat → Int → zH → Prop
| 0, _, _ => False
| n96 + 1, y6, h =>
if y2 ≤ y6 then
(k125 h)
else
((0 ≤ w32 (y5 + y6) ∧ w32 (y5 + y6) < 60) ∧
P_M_layTwo (zd h 133 (w32 (y5 + y6))) (w32 (-y4)) h (fun r30 h31 =>
∀ x6_32 : Int, x6_32 = w32 (y6 + 1) →
P_M_layPart_L96 y2 y4 y5 Q k125 n96 x6_32 h31))
theorem W_M_layPart_L96 (y2 : Int) (y4 : Int) (y5 : Int) (Q : Int → zH → Prop) (k125 : zH → Prop) (H125 : ∀ (h' : zH), k125 h' → zV true zy_X3_layPart 4 125 [zR 101, zU, zI y2, zU, zI y4, zI y5, zU, zU] [] h' (zQ0 Q)) : ∀ (n96 : Nat) (y6 : Int) (h : zH), P_M_layPart_L96 y2 y4 y5 Q k125 n96 y6 h → zV true zy_X3_layPart 4 96 [zR 101, zU, zI y2, zU, zI y4, zI y5, zI y6, zU] [] h (zQ0 Q) := by
  intro n96
  induction n96 with
  | zero => intro y6 h hP; exact absurd hP id
  | succ n96 ih =>
    intro y6 h hP
    unfold P_M_layPart_L96 at hP
    refine zV_iload dX3_layPart_96 rfl ?_
    refine zV_iload_n dX3_layPart_98 rfl ?_
    refine zV_icmp_ge (tgt := 125) dX3_layPart_99 (by decide) (fun c => ?_) (fun c => ?_)
    · have hP := zif_p hP c
      refine zV_mask [true, true, true, true, true, true, false, true] (ls' := [zR 101, zU, zI y2, zU, zI y4, zI y5, zU, zU]) rfl ?_
      exact H125 _ hP
    · have hP := zif_n hP c
      refine zV_aload_n dX3_layPart_102 rfl ?_
      refine zV_aload_n dX3_layPart_103 rfl ?_
      refine zV_sg dX3_layPart_104 fm_101_53 sa_101 (by decide) fl_X3_104_3 rfl ?_
      refine zV_iload dX3_layPart_107 rfl ?_
      refine zV_iload dX3_layPart_109 rfl ?_
      refine zV_iadd dX3_layPart_111 ?_
      obtain ⟨ob, hP⟩ := hP
      refine zV_ia dX3_layPart_112 sa_133 ob ?_
      refine zV_iload dX3_layPart_113 rfl ?_
      refine zV_ineg dX3_layPart_115 ?_
      refine zV_cVv (As := [zI (zd h 133 (w32 (y5 + y6))), zI (w32 (-y4))]) (rest := []) dX3_layPart_116 sa_101 (W_M_layTwo _ _ _ _ hP) mi_X3_layTwo ml_X3_302 (by decide) (Nat.le_of_ble_eq_true rfl) rfl rfl (fun r30 h31 hP => ?_)
      refine zV_inc (ls' := fun z => [zR 101, zU, zI y2, zU, zI y4, zI y5, zI z, zU]) dX3_layPart_119 (Nat.le_of_ble_eq_true rfl) rfl rfl (fun _ => rfl) (fun x6_32 e_x6_32 => ?_)
      have hP := hP x6_32 e_x6_32
      refine zV_goto (tgt := 96) dX3_layPart_122 (by decide) ?_
      exact ih _ _ hP
def P_M_layPart_L134 (y2 : Int) (y4 : Int) (y5 : Int) (Q : Int → zH → Prop) (k161 : zH → Prop) : Nat → Int → zH → Prop
| 0, _, _ => False
| n134 + 1, y6, h =>
if y2 ≤ y6 then
(k161 h)
else
((0 ≤ w32 (y5 + y6) ∧ w32 (y5 + y6) < 60) ∧
P_M_lay (w32 (-(zd h 133 (w32 (y5 + y6))))) h (fun r36 h37 =>
∀ x6_38 : Int, x6_38 = w32 (y6 + 1) →
P_M_layPart_L134 y2 y4 y5 Q k161 n134 x6_38 h37))
theorem W_M_layPart_L134 (y2 : Int) (y4 : Int) (y5 : Int) (Q : Int → zH → Prop) (k161 : zH → Prop) (H161 : ∀ (h' : zH), k161 h' → zV true zy_X3_layPart 4 161 [zR 101, zU, zU, zU, zI y4, zI y5, zU, zU] [] h' (zQ0 Q)) : ∀ (n134 : Nat) (y6 : Int) (h : zH), P_M_layPart_L134 y2 y4 y5 Q k161 n134 y6 h → zV true zy_X3_layPart 4 134 [zR 101, zU, zI y2, zU, zI y4, zI y5, zI y6, zU] [] h (zQ0 Q) := by
  intro n134
  induction n134 with
  | zero => intro y6 h hP; exact absurd hP id
  | succ n134 ih =>
    intro y6 h hP
    unfold P_M_layPart_L134 at hP
    refine zV_iload dX3_layPart_134 rfl ?_
    refine zV_iload_n dX3_layPart_136 rfl ?_
    refine zV_icmp_ge (tgt := 161) dX3_layPart_137 (by decide) (fun c => ?_) (fun c => ?_)
    · have hP := zif_p hP c
      refine zV_mask [true, true, false, true, true, true, false, true] (ls' := [zR 101, zU, zU, zU, zI y4, zI y5, zU, zU]) rfl ?_
      exact H161 _ hP
    · have hP := zif_n hP c
      refine zV_aload_n dX3_layPart_140 rfl ?_
      refine zV_aload_n dX3_layPart_141 rfl ?_
      refine zV_sg dX3_layPart_142 fm_101_53 sa_101 (by decide) fl_X3_104_3 rfl ?_
      refine zV_iload dX3_layPart_145 rfl ?_
      refine zV_iload dX3_layPart_147 rfl ?_
      refine zV_iadd dX3_layPart_149 ?_
      obtain ⟨ob, hP⟩ := hP
      refine zV_ia dX3_layPart_150 sa_133 ob ?_
      refine zV_ineg dX3_layPart_151 ?_
      refine zV_cVv (As := [zI (w32 (-(zd h 133 (w32 (y5 + y6)))))]) (rest := []) dX3_layPart_152 sa_101 (W_M_lay _ _ _ hP) mi_X3_lay ml_X3_282 (by decide) (Nat.le_of_ble_eq_true rfl) rfl rfl (fun r36 h37 hP => ?_)
      refine zV_inc (ls' := fun z => [zR 101, zU, zI y2, zU, zI y4, zI y5, zI z, zU]) dX3_layPart_155 (Nat.le_of_ble_eq_true rfl) rfl rfl (fun _ => rfl) (fun x6_38 e_x6_38 => ?_)
      have hP := hP x6_38 e_x6_38
      refine zV_goto (tgt := 134) dX3_layPart_158 (by decide) ?_
      exact ih _ _ hP
def P_M_layPart (a1 : Int) (h : zH) (Q : Int → zH → Prop) : Prop :=
if 0 ≤ a1 then
(if a1 = 0 then
((0 ≤ w32 ((zd h 101 54) - 1) ∧ w32 ((zd h 101 54) - 1) < 60) ∧
(0 ≤ w32 ((zd h 101 54) - 1) ∧ w32 ((zd h 101 54) - 1) < 60) ∧
∀ h42 : zH, h42 = zw h 133 (w32 ((zd h 101 54) - 1)) (w32 (-(zd h 133 (w32 ((zd h 101 54) - 1))))) →
Q 0 h42)
else
(∀ x2_1 : Int, x2_1 = (Int.tmod a1 1000) →
∀ x3_2 : Int, x3_2 = (w32 (Int.tdiv a1 1000)) →
P_M_newName h (fun r3 h4 =>
∀ x5_5 : Int, x5_5 = (w32 ((zd h4 101 54) - x2_1)) →
if x3_2 = 38 then
(∃ n96, P_M_layPart_L96 x2_1 r3 x5_5 Q (fun h33 =>
P_M_lay r3 h33 (fun r34 h35 =>
∃ n134, P_M_layPart_L134 x2_1 r3 x5_5 Q (fun h39 =>
P_M_endRow h39 (fun r40 h41 =>
P_M_layPart_J316 r3 x5_5 h41 Q)) n134 0 h35)) n96 0 h4)
else
(if x3_2 = 124 then
(∃ n177, P_M_layPart_L177 x2_1 r3 x5_5 Q (fun h21 =>
∃ n209, P_M_layPart_L209 x2_1 r3 x5_5 Q (fun h25 =>
P_M_lay (w32 (-r3)) h25 (fun r26 h27 =>
P_M_endRow h27 (fun r28 h29 =>
P_M_layPart_J316 r3 x5_5 h29 Q))) n209 0 h21) n177 0 h4)
else
(if x3_2 = 62 then
((0 ≤ x5_5 ∧ x5_5 < 60) ∧
∀ x6_10 : Int, x6_10 = (zd h4 133 x5_5) →
(0 ≤ w32 (x5_5 + 1) ∧ w32 (x5_5 + 1) < 60) ∧
∀ x7_11 : Int, x7_11 = (zd h4 133 (w32 (x5_5 + 1))) →
P_M_layTwo x6_10 r3 h4 (fun r12 h13 =>
P_M_layTwo (w32 (-x7_11)) r3 h13 (fun r14 h15 =>
P_M_layThree (w32 (-x6_10)) x7_11 (w32 (-r3)) h15 (fun r16 h17 =>
P_M_layPart_J316 r3 x5_5 h17 Q))))
else
(P_M_layJust r3 x5_5 x2_1 h4 (fun r6 h7 =>
P_M_layPart_J316 r3 x5_5 h7 Q)))))))
else
((0 ≤ w32 ((w32 (-a1)) - 1) ∧ w32 ((w32 (-a1)) - 1) < 40) ∧
(0 ≤ zd h 101 54 ∧ zd h 101 54 < 60) ∧
∀ h43 : zH, h43 = zw h 133 (zd h 101 54) (zd h 127 (w32 ((w32 (-a1)) - 1))) →
∀ h44 : zH, h44 = zw h43 101 54 (w32 ((zd h43 101 54) + 1)) →
Q 0 h44)
theorem W_M_layPart (a1 : Int) (h : zH) (Q : Int → zH → Prop) (hP : P_M_layPart a1 h Q) : zC true zy_X3_layPart 4 [zR 101, zI a1] h (zQ0 Q) := by
  unfold P_M_layPart at hP
  refine zC.of (by decide) (Nat.le_of_ble_eq_true rfl) ?_
  show zV true zy_X3_layPart 4 0 [zR 101, zI a1, zU, zU, zU, zU, zU, zU] [] h (zQ0 Q)
  refine zV_iload_n dX3_layPart_0 rfl ?_
  refine zV_if_ge (tgt := 33) dX3_layPart_1 (by decide) (fun c => ?_) (fun c => ?_)
  · have hP := zif_p hP c
    refine zV_iload_n dX3_layPart_33 rfl ?_
    refine zV_if_ne (tgt := 61) dX3_layPart_34 (by decide) (fun c => ?_) (fun c => ?_)
    · have hP := zif_n hP c
      refine zV_iload_n dX3_layPart_61 rfl ?_
      refine zV_sipush dX3_layPart_62 ⟨by decide, by decide, by decide⟩ ?_
      refine zV_irem dX3_layPart_65 (by decide) ?_
      refine zV_top (fun x2_1 e_x2_1 => ?_)
      have hP := hP x2_1 e_x2_1
      refine zV_istore_n (ls' := [zR 101, zI a1, zI x2_1, zU, zU, zU, zU, zU]) dX3_layPart_66 rfl (Nat.le_of_ble_eq_true rfl) rfl rfl ?_
      refine zV_iload_n dX3_layPart_67 rfl ?_
      refine zV_sipush dX3_layPart_68 ⟨by decide, by decide, by decide⟩ ?_
      refine zV_idiv dX3_layPart_71 (by decide) ?_
      refine zV_top (fun x3_2 e_x3_2 => ?_)
      have hP := hP x3_2 e_x3_2
      refine zV_istore_n (ls' := [zR 101, zI a1, zI x2_1, zI x3_2, zU, zU, zU, zU]) dX3_layPart_72 rfl (Nat.le_of_ble_eq_true rfl) rfl rfl ?_
      refine zV_aload_n dX3_layPart_73 rfl ?_
      refine zV_cVk (As := []) (rest := []) dX3_layPart_74 sa_101 (W_M_newName _ _ hP) mi_X3_newName ml_X3_298 (by decide) (Nat.le_of_ble_eq_true rfl) rfl rfl rfl (fun r3 h4 hP => ?_)
      refine zV_istore (ls' := [zR 101, zI a1, zI x2_1, zI x3_2, zI r3, zU, zU, zU]) dX3_layPart_77 (Nat.le_of_ble_eq_true rfl) rfl rfl ?_
      refine zV_aload_n dX3_layPart_79 rfl ?_
      refine zV_gf dX3_layPart_80 sa_101 (by decide) fl_X3_359_3 rfl (ki := 54) rfl ?_
      refine zV_iload_n dX3_layPart_83 rfl ?_
      refine zV_isub dX3_layPart_84 ?_
      refine zV_top (fun x5_5 e_x5_5 => ?_)
      have hP := hP x5_5 e_x5_5
      refine zV_istore (ls' := [zR 101, zI a1, zI x2_1, zI x3_2, zI r3, zI x5_5, zU, zU]) dX3_layPart_85 (Nat.le_of_ble_eq_true rfl) rfl rfl ?_
      refine zV_iload_n dX3_layPart_87 rfl ?_
      refine zV_bipush dX3_layPart_88 ⟨by decide, by decide, by decide⟩ ?_
      refine zV_icmp_ne (tgt := 168) dX3_layPart_90 (by decide) (fun c => ?_) (fun c => ?_)
      · have hP := zif_n hP c
        refine zV_iload_n dX3_layPart_168 rfl ?_
        refine zV_bipush dX3_layPart_169 ⟨by decide, by decide, by decide⟩ ?_
        refine zV_icmp_ne (tgt := 249) dX3_layPart_171 (by decide) (fun c => ?_) (fun c => ?_)
        · have hP := zif_n hP c
          refine zV_iload_n dX3_layPart_249 rfl ?_
          refine zV_bipush dX3_layPart_250 ⟨by decide, by decide, by decide⟩ ?_
          refine zV_icmp_ne (tgt := 307) dX3_layPart_252 (by decide) (fun c => ?_) (fun c => ?_)
          · have hP := zif_n hP c
            refine zV_aload_n dX3_layPart_307 rfl ?_
            refine zV_iload dX3_layPart_308 rfl ?_
            refine zV_iload dX3_layPart_310 rfl ?_
            refine zV_iload_n dX3_layPart_312 rfl ?_
            refine zV_cVv (As := [zI r3, zI x5_5, zI x2_1]) (rest := []) dX3_layPart_313 sa_101 (W_M_layJust _ _ _ _ _ hP) mi_X3_layJust ml_X3_362 (by decide) (Nat.le_of_ble_eq_true rfl) rfl rfl (fun r6 h7 hP => ?_)
            refine zV_mask [true, false, false, false, true, true, true, true] (ls' := [zR 101, zU, zU, zU, zI r3, zI x5_5, zU, zU]) rfl ?_
            exact W_M_layPart_J316 _ _ _ _ hP
          · have hP := zif_p hP c
            refine zV_aload_n dX3_layPart_255 rfl ?_
            refine zV_sg dX3_layPart_256 fm_101_53 sa_101 (by decide) fl_X3_104_3 rfl ?_
            refine zV_iload dX3_layPart_259 rfl ?_
            obtain ⟨ob, hP⟩ := hP
            refine zV_ia dX3_layPart_261 sa_133 ob ?_
            refine zV_top (fun x6_10 e_x6_10 => ?_)
            have hP := hP x6_10 e_x6_10
            refine zV_istore (ls' := [zR 101, zI a1, zI x2_1, zI x3_2, zI r3, zI x5_5, zI x6_10, zU]) dX3_layPart_262 (Nat.le_of_ble_eq_true rfl) rfl rfl ?_
            refine zV_aload_n dX3_layPart_264 rfl ?_
            refine zV_sg dX3_layPart_265 fm_101_53 sa_101 (by decide) fl_X3_104_3 rfl ?_
            refine zV_iload dX3_layPart_268 rfl ?_
            refine zV_iconst dX3_layPart_270 ⟨by decide, by decide⟩ ?_
            refine zV_iadd dX3_layPart_271 ?_
            obtain ⟨ob, hP⟩ := hP
            refine zV_ia dX3_layPart_272 sa_133 ob ?_
            refine zV_top (fun x7_11 e_x7_11 => ?_)
            have hP := hP x7_11 e_x7_11
            refine zV_istore (ls' := [zR 101, zI a1, zI x2_1, zI x3_2, zI r3, zI x5_5, zI x6_10, zI x7_11]) dX3_layPart_273 (Nat.le_of_ble_eq_true rfl) rfl rfl ?_
            refine zV_aload_n dX3_layPart_275 rfl ?_
            refine zV_iload dX3_layPart_276 rfl ?_
            refine zV_iload dX3_layPart_278 rfl ?_
            refine zV_cVv (As := [zI x6_10, zI r3]) (rest := []) dX3_layPart_280 sa_101 (W_M_layTwo _ _ _ _ hP) mi_X3_layTwo ml_X3_302 (by decide) (Nat.le_of_ble_eq_true rfl) rfl rfl (fun r12 h13 hP => ?_)
            refine zV_aload_n dX3_layPart_283 rfl ?_
            refine zV_iload dX3_layPart_284 rfl ?_
            refine zV_ineg dX3_layPart_286 ?_
            refine zV_iload dX3_layPart_287 rfl ?_
            refine zV_cVv (As := [zI (w32 (-x7_11)), zI r3]) (rest := []) dX3_layPart_289 sa_101 (W_M_layTwo _ _ _ _ hP) mi_X3_layTwo ml_X3_302 (by decide) (Nat.le_of_ble_eq_true rfl) rfl rfl (fun r14 h15 hP => ?_)
            refine zV_aload_n dX3_layPart_292 rfl ?_
            refine zV_iload dX3_layPart_293 rfl ?_
            refine zV_ineg dX3_layPart_295 ?_
            refine zV_iload dX3_layPart_296 rfl ?_
            refine zV_iload dX3_layPart_298 rfl ?_
            refine zV_ineg dX3_layPart_300 ?_
            refine zV_cVv (As := [zI (w32 (-x6_10)), zI x7_11, zI (w32 (-r3))]) (rest := []) dX3_layPart_301 sa_101 (W_M_layThree _ _ _ _ _ hP) mi_X3_layThree ml_X3_306 (by decide) (Nat.le_of_ble_eq_true rfl) rfl rfl (fun r16 h17 hP => ?_)
            refine zV_goto (tgt := 316) dX3_layPart_304 (by decide) ?_
            refine zV_mask [true, false, false, false, true, true, false, false] (ls' := [zR 101, zU, zU, zU, zI r3, zI x5_5, zU, zU]) rfl ?_
            exact W_M_layPart_J316 _ _ _ _ hP
        · have hP := zif_p hP c
          refine zV_iconst dX3_layPart_174 ⟨by decide, by decide⟩ ?_
          refine zV_istore (ls' := [zR 101, zI a1, zI x2_1, zI x3_2, zI r3, zI x5_5, zI 0, zU]) dX3_layPart_175 (Nat.le_of_ble_eq_true rfl) rfl rfl ?_
          obtain ⟨n177, hP⟩ := hP
          refine zV_mask [true, false, true, false, true, true, true, true] (ls' := [zR 101, zU, zI x2_1, zU, zI r3, zI x5_5, zI 0, zU]) rfl ?_
          refine W_M_layPart_L177 _ _ _ _ _ (fun h21 hP => ?_) n177 _ _ hP
          refine zV_iconst dX3_layPart_206 ⟨by decide, by decide⟩ ?_
          refine zV_istore (ls' := [zR 101, zU, zI x2_1, zU, zI r3, zI x5_5, zI 0, zU]) dX3_layPart_207 (Nat.le_of_ble_eq_true rfl) rfl rfl ?_
          obtain ⟨n209, hP⟩ := hP
          refine W_M_layPart_L209 _ _ _ _ _ (fun h25 hP => ?_) n209 _ _ hP
          refine zV_aload_n dX3_layPart_235 rfl ?_
          refine zV_iload dX3_layPart_236 rfl ?_
          refine zV_ineg dX3_layPart_238 ?_
          refine zV_cVv (As := [zI (w32 (-r3))]) (rest := []) dX3_layPart_239 sa_101 (W_M_lay _ _ _ hP) mi_X3_lay ml_X3_282 (by decide) (Nat.le_of_ble_eq_true rfl) rfl rfl (fun r26 h27 hP => ?_)
          refine zV_aload_n dX3_layPart_242 rfl ?_
          refine zV_cVv (As := []) (rest := []) dX3_layPart_243 sa_101 (W_M_endRow _ _ hP) mi_X3_endRow ml_X3_286 (by decide) (Nat.le_of_ble_eq_true rfl) rfl rfl (fun r28 h29 hP => ?_)
          refine zV_goto (tgt := 316) dX3_layPart_246 (by decide) ?_
          exact W_M_layPart_J316 _ _ _ _ hP
      · have hP := zif_p hP c
        refine zV_iconst dX3_layPart_93 ⟨by decide, by decide⟩ ?_
        refine zV_istore (ls' := [zR 101, zI a1, zI x2_1, zI x3_2, zI r3, zI x5_5, zI 0, zU]) dX3_layPart_94 (Nat.le_of_ble_eq_true rfl) rfl rfl ?_
        obtain ⟨n96, hP⟩ := hP
        refine zV_mask [true, false, true, false, true, true, true, true] (ls' := [zR 101, zU, zI x2_1, zU, zI r3, zI x5_5, zI 0, zU]) rfl ?_
        refine W_M_layPart_L96 _ _ _ _ _ (fun h33 hP => ?_) n96 _ _ hP
        refine zV_aload_n dX3_layPart_125 rfl ?_
        refine zV_iload dX3_layPart_126 rfl ?_
        refine zV_cVv (As := [zI r3]) (rest := []) dX3_layPart_128 sa_101 (W_M_lay _ _ _ hP) mi_X3_lay ml_X3_282 (by decide) (Nat.le_of_ble_eq_true rfl) rfl rfl (fun r34 h35 hP => ?_)
        refine zV_iconst dX3_layPart_131 ⟨by decide, by decide⟩ ?_
        refine zV_istore (ls' := [zR 101, zU, zI x2_1, zU, zI r3, zI x5_5, zI 0, zU]) dX3_layPart_132 (Nat.le_of_ble_eq_true rfl) rfl rfl ?_
        obtain ⟨n134, hP⟩ := hP
        refine W_M_layPart_L134 _ _ _ _ _ (fun h39 hP => ?_) n134 _ _ hP
        refine zV_aload_n dX3_layPart_161 rfl ?_
        refine zV_cVv (As := []) (rest := []) dX3_layPart_162 sa_101 (W_M_endRow _ _ hP) mi_X3_endRow ml_X3_286 (by decide) (Nat.le_of_ble_eq_true rfl) rfl rfl (fun r40 h41 hP => ?_)
        refine zV_goto (tgt := 316) dX3_layPart_165 (by decide) ?_
        exact W_M_layPart_J316 _ _ _ _ hP
    · have hP := zif_p hP c
      refine zV_aload_n dX3_layPart_37 rfl ?_
      refine zV_sg dX3_layPart_38 fm_101_53 sa_101 (by decide) fl_X3_104_3 rfl ?_
      refine zV_aload_n dX3_layPart_41 rfl ?_
      refine zV_gf dX3_layPart_42 sa_101 (by decide) fl_X3_359_3 rfl (ki := 54) rfl ?_
      refine zV_iconst dX3_layPart_45 ⟨by decide, by decide⟩ ?_
      refine zV_isub dX3_layPart_46 ?_
      refine zV_aload_n dX3_layPart_47 rfl ?_
      refine zV_sg dX3_layPart_48 fm_101_53 sa_101 (by decide) fl_X3_104_3 rfl ?_
      refine zV_aload_n dX3_layPart_51 rfl ?_
      refine zV_gf dX3_layPart_52 sa_101 (by decide) fl_X3_359_3 rfl (ki := 54) rfl ?_
      refine zV_iconst dX3_layPart_55 ⟨by decide, by decide⟩ ?_
      refine zV_isub dX3_layPart_56 ?_
      obtain ⟨ob, hP⟩ := hP
      refine zV_ia dX3_layPart_57 sa_133 ob ?_
      refine zV_ineg dX3_layPart_58 ?_
      obtain ⟨ob, hP⟩ := hP
      refine zV_ias dX3_layPart_59 sa_133 ob (fun h42 e_h42 => ?_)
      have hP := hP h42 e_h42
      exact zV_return dX3_layPart_60 rfl ⟨rfl, hP⟩
  · have hP := zif_n hP c
    refine zV_aload_n dX3_layPart_4 rfl ?_
    refine zV_sg dX3_layPart_5 fm_101_53 sa_101 (by decide) fl_X3_104_3 rfl ?_
    refine zV_aload_n dX3_layPart_8 rfl ?_
    refine zV_gf dX3_layPart_9 sa_101 (by decide) fl_X3_359_3 rfl (ki := 54) rfl ?_
    refine zV_aload_n dX3_layPart_12 rfl ?_
    refine zV_sg dX3_layPart_13 fm_101_41 sa_101 (by decide) fl_X3_86_3 rfl ?_
    refine zV_iload_n dX3_layPart_16 rfl ?_
    refine zV_ineg dX3_layPart_17 ?_
    refine zV_iconst dX3_layPart_18 ⟨by decide, by decide⟩ ?_
    refine zV_isub dX3_layPart_19 ?_
    obtain ⟨ob, hP⟩ := hP
    refine zV_ia dX3_layPart_20 sa_127 ob ?_
    obtain ⟨ob, hP⟩ := hP
    refine zV_ias dX3_layPart_21 sa_133 ob (fun h43 e_h43 => ?_)
    have hP := hP h43 e_h43
    refine zV_aload_n dX3_layPart_22 rfl ?_
    refine zV_dup dX3_layPart_23 (Nat.ne_of_beq_eq_false rfl) ?_
    refine zV_gf dX3_layPart_24 sa_101 (by decide) fl_X3_359_3 rfl (ki := 54) rfl ?_
    refine zV_iconst dX3_layPart_27 ⟨by decide, by decide⟩ ?_
    refine zV_iadd dX3_layPart_28 ?_
    refine zV_pf dX3_layPart_29 sa_101 (by decide) fl_X3_359_3 rfl rfl trivial (ki := 54) rfl (fun h44 e_h44 => ?_)
    have hP := hP h44 e_h44
    exact zV_return dX3_layPart_32 rfl ⟨rfl, hP⟩
def P_M_told_J62 (y2 : Int) (y4 : Int) (s0 : Int) (h : zH) (Q : Int → zH → Prop) (k34 : Int → Int → zH → Prop) : Prop :=
∀ x4_7 : Int, x4_7 = w32 (y4 + 1) →
k34 s0 x4_7 h
theorem W_M_told_J62 (y2 : Int) (y4 : Int) (s0 : Int) (h : zH) (Q : Int → zH → Prop) (k34 : Int → Int → zH → Prop) (H34 : ∀ (v3 v4 : Int) (h' : zH), k34 v3 v4 h' → zV true zy_X3_told 5 34 [zR 101, zU, zI y2, zI v3, zI v4, zU] [] h' (zQ0 Q)) (hP : P_M_told_J62 y2 y4 s0 h Q k34) : zV true zy_X3_told 5 62 [zR 101, zU, zI y2, zU, zI y4, zU] [zI s0] h (zQ0 Q) := by
  unfold P_M_told_J62 at hP
  refine zV_istore_n (ls' := [zR 101, zU, zI y2, zI s0, zI y4, zU]) dX3_told_62 rfl (Nat.le_of_ble_eq_true rfl) rfl rfl ?_
  refine zV_inc (ls' := fun z => [zR 101, zU, zI y2, zI s0, zI z, zU]) dX3_told_63 (Nat.le_of_ble_eq_true rfl) rfl rfl (fun _ => rfl) (fun x4_7 e_x4_7 => ?_)
  have hP := hP x4_7 e_x4_7
  refine zV_goto (tgt := 34) dX3_told_66 (by decide) ?_
  exact H34 _ _ _ hP
def P_M_told_L34 (y2 : Int) (Q : Int → zH → Prop) (k69 : Int → zH → Prop) : Nat → Int → Int → zH → Prop
| 0, _, _, _ => False
| n34 + 1, y3, y4, h =>
if zd h 101 42 ≤ y4 then
(k69 y3 h)
else
(if 0 ≤ y3 then
((0 ≤ y4 ∧ y4 < 40) ∧
P_M_wrongItem (zd h 127 y4) h (fun r5 h6 =>
P_M_told_J62 y2 y4 r5 h6 Q (P_M_told_L34 y2 Q k69 n34)))
else
(P_M_told_J62 y2 y4 y3 h Q (P_M_told_L34 y2 Q k69 n34)))
theorem W_M_told_L34 (y2 : Int) (Q : Int → zH → Prop) (k69 : Int → zH → Prop) (H69 : ∀ (v3 : Int) (h' : zH), k69 v3 h' → zV true zy_X3_told 5 69 [zR 101, zU, zI y2, zI v3, zU, zU] [] h' (zQ0 Q)) : ∀ (n34 : Nat) (y3 y4 : Int) (h : zH), P_M_told_L34 y2 Q k69 n34 y3 y4 h → zV true zy_X3_told 5 34 [zR 101, zU, zI y2, zI y3, zI y4, zU] [] h (zQ0 Q) := by
  intro n34
  induction n34 with
  | zero => intro y3 y4 h hP; exact absurd hP id
  | succ n34 ih =>
    intro y3 y4 h hP
    unfold P_M_told_L34 at hP
    refine zV_iload dX3_told_34 rfl ?_
    refine zV_aload_n dX3_told_36 rfl ?_
    refine zV_gf dX3_told_37 sa_101 (by decide) fl_X3_292_3 rfl (ki := 42) rfl ?_
    refine zV_icmp_ge (tgt := 69) dX3_told_40 (by decide) (fun c => ?_) (fun c => ?_)
    · have hP := zif_p hP c
      refine zV_mask [true, true, true, true, false, true] (ls' := [zR 101, zU, zI y2, zI y3, zU, zU]) rfl ?_
      exact H69 _ _ hP
    · have hP := zif_n hP c
      refine zV_iload_n dX3_told_43 rfl ?_
      refine zV_if_ge (tgt := 51) dX3_told_44 (by decide) (fun c => ?_) (fun c => ?_)
      · have hP := zif_p hP c
        refine zV_aload_n dX3_told_51 rfl ?_
        refine zV_aload_n dX3_told_52 rfl ?_
        refine zV_sg dX3_told_53 fm_101_41 sa_101 (by decide) fl_X3_86_3 rfl ?_
        refine zV_iload dX3_told_56 rfl ?_
        obtain ⟨ob, hP⟩ := hP
        refine zV_ia dX3_told_58 sa_127 ob ?_
        refine zV_cVk (As := [zI (zd h 127 y4)]) (rest := []) dX3_told_59 sa_101 (W_M_wrongItem _ _ _ hP) mi_X3_wrongItem ml_X3_295 (by decide) (Nat.le_of_ble_eq_true rfl) rfl rfl rfl (fun r5 h6 hP => ?_)
        refine zV_mask [true, true, true, false, true, true] (ls' := [zR 101, zU, zI y2, zU, zI y4, zU]) rfl ?_
        exact W_M_told_J62 _ _ _ _ _ _ ih hP
      · have hP := zif_n hP c
        refine zV_iload_n dX3_told_47 rfl ?_
        refine zV_goto (tgt := 62) dX3_told_48 (by decide) ?_
        refine zV_mask [true, true, true, false, true, true] (ls' := [zR 101, zU, zI y2, zU, zI y4, zU]) rfl ?_
        exact W_M_told_J62 _ _ _ _ _ _ ih hP
def P_M_told_L91 (y2 : Int) (Q : Int → zH → Prop) (k117 : zH → Prop) : Nat → Int → zH → Prop
| 0, _, _ => False
| n91 + 1, y4, h =>
if zd h 101 46 ≤ y4 then
(k117 h)
else
((0 ≤ y4 ∧ y4 < 60) ∧
P_M_layPart (zd h 130 y4) h (fun r12 h13 =>
∀ x4_14 : Int, x4_14 = w32 (y4 + 1) →
P_M_told_L91 y2 Q k117 n91 x4_14 h13))
theorem W_M_told_L91 (y2 : Int) (Q : Int → zH → Prop) (k117 : zH → Prop) (H117 : ∀ (h' : zH), k117 h' → zV true zy_X3_told 5 117 [zR 101, zU, zI y2, zU, zU, zU] [] h' (zQ0 Q)) : ∀ (n91 : Nat) (y4 : Int) (h : zH), P_M_told_L91 y2 Q k117 n91 y4 h → zV true zy_X3_told 5 91 [zR 101, zU, zI y2, zU, zI y4, zU] [] h (zQ0 Q) := by
  intro n91
  induction n91 with
  | zero => intro y4 h hP; exact absurd hP id
  | succ n91 ih =>
    intro y4 h hP
    unfold P_M_told_L91 at hP
    refine zV_iload dX3_told_91 rfl ?_
    refine zV_aload_n dX3_told_93 rfl ?_
    refine zV_gf dX3_told_94 sa_101 (by decide) fl_X3_343_3 rfl (ki := 46) rfl ?_
    refine zV_icmp_ge (tgt := 117) dX3_told_97 (by decide) (fun c => ?_) (fun c => ?_)
    · have hP := zif_p hP c
      refine zV_mask [true, true, true, true, false, true] (ls' := [zR 101, zU, zI y2, zU, zU, zU]) rfl ?_
      exact H117 _ hP
    · have hP := zif_n hP c
      refine zV_aload_n dX3_told_100 rfl ?_
      refine zV_aload_n dX3_told_101 rfl ?_
      refine zV_sg dX3_told_102 fm_101_45 sa_101 (by decide) fl_X3_95_3 rfl ?_
      refine zV_iload dX3_told_105 rfl ?_
      obtain ⟨ob, hP⟩ := hP
      refine zV_ia dX3_told_107 sa_130 ob ?_
      refine zV_cVv (As := [zI (zd h 130 y4)]) (rest := []) dX3_told_108 sa_101 (W_M_layPart _ _ _ hP) mi_X3_layPart ml_X3_368 (by decide) (Nat.le_of_ble_eq_true rfl) rfl rfl (fun r12 h13 hP => ?_)
      refine zV_inc (ls' := fun z => [zR 101, zU, zI y2, zU, zI z, zU]) dX3_told_111 (Nat.le_of_ble_eq_true rfl) rfl rfl (fun _ => rfl) (fun x4_14 e_x4_14 => ?_)
      have hP := hP x4_14 e_x4_14
      refine zV_goto (tgt := 91) dX3_told_114 (by decide) ?_
      exact ih _ _ hP
def P_M_told_L156 (y2 : Int) (y4 : Int) (Q : Int → zH → Prop) (k188 : zH → Prop) : Nat → Int → zH → Prop
| 0, _, _ => False
| n156 + 1, y5, h =>
if y2 ≤ y5 then
(k188 h)
else
((0 ≤ y5 ∧ y5 < 60) ∧
(0 ≤ w32 ((w32 (60 * y4)) + y5) ∧ w32 ((w32 (60 * y4)) + y5) < 3600) ∧
∀ h23 : zH, h23 = zw h 115 (w32 ((w32 (60 * y4)) + y5)) (zd h 106 y5) →
∀ x5_24 : Int, x5_24 = w32 (y5 + 1) →
P_M_told_L156 y2 y4 Q k188 n156 x5_24 h23)
theorem W_M_told_L156 (y2 : Int) (y4 : Int) (Q : Int → zH → Prop) (k188 : zH → Prop) (H188 : ∀ (h' : zH), k188 h' → zV true zy_X3_told 5 188 [zR 101, zU, zU, zU, zI y4, zU] [] h' (zQ0 Q)) : ∀ (n156 : Nat) (y5 : Int) (h : zH), P_M_told_L156 y2 y4 Q k188 n156 y5 h → zV true zy_X3_told 5 156 [zR 101, zU, zI y2, zU, zI y4, zI y5] [] h (zQ0 Q) := by
  intro n156
  induction n156 with
  | zero => intro y5 h hP; exact absurd hP id
  | succ n156 ih =>
    intro y5 h hP
    unfold P_M_told_L156 at hP
    refine zV_iload dX3_told_156 rfl ?_
    refine zV_iload_n dX3_told_158 rfl ?_
    refine zV_icmp_ge (tgt := 188) dX3_told_159 (by decide) (fun c => ?_) (fun c => ?_)
    · have hP := zif_p hP c
      refine zV_mask [true, true, false, true, true, false] (ls' := [zR 101, zU, zU, zU, zI y4, zU]) rfl ?_
      exact H188 _ hP
    · have hP := zif_n hP c
      refine zV_aload_n dX3_told_162 rfl ?_
      refine zV_sg dX3_told_163 fm_101_19 sa_101 (by decide) fl_X3_50_3 rfl ?_
      refine zV_bipush dX3_told_166 ⟨by decide, by decide, by decide⟩ ?_
      refine zV_iload dX3_told_168 rfl ?_
      refine zV_imul dX3_told_170 ?_
      refine zV_iload dX3_told_171 rfl ?_
      refine zV_iadd dX3_told_173 ?_
      refine zV_aload_n dX3_told_174 rfl ?_
      refine zV_sg dX3_told_175 fm_101_7 sa_101 (by decide) fl_X3_23_3 rfl ?_
      refine zV_iload dX3_told_178 rfl ?_
      obtain ⟨ob, hP⟩ := hP
      refine zV_ia dX3_told_180 sa_106 ob ?_
      obtain ⟨ob, hP⟩ := hP
      refine zV_ias dX3_told_181 sa_115 ob (fun h23 e_h23 => ?_)
      have hP := hP h23 e_h23
      refine zV_inc (ls' := fun z => [zR 101, zU, zI y2, zU, zI y4, zI z]) dX3_told_182 (Nat.le_of_ble_eq_true rfl) rfl rfl (fun _ => rfl) (fun x5_24 e_x5_24 => ?_)
      have hP := hP x5_24 e_x5_24
      refine zV_goto (tgt := 156) dX3_told_185 (by decide) ?_
      exact ih _ _ hP
def P_M_told_L202 (y4 : Int) (Q : Int → zH → Prop) : Nat → Int → zH → Prop
| 0, _, _ => False
| n202 + 1, y5, h =>
if zd h 101 46 ≤ y5 then
(Q y4 h)
else
((0 ≤ y5 ∧ y5 < 60) ∧
(0 ≤ w32 ((w32 (60 * y4)) + y5) ∧ w32 ((w32 (60 * y4)) + y5) < 3600) ∧
∀ h27 : zH, h27 = zw h 117 (w32 ((w32 (60 * y4)) + y5)) (zd h 130 y5) →
∀ x5_28 : Int, x5_28 = w32 (y5 + 1) →
P_M_told_L202 y4 Q n202 x5_28 h27)
theorem W_M_told_L202 (y4 : Int) (Q : Int → zH → Prop) : ∀ (n202 : Nat) (y5 : Int) (h : zH), P_M_told_L202 y4 Q n202 y5 h → zV true zy_X3_told 5 202 [zR 101, zU, zU, zU, zI y4, zI y5] [] h (zQ0 Q) := by
  intro n202
  induction n202 with
  | zero => intro y5 h hP; exact absurd hP id
  | succ n202 ih =>
    intro y5 h hP
    unfold P_M_told_L202 at hP
    refine zV_iload dX3_told_202 rfl ?_
    refine zV_aload_n dX3_told_204 rfl ?_
    refine zV_gf dX3_told_205 sa_101 (by decide) fl_X3_343_3 rfl (ki := 46) rfl ?_
    refine zV_icmp_ge (tgt := 237) dX3_told_208 (by decide) (fun c => ?_) (fun c => ?_)
    · have hP := zif_p hP c
      refine zV_iload dX3_told_237 rfl ?_
      exact zV_ireturn dX3_told_239 rfl rfl rfl ⟨rfl, hP⟩
    · have hP := zif_n hP c
      refine zV_aload_n dX3_told_211 rfl ?_
      refine zV_sg dX3_told_212 fm_101_21 sa_101 (by decide) fl_X3_56_3 rfl ?_
      refine zV_bipush dX3_told_215 ⟨by decide, by decide, by decide⟩ ?_
      refine zV_iload dX3_told_217 rfl ?_
      refine zV_imul dX3_told_219 ?_
      refine zV_iload dX3_told_220 rfl ?_
      refine zV_iadd dX3_told_222 ?_
      refine zV_aload_n dX3_told_223 rfl ?_
      refine zV_sg dX3_told_224 fm_101_45 sa_101 (by decide) fl_X3_95_3 rfl ?_
      refine zV_iload dX3_told_227 rfl ?_
      obtain ⟨ob, hP⟩ := hP
      refine zV_ia dX3_told_229 sa_130 ob ?_
      obtain ⟨ob, hP⟩ := hP
      refine zV_ias dX3_told_230 sa_117 ob (fun h27 e_h27 => ?_)
      have hP := hP h27 e_h27
      refine zV_inc (ls' := fun z => [zR 101, zU, zU, zU, zI y4, zI z]) dX3_told_231 (Nat.le_of_ble_eq_true rfl) rfl rfl (fun _ => rfl) (fun x5_28 e_x5_28 => ?_)
      have hP := hP x5_28 e_x5_28
      refine zV_goto (tgt := 202) dX3_told_234 (by decide) ?_
      exact ih _ _ hP
def P_M_told (h : zH) (Q : Int → zH → Prop) : Prop :=
P_M_faultOfTape h (fun r1 h2 =>
∀ x2_3 : Int, x2_3 = (zd h2 101 8) →
∀ h4 : zH, h4 = zw h2 101 8 0 →
if r1 < 0 then
(∃ n34, P_M_told_L34 x2_3 Q (fun u3_69 h8 =>
if 0 ≤ u3_69 then
(P_M_beginLaying h8 (fun r9 h10 =>
∀ h11 : zH, h11 = zw h10 101 54 0 →
∃ n91, P_M_told_L91 x2_3 Q (fun h15 =>
P_M_lay (zd h15 133 0) h15 (fun r16 h17 =>
P_M_endRow h17 (fun r18 h19 =>
P_M_keepRule 4 0 0 h19 (fun r20 h21 =>
if r20 < 0 then
(Q r20 h21)
else
((0 ≤ r20 ∧ r20 < 60) ∧
∀ h22 : zH, h22 = zw h21 116 r20 x2_3 →
∃ n156, P_M_told_L156 x2_3 r20 Q (fun h25 =>
(0 ≤ r20 ∧ r20 < 60) ∧
∀ h26 : zH, h26 = zw h25 118 r20 (zd h25 101 46) →
∃ n202, P_M_told_L202 r20 Q n202 0 h26) n156 0 h22))))) n91 0 h11))
else
(P_M_fail u3_69 h8 (fun r29 h30 =>
Q r29 h30))) n34 0 0 h4)
else
(P_M_fail (w32 ((-2000) - r1)) h4 (fun r31 h32 =>
Q r31 h32)))
theorem W_M_told (h : zH) (Q : Int → zH → Prop) (hP : P_M_told  h Q) : zC true zy_X3_told 5 [zR 101] h (zQ0 Q) := by
  unfold P_M_told at hP
  refine zC.of (by decide) (Nat.le_of_ble_eq_true rfl) ?_
  show zV true zy_X3_told 5 0 [zR 101, zU, zU, zU, zU, zU] [] h (zQ0 Q)
  refine zV_aload_n dX3_told_0 rfl ?_
  refine zV_cVk (As := []) (rest := []) dX3_told_1 sa_101 (W_M_faultOfTape _ _ hP) mi_X3_faultOfTape ml_X3_365 (by decide) (Nat.le_of_ble_eq_true rfl) rfl rfl rfl (fun r1 h2 hP => ?_)
  refine zV_istore_n (ls' := [zR 101, zI r1, zU, zU, zU, zU]) dX3_told_4 rfl (Nat.le_of_ble_eq_true rfl) rfl rfl ?_
  refine zV_aload_n dX3_told_5 rfl ?_
  refine zV_gf dX3_told_6 sa_101 (by decide) fl_X3_259_3 rfl (ki := 8) rfl ?_
  refine zV_top (fun x2_3 e_x2_3 => ?_)
  have hP := hP x2_3 e_x2_3
  refine zV_istore_n (ls' := [zR 101, zI r1, zI x2_3, zU, zU, zU]) dX3_told_9 rfl (Nat.le_of_ble_eq_true rfl) rfl rfl ?_
  refine zV_aload_n dX3_told_10 rfl ?_
  refine zV_iconst dX3_told_11 ⟨by decide, by decide⟩ ?_
  refine zV_pf dX3_told_12 sa_101 (by decide) fl_X3_259_3 rfl rfl trivial (ki := 8) rfl (fun h4 e_h4 => ?_)
  have hP := hP h4 e_h4
  refine zV_iload_n dX3_told_15 rfl ?_
  refine zV_if_lt (tgt := 29) dX3_told_16 (by decide) (fun c => ?_) (fun c => ?_)
  · have hP := zif_p hP c
    refine zV_iconst dX3_told_29 ⟨by decide, by decide⟩ ?_
    refine zV_istore_n (ls' := [zR 101, zI r1, zI x2_3, zI 0, zU, zU]) dX3_told_30 rfl (Nat.le_of_ble_eq_true rfl) rfl rfl ?_
    refine zV_iconst dX3_told_31 ⟨by decide, by decide⟩ ?_
    refine zV_istore (ls' := [zR 101, zI r1, zI x2_3, zI 0, zI 0, zU]) dX3_told_32 (Nat.le_of_ble_eq_true rfl) rfl rfl ?_
    obtain ⟨n34, hP⟩ := hP
    refine zV_mask [true, false, true, true, true, true] (ls' := [zR 101, zU, zI x2_3, zI 0, zI 0, zU]) rfl ?_
    refine W_M_told_L34 _ _ _ (fun u3_69 h8 hP => ?_) n34 _ _ _ hP
    refine zV_iload_n dX3_told_69 rfl ?_
    refine zV_if_ge (tgt := 79) dX3_told_70 (by decide) (fun c => ?_) (fun c => ?_)
    · have hP := zif_p hP c
      refine zV_aload_n dX3_told_79 rfl ?_
      refine zV_cVv (As := []) (rest := []) dX3_told_80 sa_101 (W_M_beginLaying _ _ hP) mi_X3_beginLaying ml_X3_313 (by decide) (Nat.le_of_ble_eq_true rfl) rfl rfl (fun r9 h10 hP => ?_)
      refine zV_aload_n dX3_told_83 rfl ?_
      refine zV_iconst dX3_told_84 ⟨by decide, by decide⟩ ?_
      refine zV_pf dX3_told_85 sa_101 (by decide) fl_X3_359_3 rfl rfl trivial (ki := 54) rfl (fun h11 e_h11 => ?_)
      have hP := hP h11 e_h11
      refine zV_iconst dX3_told_88 ⟨by decide, by decide⟩ ?_
      refine zV_istore (ls' := [zR 101, zU, zI x2_3, zI u3_69, zI 0, zU]) dX3_told_89 (Nat.le_of_ble_eq_true rfl) rfl rfl ?_
      obtain ⟨n91, hP⟩ := hP
      refine zV_mask [true, true, true, false, true, true] (ls' := [zR 101, zU, zI x2_3, zU, zI 0, zU]) rfl ?_
      refine W_M_told_L91 _ _ _ (fun h15 hP => ?_) n91 _ _ hP
      refine zV_aload_n dX3_told_117 rfl ?_
      refine zV_aload_n dX3_told_118 rfl ?_
      refine zV_sg dX3_told_119 fm_101_53 sa_101 (by decide) fl_X3_104_3 rfl ?_
      refine zV_iconst dX3_told_122 ⟨by decide, by decide⟩ ?_
      refine zV_ia dX3_told_123 sa_133 (by decide) ?_
      refine zV_cVv (As := [zI (zd h15 133 0)]) (rest := []) dX3_told_124 sa_101 (W_M_lay _ _ _ hP) mi_X3_lay ml_X3_282 (by decide) (Nat.le_of_ble_eq_true rfl) rfl rfl (fun r16 h17 hP => ?_)
      refine zV_aload_n dX3_told_127 rfl ?_
      refine zV_cVv (As := []) (rest := []) dX3_told_128 sa_101 (W_M_endRow _ _ hP) mi_X3_endRow ml_X3_286 (by decide) (Nat.le_of_ble_eq_true rfl) rfl rfl (fun r18 h19 hP => ?_)
      refine zV_aload_n dX3_told_131 rfl ?_
      refine zV_iconst dX3_told_132 ⟨by decide, by decide⟩ ?_
      refine zV_iconst dX3_told_133 ⟨by decide, by decide⟩ ?_
      refine zV_iconst dX3_told_134 ⟨by decide, by decide⟩ ?_
      refine zV_cVk (As := [zI 4, zI 0, zI 0]) (rest := []) dX3_told_135 sa_101 (W_M_keepRule _ _ _ _ _ hP) mi_X3_keepRule ml_X3_316 (by decide) (Nat.le_of_ble_eq_true rfl) rfl rfl rfl (fun r20 h21 hP => ?_)
      refine zV_istore (ls' := [zR 101, zU, zI x2_3, zU, zI r20, zU]) dX3_told_138 (Nat.le_of_ble_eq_true rfl) rfl rfl ?_
      refine zV_iload dX3_told_140 rfl ?_
      refine zV_if_lt (tgt := 237) dX3_told_142 (by decide) (fun c => ?_) (fun c => ?_)
      · have hP := zif_p hP c
        refine zV_iload dX3_told_237 rfl ?_
        exact zV_ireturn dX3_told_239 rfl rfl rfl ⟨rfl, hP⟩
      · have hP := zif_n hP c
        refine zV_aload_n dX3_told_145 rfl ?_
        refine zV_sg dX3_told_146 fm_101_20 sa_101 (by decide) fl_X3_53_3 rfl ?_
        refine zV_iload dX3_told_149 rfl ?_
        refine zV_iload_n dX3_told_151 rfl ?_
        obtain ⟨ob, hP⟩ := hP
        refine zV_ias dX3_told_152 sa_116 ob (fun h22 e_h22 => ?_)
        have hP := hP h22 e_h22
        refine zV_iconst dX3_told_153 ⟨by decide, by decide⟩ ?_
        refine zV_istore (ls' := [zR 101, zU, zI x2_3, zU, zI r20, zI 0]) dX3_told_154 (Nat.le_of_ble_eq_true rfl) rfl rfl ?_
        obtain ⟨n156, hP⟩ := hP
        refine W_M_told_L156 _ _ _ _ (fun h25 hP => ?_) n156 _ _ hP
        refine zV_aload_n dX3_told_188 rfl ?_
        refine zV_sg dX3_told_189 fm_101_22 sa_101 (by decide) fl_X3_59_3 rfl ?_
        refine zV_iload dX3_told_192 rfl ?_
        refine zV_aload_n dX3_told_194 rfl ?_
        refine zV_gf dX3_told_195 sa_101 (by decide) fl_X3_343_3 rfl (ki := 46) rfl ?_
        obtain ⟨ob, hP⟩ := hP
        refine zV_ias dX3_told_198 sa_118 ob (fun h26 e_h26 => ?_)
        have hP := hP h26 e_h26
        refine zV_iconst dX3_told_199 ⟨by decide, by decide⟩ ?_
        refine zV_istore (ls' := [zR 101, zU, zU, zU, zI r20, zI 0]) dX3_told_200 (Nat.le_of_ble_eq_true rfl) rfl rfl ?_
        obtain ⟨n202, hP⟩ := hP
        refine W_M_told_L202 _ _ n202 _ _ hP
    · have hP := zif_n hP c
      refine zV_aload_n dX3_told_73 rfl ?_
      refine zV_iload_n dX3_told_74 rfl ?_
      refine zV_cVk (As := [zI u3_69]) (rest := []) dX3_told_75 sa_101 (W_M_fail _ _ _ hP) mi_X3_fail ml_X3_242 (by decide) (Nat.le_of_ble_eq_true rfl) rfl rfl rfl (fun r29 h30 hP => ?_)
      exact zV_ireturn dX3_told_78 rfl rfl rfl ⟨rfl, hP⟩
  · have hP := zif_n hP c
    refine zV_aload_n dX3_told_19 rfl ?_
    refine zV_sipush dX3_told_20 ⟨by decide, by decide, by decide⟩ ?_
    refine zV_iload_n dX3_told_23 rfl ?_
    refine zV_isub dX3_told_24 ?_
    refine zV_cVk (As := [zI (w32 ((-2000) - r1))]) (rest := []) dX3_told_25 sa_101 (W_M_fail _ _ _ hP) mi_X3_fail ml_X3_242 (by decide) (Nat.le_of_ble_eq_true rfl) rfl rfl rfl (fun r31 h32 hP => ?_)
    exact zV_ireturn dX3_told_28 rfl rfl rfl ⟨rfl, hP⟩
def P_M_isRule (a1 : Int) (h : zH) (Q : Int → zH → Prop) : Prop :=
P_M_in a1 0 (w32 ((zd h 101 11) - 1)) h (fun r1 h2 =>
(r1 = 0 ∨ r1 = 1) ∧ Q r1 h2)
theorem W_M_isRule (a1 : Int) (h : zH) (Q : Int → zH → Prop) (hP : P_M_isRule a1 h Q) : zC true zy_X3_isRule 2 [zR 101, zI a1] h (zQ0 Q) := by
  unfold P_M_isRule at hP
  refine zC.of (by decide) (Nat.le_of_ble_eq_true rfl) ?_
  show zV true zy_X3_isRule 2 0 [zR 101, zI a1] [] h (zQ0 Q)
  refine zV_iload_n dX3_isRule_0 rfl ?_
  refine zV_iconst dX3_isRule_1 ⟨by decide, by decide⟩ ?_
  refine zV_aload_n dX3_isRule_2 rfl ?_
  refine zV_gf dX3_isRule_3 sa_101 (by decide) fl_X3_264_3 rfl (ki := 11) rfl ?_
  refine zV_iconst dX3_isRule_6 ⟨by decide, by decide⟩ ?_
  refine zV_isub dX3_isRule_7 ?_
  refine zV_cSk (As := [zI a1, zI 0, zI (w32 ((zd h 101 11) - 1))]) (rest := []) dX3_isRule_8 (W_M_in _ _ _ _ _ hP) mi_X3_in ml_X3_238 (by decide) (Nat.le_of_ble_eq_true rfl) rfl rfl rfl (fun r1 h2 hP => ?_)
  exact zV_ireturn dX3_isRule_11 rfl rfl (z01 hP.1) ⟨rfl, hP.2⟩
def P_M_kind (a1 : Int) (h : zH) (Q : Int → zH → Prop) : Prop :=
P_M_isRule a1 h (fun r1 h2 =>
if r1 = 0 then
(P_M_fail (-1001) h2 (fun r3 h4 =>
Q r3 h4))
else
((0 ≤ a1 ∧ a1 < 60) ∧
Q (zd h2 108 a1) h2))
theorem W_M_kind (a1 : Int) (h : zH) (Q : Int → zH → Prop) (hP : P_M_kind a1 h Q) : zC true zy_X3_kind 3 [zR 101, zI a1] h (zQ0 Q) := by
  unfold P_M_kind at hP
  refine zC.of (by decide) (Nat.le_of_ble_eq_true rfl) ?_
  show zV true zy_X3_kind 3 0 [zR 101, zI a1] [] h (zQ0 Q)
  refine zV_aload_n dX3_kind_0 rfl ?_
  refine zV_iload_n dX3_kind_1 rfl ?_
  refine zV_cVk (As := [zI a1]) (rest := []) dX3_kind_2 sa_101 (W_M_isRule _ _ _ hP) mi_X3_isRule ml_X3_371 (by decide) (Nat.le_of_ble_eq_true rfl) rfl rfl rfl (fun r1 h2 hP => ?_)
  refine zV_if_eq (tgt := 17) dX3_kind_5 (by decide) (fun c => ?_) (fun c => ?_)
  · have hP := zif_p hP c
    refine zV_aload_n dX3_kind_17 rfl ?_
    refine zV_sipush dX3_kind_18 ⟨by decide, by decide, by decide⟩ ?_
    refine zV_cVk (As := [zI (-1001)]) (rest := []) dX3_kind_21 sa_101 (W_M_fail _ _ _ hP) mi_X3_fail ml_X3_242 (by decide) (Nat.le_of_ble_eq_true rfl) rfl rfl rfl (fun r3 h4 hP => ?_)
    exact zV_ireturn dX3_kind_24 rfl rfl rfl ⟨rfl, hP⟩
  · have hP := zif_n hP c
    refine zV_aload_n dX3_kind_8 rfl ?_
    refine zV_sg dX3_kind_9 fm_101_12 sa_101 (by decide) fl_X3_29_3 rfl ?_
    refine zV_iload_n dX3_kind_12 rfl ?_
    obtain ⟨ob, hP⟩ := hP
    refine zV_ia dX3_kind_13 sa_108 ob ?_
    refine zV_goto (tgt := 24) dX3_kind_14 (by decide) ?_
    exact zV_ireturn dX3_kind_24 rfl rfl rfl ⟨rfl, hP⟩
def P_M_as_J61 (s0 : Int) (h : zH) (Q : Int → zH → Prop) : Prop :=
if s0 = 0 then
(P_M_fail (-1013) h (fun r8 h9 =>
Q r8 h9))
else
(Q 1 h)
theorem W_M_as_J61 (s0 : Int) (h : zH) (Q : Int → zH → Prop) (hP : P_M_as_J61 s0 h Q) : zV true zy_X3_as 3 61 [zR 101, zU, zU, zU, zU] [zI s0] h (zQ0 Q) := by
  unfold P_M_as_J61 at hP
  refine zV_istore (ls' := [zR 101, zU, zU, zU, zI s0]) dX3_as_61 (Nat.le_of_ble_eq_true rfl) rfl rfl ?_
  refine zV_iload dX3_as_63 rfl ?_
  refine zV_if_eq (tgt := 72) dX3_as_65 (by decide) (fun c => ?_) (fun c => ?_)
  · have hP := zif_p hP c
    refine zV_aload_n dX3_as_72 rfl ?_
    refine zV_sipush dX3_as_73 ⟨by decide, by decide, by decide⟩ ?_
    refine zV_cVk (As := [zI (-1013)]) (rest := []) dX3_as_76 sa_101 (W_M_fail _ _ _ hP) mi_X3_fail ml_X3_242 (by decide) (Nat.le_of_ble_eq_true rfl) rfl rfl rfl (fun r8 h9 hP => ?_)
    exact zV_ireturn dX3_as_79 rfl rfl rfl ⟨rfl, hP⟩
  · have hP := zif_n hP c
    refine zV_iconst dX3_as_68 ⟨by decide, by decide⟩ ?_
    refine zV_goto (tgt := 79) dX3_as_69 (by decide) ?_
    exact zV_ireturn dX3_as_79 rfl rfl rfl ⟨rfl, hP⟩
def P_M_as (a1 : Int) (a2 : Int) (h : zH) (Q : Int → zH → Prop) : Prop :=
P_M_isRule a1 h (fun r1 h2 =>
if r1 = 0 then
(P_M_fail (-1001) h2 (fun r3 h4 =>
Q r3 h4))
else
(P_M_in a2 0 4 h2 (fun r5 h6 =>
if r5 = 0 then
(P_M_fail (-1001) h6 (fun r10 h11 =>
Q r10 h11))
else
((0 ≤ a1 ∧ a1 < 60) ∧
∀ x3_7 : Int, x3_7 = (zd h6 108 a1) →
P_M_as_J61 (if x3_7 = a2 then 1 else if a2 = 0 then if x3_7 = 3 then if a2 = 1 then if x3_7 = 2 then 1 else 0 else 0 else 1 else if a2 = 1 then if x3_7 = 2 then 1 else 0 else 0) h6 Q))))
theorem W_M_as (a1 : Int) (a2 : Int) (h : zH) (Q : Int → zH → Prop) (hP : P_M_as a1 a2 h Q) : zC true zy_X3_as 3 [zR 101, zI a1, zI a2] h (zQ0 Q) := by
  unfold P_M_as at hP
  refine zC.of (by decide) (Nat.le_of_ble_eq_true rfl) ?_
  show zV true zy_X3_as 3 0 [zR 101, zI a1, zI a2, zU, zU] [] h (zQ0 Q)
  refine zV_aload_n dX3_as_0 rfl ?_
  refine zV_iload_n dX3_as_1 rfl ?_
  refine zV_cVk (As := [zI a1]) (rest := []) dX3_as_2 sa_101 (W_M_isRule _ _ _ hP) mi_X3_isRule ml_X3_371 (by decide) (Nat.le_of_ble_eq_true rfl) rfl rfl rfl (fun r1 h2 hP => ?_)
  refine zV_if_eq (tgt := 17) dX3_as_5 (by decide) (fun c => ?_) (fun c => ?_)
  · have hP := zif_p hP c
    refine zV_aload_n dX3_as_17 rfl ?_
    refine zV_sipush dX3_as_18 ⟨by decide, by decide, by decide⟩ ?_
    refine zV_cVk (As := [zI (-1001)]) (rest := []) dX3_as_21 sa_101 (W_M_fail _ _ _ hP) mi_X3_fail ml_X3_242 (by decide) (Nat.le_of_ble_eq_true rfl) rfl rfl rfl (fun r3 h4 hP => ?_)
    exact zV_ireturn dX3_as_24 rfl rfl rfl ⟨rfl, hP⟩
  · have hP := zif_n hP c
    refine zV_iload_n dX3_as_8 rfl ?_
    refine zV_iconst dX3_as_9 ⟨by decide, by decide⟩ ?_
    refine zV_iconst dX3_as_10 ⟨by decide, by decide⟩ ?_
    refine zV_cSk (As := [zI a2, zI 0, zI 4]) (rest := []) dX3_as_11 (W_M_in _ _ _ _ _ hP) mi_X3_in ml_X3_238 (by decide) (Nat.le_of_ble_eq_true rfl) rfl rfl rfl (fun r5 h6 hP => ?_)
    refine zV_if_ne (tgt := 25) dX3_as_14 (by decide) (fun c => ?_) (fun c => ?_)
    · have hP := zif_n hP c
      refine zV_aload_n dX3_as_25 rfl ?_
      refine zV_sg dX3_as_26 fm_101_12 sa_101 (by decide) fl_X3_29_3 rfl ?_
      refine zV_iload_n dX3_as_29 rfl ?_
      obtain ⟨ob, hP⟩ := hP
      refine zV_ia dX3_as_30 sa_108 ob ?_
      refine zV_top (fun x3_7 e_x3_7 => ?_)
      have hP := hP x3_7 e_x3_7
      refine zV_istore_n (ls' := [zR 101, zI a1, zI a2, zI x3_7, zU]) dX3_as_31 rfl (Nat.le_of_ble_eq_true rfl) rfl rfl ?_
      refine zV_iload_n dX3_as_32 rfl ?_
      refine zV_iload_n dX3_as_33 rfl ?_
      have K : zV true zy_X3_as 3 61 [zR 101, zU, zU, zU, zU] [zI (if x3_7 = a2 then 1 else if a2 = 0 then if x3_7 = 3 then if a2 = 1 then if x3_7 = 2 then 1 else 0 else 0 else 1 else if a2 = 1 then if x3_7 = 2 then 1 else 0 else 0)] h6 (zQ0 Q) := by
        exact W_M_as_J61 _ _ _ hP
      clear hP
      refine zV_icmp_eq (tgt := 56) dX3_as_34 (by decide) (fun c => ?_) (fun c => ?_)
      · try simp only [if_pos c] at K
        refine zV_iconst dX3_as_56 ⟨by decide, by decide⟩ ?_
        refine zV_goto (tgt := 61) dX3_as_57 (by decide) ?_
        refine zV_mask [true, false, false, false, false] rfl ?_
        exact K
      · try simp only [if_neg c] at K
        refine zV_iload_n dX3_as_37 rfl ?_
        refine zV_if_ne (tgt := 46) dX3_as_38 (by decide) (fun c => ?_) (fun c => ?_)
        · try simp only [if_neg c] at K
          refine zV_iload_n dX3_as_46 rfl ?_
          refine zV_iconst dX3_as_47 ⟨by decide, by decide⟩ ?_
          refine zV_icmp_ne (tgt := 60) dX3_as_48 (by decide) (fun c => ?_) (fun c => ?_)
          · try simp only [if_neg c] at K
            refine zV_iconst dX3_as_60 ⟨by decide, by decide⟩ ?_
            refine zV_mask [true, false, false, false, false] rfl ?_
            exact K
          · try simp only [if_pos c] at K
            refine zV_iload_n dX3_as_51 rfl ?_
            refine zV_iconst dX3_as_52 ⟨by decide, by decide⟩ ?_
            refine zV_icmp_ne (tgt := 60) dX3_as_53 (by decide) (fun c => ?_) (fun c => ?_)
            · try simp only [if_neg c] at K
              refine zV_iconst dX3_as_60 ⟨by decide, by decide⟩ ?_
              refine zV_mask [true, false, false, false, false] rfl ?_
              exact K
            · try simp only [if_pos c] at K
              refine zV_iconst dX3_as_56 ⟨by decide, by decide⟩ ?_
              refine zV_goto (tgt := 61) dX3_as_57 (by decide) ?_
              refine zV_mask [true, false, false, false, false] rfl ?_
              exact K
        · try simp only [if_pos c] at K
          refine zV_iload_n dX3_as_41 rfl ?_
          refine zV_iconst dX3_as_42 ⟨by decide, by decide⟩ ?_
          refine zV_icmp_ne (tgt := 56) dX3_as_43 (by decide) (fun c => ?_) (fun c => ?_)
          · try simp only [if_neg c] at K
            refine zV_iconst dX3_as_56 ⟨by decide, by decide⟩ ?_
            refine zV_goto (tgt := 61) dX3_as_57 (by decide) ?_
            refine zV_mask [true, false, false, false, false] rfl ?_
            exact K
          · try simp only [if_pos c] at K
            refine zV_iload_n dX3_as_46 rfl ?_
            refine zV_iconst dX3_as_47 ⟨by decide, by decide⟩ ?_
            refine zV_icmp_ne (tgt := 60) dX3_as_48 (by decide) (fun c => ?_) (fun c => ?_)
            · try simp only [if_neg c] at K
              refine zV_iconst dX3_as_60 ⟨by decide, by decide⟩ ?_
              refine zV_mask [true, false, false, false, false] rfl ?_
              exact K
            · try simp only [if_pos c] at K
              refine zV_iload_n dX3_as_51 rfl ?_
              refine zV_iconst dX3_as_52 ⟨by decide, by decide⟩ ?_
              refine zV_icmp_ne (tgt := 60) dX3_as_53 (by decide) (fun c => ?_) (fun c => ?_)
              · try simp only [if_neg c] at K
                refine zV_iconst dX3_as_60 ⟨by decide, by decide⟩ ?_
                refine zV_mask [true, false, false, false, false] rfl ?_
                exact K
              · try simp only [if_pos c] at K
                refine zV_iconst dX3_as_56 ⟨by decide, by decide⟩ ?_
                refine zV_goto (tgt := 61) dX3_as_57 (by decide) ?_
                refine zV_mask [true, false, false, false, false] rfl ?_
                exact K
    · have hP := zif_p hP c
      refine zV_aload_n dX3_as_17 rfl ?_
      refine zV_sipush dX3_as_18 ⟨by decide, by decide, by decide⟩ ?_
      refine zV_cVk (As := [zI (-1001)]) (rest := []) dX3_as_21 sa_101 (W_M_fail _ _ _ hP) mi_X3_fail ml_X3_242 (by decide) (Nat.le_of_ble_eq_true rfl) rfl rfl rfl (fun r10 h11 hP => ?_)
      exact zV_ireturn dX3_as_24 rfl rfl rfl ⟨rfl, hP⟩
def P_M_item (a1 : Int) (a2 : Int) (h : zH) (Q : Int → zH → Prop) : Prop :=
P_M_isRule a1 h (fun r1 h2 =>
if r1 = 0 then
(P_M_fail (-1001) h2 (fun r5 h6 =>
Q r5 h6))
else
(if a2 = (-1) then
((0 ≤ a1 ∧ a1 < 60) ∧
Q (zd h2 111 a1) h2)
else
((0 ≤ a1 ∧ a1 < 60) ∧
P_M_in a2 0 (w32 ((zd h2 111 a1) - 1)) h2 (fun r3 h4 =>
(if r3 = 0 then True else (0 ≤ w32 ((w32 (30 * a1)) + a2) ∧ w32 ((w32 (30 * a1)) + a2) < 1800) ∧ True) ∧
Q (if r3 = 0 then (-1005) else zd h4 112 (w32 ((w32 (30 * a1)) + a2))) h4))))
theorem W_M_item (a1 : Int) (a2 : Int) (h : zH) (Q : Int → zH → Prop) (hP : P_M_item a1 a2 h Q) : zC true zy_X3_item 3 [zR 101, zI a1, zI a2] h (zQ0 Q) := by
  unfold P_M_item at hP
  refine zC.of (by decide) (Nat.le_of_ble_eq_true rfl) ?_
  show zV true zy_X3_item 3 0 [zR 101, zI a1, zI a2] [] h (zQ0 Q)
  refine zV_aload_n dX3_item_0 rfl ?_
  refine zV_iload_n dX3_item_1 rfl ?_
  refine zV_cVk (As := [zI a1]) (rest := []) dX3_item_2 sa_101 (W_M_isRule _ _ _ hP) mi_X3_isRule ml_X3_371 (by decide) (Nat.le_of_ble_eq_true rfl) rfl rfl rfl (fun r1 h2 hP => ?_)
  refine zV_if_ne (tgt := 16) dX3_item_5 (by decide) (fun c => ?_) (fun c => ?_)
  · have hP := zif_n hP c
    refine zV_iload_n dX3_item_16 rfl ?_
    refine zV_iconst dX3_item_17 ⟨by decide, by decide⟩ ?_
    refine zV_icmp_ne (tgt := 30) dX3_item_18 (by decide) (fun c => ?_) (fun c => ?_)
    · have hP := zif_n hP c
      refine zV_iload_n dX3_item_30 rfl ?_
      refine zV_iconst dX3_item_31 ⟨by decide, by decide⟩ ?_
      refine zV_aload_n dX3_item_32 rfl ?_
      refine zV_sg dX3_item_33 fm_101_15 sa_101 (by decide) fl_X3_38_3 rfl ?_
      refine zV_iload_n dX3_item_36 rfl ?_
      obtain ⟨ob, hP⟩ := hP
      refine zV_ia dX3_item_37 sa_111 ob ?_
      refine zV_iconst dX3_item_38 ⟨by decide, by decide⟩ ?_
      refine zV_isub dX3_item_39 ?_
      refine zV_cSk (As := [zI a2, zI 0, zI (w32 ((zd h2 111 a1) - 1))]) (rest := []) dX3_item_40 (W_M_in _ _ _ _ _ hP) mi_X3_in ml_X3_238 (by decide) (Nat.le_of_ble_eq_true rfl) rfl rfl rfl (fun r3 h4 hP => ?_)
      obtain ⟨hO, hP⟩ := hP
      have K : zV true zy_X3_item 3 63 [zU, zU, zU] [zI (if r3 = 0 then (-1005) else zd h4 112 (w32 ((w32 (30 * a1)) + a2)))] h4 (zQ0 Q) := by
        exact zV_ireturn dX3_item_63 rfl rfl rfl ⟨rfl, hP⟩
      clear hP
      refine zV_if_eq (tgt := 60) dX3_item_43 (by decide) (fun c => ?_) (fun c => ?_)
      · try simp only [if_pos c] at K
        have hO := zif_p hO c
        refine zV_sipush dX3_item_60 ⟨by decide, by decide, by decide⟩ ?_
        refine zV_mask [false, false, false] rfl ?_
        exact K
      · try simp only [if_neg c] at K
        have hO := zif_n hO c
        refine zV_aload_n dX3_item_46 rfl ?_
        refine zV_sg dX3_item_47 fm_101_16 sa_101 (by decide) fl_X3_41_3 rfl ?_
        refine zV_bipush dX3_item_50 ⟨by decide, by decide, by decide⟩ ?_
        refine zV_iload_n dX3_item_52 rfl ?_
        refine zV_imul dX3_item_53 ?_
        refine zV_iload_n dX3_item_54 rfl ?_
        refine zV_iadd dX3_item_55 ?_
        obtain ⟨ob, hO⟩ := hO
        refine zV_ia dX3_item_56 sa_112 ob ?_
        refine zV_goto (tgt := 63) dX3_item_57 (by decide) ?_
        refine zV_mask [false, false, false] rfl ?_
        exact K
    · have hP := zif_p hP c
      refine zV_aload_n dX3_item_21 rfl ?_
      refine zV_sg dX3_item_22 fm_101_15 sa_101 (by decide) fl_X3_38_3 rfl ?_
      refine zV_iload_n dX3_item_25 rfl ?_
      obtain ⟨ob, hP⟩ := hP
      refine zV_ia dX3_item_26 sa_111 ob ?_
      refine zV_goto (tgt := 63) dX3_item_27 (by decide) ?_
      exact zV_ireturn dX3_item_63 rfl rfl rfl ⟨rfl, hP⟩
  · have hP := zif_p hP c
    refine zV_aload_n dX3_item_8 rfl ?_
    refine zV_sipush dX3_item_9 ⟨by decide, by decide, by decide⟩ ?_
    refine zV_cVk (As := [zI (-1001)]) (rest := []) dX3_item_12 sa_101 (W_M_fail _ _ _ hP) mi_X3_fail ml_X3_242 (by decide) (Nat.le_of_ble_eq_true rfl) rfl rfl rfl (fun r5 h6 hP => ?_)
    exact zV_ireturn dX3_item_15 rfl rfl rfl ⟨rfl, hP⟩
def P_M_rows (a1 : Int) (a2 : Int) (h : zH) (Q : Int → zH → Prop) : Prop :=
P_M_isRule a1 h (fun r1 h2 =>
if r1 = 0 then
(P_M_fail (-1001) h2 (fun r5 h6 =>
Q r5 h6))
else
((0 ≤ a1 ∧ a1 < 60) ∧
P_M_in a2 0 (w32 ((zd h2 114 a1) - 1)) h2 (fun r3 h4 =>
(if r3 = 0 then True else (0 ≤ a1 ∧ a1 < 60) ∧ True) ∧
Q (if r3 = 0 then (-1005) else w32 ((zd h4 113 a1) + a2)) h4)))
theorem W_M_rows (a1 : Int) (a2 : Int) (h : zH) (Q : Int → zH → Prop) (hP : P_M_rows a1 a2 h Q) : zC true zy_X3_rows 3 [zR 101, zI a1, zI a2] h (zQ0 Q) := by
  unfold P_M_rows at hP
  refine zC.of (by decide) (Nat.le_of_ble_eq_true rfl) ?_
  show zV true zy_X3_rows 3 0 [zR 101, zI a1, zI a2] [] h (zQ0 Q)
  refine zV_aload_n dX3_rows_0 rfl ?_
  refine zV_iload_n dX3_rows_1 rfl ?_
  refine zV_cVk (As := [zI a1]) (rest := []) dX3_rows_2 sa_101 (W_M_isRule _ _ _ hP) mi_X3_isRule ml_X3_371 (by decide) (Nat.le_of_ble_eq_true rfl) rfl rfl rfl (fun r1 h2 hP => ?_)
  refine zV_if_ne (tgt := 16) dX3_rows_5 (by decide) (fun c => ?_) (fun c => ?_)
  · have hP := zif_n hP c
    refine zV_iload_n dX3_rows_16 rfl ?_
    refine zV_iconst dX3_rows_17 ⟨by decide, by decide⟩ ?_
    refine zV_aload_n dX3_rows_18 rfl ?_
    refine zV_sg dX3_rows_19 fm_101_18 sa_101 (by decide) fl_X3_47_3 rfl ?_
    refine zV_iload_n dX3_rows_22 rfl ?_
    obtain ⟨ob, hP⟩ := hP
    refine zV_ia dX3_rows_23 sa_114 ob ?_
    refine zV_iconst dX3_rows_24 ⟨by decide, by decide⟩ ?_
    refine zV_isub dX3_rows_25 ?_
    refine zV_cSk (As := [zI a2, zI 0, zI (w32 ((zd h2 114 a1) - 1))]) (rest := []) dX3_rows_26 (W_M_in _ _ _ _ _ hP) mi_X3_in ml_X3_238 (by decide) (Nat.le_of_ble_eq_true rfl) rfl rfl rfl (fun r3 h4 hP => ?_)
    obtain ⟨hO, hP⟩ := hP
    have K : zV true zy_X3_rows 3 46 [zU, zU, zU] [zI (if r3 = 0 then (-1005) else w32 ((zd h4 113 a1) + a2))] h4 (zQ0 Q) := by
      exact zV_ireturn dX3_rows_46 rfl rfl rfl ⟨rfl, hP⟩
    clear hP
    refine zV_if_eq (tgt := 43) dX3_rows_29 (by decide) (fun c => ?_) (fun c => ?_)
    · try simp only [if_pos c] at K
      have hO := zif_p hO c
      refine zV_sipush dX3_rows_43 ⟨by decide, by decide, by decide⟩ ?_
      refine zV_mask [false, false, false] rfl ?_
      exact K
    · try simp only [if_neg c] at K
      have hO := zif_n hO c
      refine zV_aload_n dX3_rows_32 rfl ?_
      refine zV_sg dX3_rows_33 fm_101_17 sa_101 (by decide) fl_X3_44_3 rfl ?_
      refine zV_iload_n dX3_rows_36 rfl ?_
      obtain ⟨ob, hO⟩ := hO
      refine zV_ia dX3_rows_37 sa_113 ob ?_
      refine zV_iload_n dX3_rows_38 rfl ?_
      refine zV_iadd dX3_rows_39 ?_
      refine zV_goto (tgt := 46) dX3_rows_40 (by decide) ?_
      refine zV_mask [false, false, false] rfl ?_
      exact K
  · have hP := zif_p hP c
    refine zV_aload_n dX3_rows_8 rfl ?_
    refine zV_sipush dX3_rows_9 ⟨by decide, by decide, by decide⟩ ?_
    refine zV_cVk (As := [zI (-1001)]) (rest := []) dX3_rows_12 sa_101 (W_M_fail _ _ _ hP) mi_X3_fail ml_X3_242 (by decide) (Nat.le_of_ble_eq_true rfl) rfl rfl rfl (fun r5 h6 hP => ?_)
    exact zV_ireturn dX3_rows_15 rfl rfl rfl ⟨rfl, hP⟩
def P_M_sizeOf (a1 : Int) (a2 : Int) (h : zH) (Q : Int → zH → Prop) : Prop :=
if 1000 ≤ a2 then
((if 2000 ≤ a2 then (0 ≤ w32 ((w32 ((w32 (801 * a1)) + a2)) - 1999) ∧ w32 ((w32 ((w32 (801 * a1)) + a2)) - 1999) < 1602) ∧ (0 ≤ w32 ((w32 ((w32 (801 * a1)) + a2)) - 2000) ∧ w32 ((w32 ((w32 (801 * a1)) + a2)) - 2000) < 1602) ∧ True else (0 ≤ w32 ((w32 ((zd h 101 66) + a2)) - 1000) ∧ w32 ((w32 ((zd h 101 66) + a2)) - 1000) < 130) ∧ True) ∧
Q (if 2000 ≤ a2 then w32 ((zd h 152 (w32 ((w32 ((w32 (801 * a1)) + a2)) - 1999))) - (zd h 152 (w32 ((w32 ((w32 (801 * a1)) + a2)) - 2000)))) else zd h 123 (w32 ((w32 ((zd h 101 66) + a2)) - 1000))) h)
else
((0 ≤ w32 (a2 + 1) ∧ w32 (a2 + 1) < 501) ∧
(0 ≤ a2 ∧ a2 < 501) ∧
Q (w32 ((zd h 119 (w32 (a2 + 1))) - (zd h 119 a2))) h)
theorem W_M_sizeOf (a1 : Int) (a2 : Int) (h : zH) (Q : Int → zH → Prop) (hP : P_M_sizeOf a1 a2 h Q) : zC true zy_X3_sizeOf 1 [zR 101, zI a1, zI a2] h (zQ0 Q) := by
  unfold P_M_sizeOf at hP
  refine zC.of (by decide) (Nat.le_of_ble_eq_true rfl) ?_
  show zV true zy_X3_sizeOf 1 0 [zR 101, zI a1, zI a2] [] h (zQ0 Q)
  refine zV_iload_n dX3_sizeOf_0 rfl ?_
  refine zV_sipush dX3_sizeOf_1 ⟨by decide, by decide, by decide⟩ ?_
  refine zV_icmp_ge (tgt := 23) dX3_sizeOf_4 (by decide) (fun c => ?_) (fun c => ?_)
  · have hP := zif_p hP c
    refine zV_iload_n dX3_sizeOf_23 rfl ?_
    refine zV_sipush dX3_sizeOf_24 ⟨by decide, by decide, by decide⟩ ?_
    obtain ⟨hO, hP⟩ := hP
    have K : zV true zy_X3_sizeOf 1 81 [zU, zU, zU] [zI (if 2000 ≤ a2 then w32 ((zd h 152 (w32 ((w32 ((w32 (801 * a1)) + a2)) - 1999))) - (zd h 152 (w32 ((w32 ((w32 (801 * a1)) + a2)) - 2000)))) else zd h 123 (w32 ((w32 ((zd h 101 66) + a2)) - 1000)))] h (zQ0 Q) := by
      exact zV_ireturn dX3_sizeOf_81 rfl rfl rfl ⟨rfl, hP⟩
    clear hP
    refine zV_icmp_ge (tgt := 48) dX3_sizeOf_27 (by decide) (fun c => ?_) (fun c => ?_)
    · try simp only [if_pos c] at K
      have hO := zif_p hO c
      refine zV_aload_n dX3_sizeOf_48 rfl ?_
      refine zV_sg dX3_sizeOf_49 fm_101_78 sa_101 (by decide) fl_X3_162_3 rfl ?_
      refine zV_sipush dX3_sizeOf_52 ⟨by decide, by decide, by decide⟩ ?_
      refine zV_iload_n dX3_sizeOf_55 rfl ?_
      refine zV_imul dX3_sizeOf_56 ?_
      refine zV_iload_n dX3_sizeOf_57 rfl ?_
      refine zV_iadd dX3_sizeOf_58 ?_
      refine zV_sipush dX3_sizeOf_59 ⟨by decide, by decide, by decide⟩ ?_
      refine zV_isub dX3_sizeOf_62 ?_
      obtain ⟨ob, hO⟩ := hO
      refine zV_ia dX3_sizeOf_63 sa_152 ob ?_
      refine zV_aload_n dX3_sizeOf_64 rfl ?_
      refine zV_sg dX3_sizeOf_65 fm_101_78 sa_101 (by decide) fl_X3_162_3 rfl ?_
      refine zV_sipush dX3_sizeOf_68 ⟨by decide, by decide, by decide⟩ ?_
      refine zV_iload_n dX3_sizeOf_71 rfl ?_
      refine zV_imul dX3_sizeOf_72 ?_
      refine zV_iload_n dX3_sizeOf_73 rfl ?_
      refine zV_iadd dX3_sizeOf_74 ?_
      refine zV_sipush dX3_sizeOf_75 ⟨by decide, by decide, by decide⟩ ?_
      refine zV_isub dX3_sizeOf_78 ?_
      obtain ⟨ob, hO⟩ := hO
      refine zV_ia dX3_sizeOf_79 sa_152 ob ?_
      refine zV_isub dX3_sizeOf_80 ?_
      refine zV_mask [false, false, false] rfl ?_
      exact K
    · try simp only [if_neg c] at K
      have hO := zif_n hO c
      refine zV_aload_n dX3_sizeOf_30 rfl ?_
      refine zV_sg dX3_sizeOf_31 fm_101_33 sa_101 (by decide) fl_X3_74_3 rfl ?_
      refine zV_aload_n dX3_sizeOf_34 rfl ?_
      refine zV_gf dX3_sizeOf_35 sa_101 (by decide) fl_X3_442_3 rfl (ki := 66) rfl ?_
      refine zV_iload_n dX3_sizeOf_38 rfl ?_
      refine zV_iadd dX3_sizeOf_39 ?_
      refine zV_sipush dX3_sizeOf_40 ⟨by decide, by decide, by decide⟩ ?_
      refine zV_isub dX3_sizeOf_43 ?_
      obtain ⟨ob, hO⟩ := hO
      refine zV_ia dX3_sizeOf_44 sa_123 ob ?_
      refine zV_goto (tgt := 81) dX3_sizeOf_45 (by decide) ?_
      refine zV_mask [false, false, false] rfl ?_
      exact K
  · have hP := zif_n hP c
    refine zV_aload_n dX3_sizeOf_7 rfl ?_
    refine zV_sg dX3_sizeOf_8 fm_101_24 sa_101 (by decide) fl_X3_62_3 rfl ?_
    refine zV_iload_n dX3_sizeOf_11 rfl ?_
    refine zV_iconst dX3_sizeOf_12 ⟨by decide, by decide⟩ ?_
    refine zV_iadd dX3_sizeOf_13 ?_
    obtain ⟨ob, hP⟩ := hP
    refine zV_ia dX3_sizeOf_14 sa_119 ob ?_
    refine zV_aload_n dX3_sizeOf_15 rfl ?_
    refine zV_sg dX3_sizeOf_16 fm_101_24 sa_101 (by decide) fl_X3_62_3 rfl ?_
    refine zV_iload_n dX3_sizeOf_19 rfl ?_
    obtain ⟨ob, hP⟩ := hP
    refine zV_ia dX3_sizeOf_20 sa_119 ob ?_
    refine zV_isub dX3_sizeOf_21 ?_
    exact zV_ireturn dX3_sizeOf_22 rfl rfl rfl ⟨rfl, hP⟩
def P_M_itemOf (a1 : Int) (a2 : Int) (a3 : Int) (h : zH) (Q : Int → zH → Prop) : Prop :=
if 1000 ≤ a2 then
((if 2000 ≤ a2 then (0 ≤ w32 ((w32 ((w32 (801 * a1)) + a2)) - 2000) ∧ w32 ((w32 ((w32 (801 * a1)) + a2)) - 2000) < 1602) ∧ (0 ≤ w32 ((w32 ((w32 (8050 * a1)) + (zd h 152 (w32 ((w32 ((w32 (801 * a1)) + a2)) - 2000))))) + a3) ∧ w32 ((w32 ((w32 (8050 * a1)) + (zd h 152 (w32 ((w32 ((w32 (801 * a1)) + a2)) - 2000))))) + a3) < 16100) ∧ True else (0 ≤ w32 ((w32 (20 * (w32 ((w32 ((zd h 101 66) + a2)) - 1000)))) + a3) ∧ w32 ((w32 (20 * (w32 ((w32 ((zd h 101 66) + a2)) - 1000)))) + a3) < 2600) ∧ True) ∧
Q (if 2000 ≤ a2 then zd h 153 (w32 ((w32 ((w32 (8050 * a1)) + (zd h 152 (w32 ((w32 ((w32 (801 * a1)) + a2)) - 2000))))) + a3)) else zd h 124 (w32 ((w32 (20 * (w32 ((w32 ((zd h 101 66) + a2)) - 1000)))) + a3))) h)
else
((0 ≤ a2 ∧ a2 < 501) ∧
(0 ≤ w32 ((zd h 119 a2) + a3) ∧ w32 ((zd h 119 a2) + a3) < 2600) ∧
Q (zd h 120 (w32 ((zd h 119 a2) + a3))) h)
theorem W_M_itemOf (a1 : Int) (a2 : Int) (a3 : Int) (h : zH) (Q : Int → zH → Prop) (hP : P_M_itemOf a1 a2 a3 h Q) : zC true zy_X3_itemOf 1 [zR 101, zI a1, zI a2, zI a3] h (zQ0 Q) := by
  unfold P_M_itemOf at hP
  refine zC.of (by decide) (Nat.le_of_ble_eq_true rfl) ?_
  show zV true zy_X3_itemOf 1 0 [zR 101, zI a1, zI a2, zI a3] [] h (zQ0 Q)
  refine zV_iload_n dX3_itemOf_0 rfl ?_
  refine zV_sipush dX3_itemOf_1 ⟨by decide, by decide, by decide⟩ ?_
  refine zV_icmp_ge (tgt := 21) dX3_itemOf_4 (by decide) (fun c => ?_) (fun c => ?_)
  · have hP := zif_p hP c
    refine zV_iload_n dX3_itemOf_21 rfl ?_
    refine zV_sipush dX3_itemOf_22 ⟨by decide, by decide, by decide⟩ ?_
    obtain ⟨hO, hP⟩ := hP
    have K : zV true zy_X3_itemOf 1 80 [zU, zU, zU, zU] [zI (if 2000 ≤ a2 then zd h 153 (w32 ((w32 ((w32 (8050 * a1)) + (zd h 152 (w32 ((w32 ((w32 (801 * a1)) + a2)) - 2000))))) + a3)) else zd h 124 (w32 ((w32 (20 * (w32 ((w32 ((zd h 101 66) + a2)) - 1000)))) + a3)))] h (zQ0 Q) := by
      exact zV_ireturn dX3_itemOf_80 rfl rfl rfl ⟨rfl, hP⟩
    clear hP
    refine zV_icmp_ge (tgt := 51) dX3_itemOf_25 (by decide) (fun c => ?_) (fun c => ?_)
    · try simp only [if_pos c] at K
      have hO := zif_p hO c
      refine zV_aload_n dX3_itemOf_51 rfl ?_
      refine zV_sg dX3_itemOf_52 fm_101_79 sa_101 (by decide) fl_X3_165_3 rfl ?_
      refine zV_sipush dX3_itemOf_55 ⟨by decide, by decide, by decide⟩ ?_
      refine zV_iload_n dX3_itemOf_58 rfl ?_
      refine zV_imul dX3_itemOf_59 ?_
      refine zV_aload_n dX3_itemOf_60 rfl ?_
      refine zV_sg dX3_itemOf_61 fm_101_78 sa_101 (by decide) fl_X3_162_3 rfl ?_
      refine zV_sipush dX3_itemOf_64 ⟨by decide, by decide, by decide⟩ ?_
      refine zV_iload_n dX3_itemOf_67 rfl ?_
      refine zV_imul dX3_itemOf_68 ?_
      refine zV_iload_n dX3_itemOf_69 rfl ?_
      refine zV_iadd dX3_itemOf_70 ?_
      refine zV_sipush dX3_itemOf_71 ⟨by decide, by decide, by decide⟩ ?_
      refine zV_isub dX3_itemOf_74 ?_
      obtain ⟨ob, hO⟩ := hO
      refine zV_ia dX3_itemOf_75 sa_152 ob ?_
      refine zV_iadd dX3_itemOf_76 ?_
      refine zV_iload_n dX3_itemOf_77 rfl ?_
      refine zV_iadd dX3_itemOf_78 ?_
      obtain ⟨ob, hO⟩ := hO
      refine zV_ia dX3_itemOf_79 sa_153 ob ?_
      refine zV_mask [false, false, false, false] rfl ?_
      exact K
    · try simp only [if_neg c] at K
      have hO := zif_n hO c
      refine zV_aload_n dX3_itemOf_28 rfl ?_
      refine zV_sg dX3_itemOf_29 fm_101_34 sa_101 (by decide) fl_X3_77_3 rfl ?_
      refine zV_bipush dX3_itemOf_32 ⟨by decide, by decide, by decide⟩ ?_
      refine zV_aload_n dX3_itemOf_34 rfl ?_
      refine zV_gf dX3_itemOf_35 sa_101 (by decide) fl_X3_442_3 rfl (ki := 66) rfl ?_
      refine zV_iload_n dX3_itemOf_38 rfl ?_
      refine zV_iadd dX3_itemOf_39 ?_
      refine zV_sipush dX3_itemOf_40 ⟨by decide, by decide, by decide⟩ ?_
      refine zV_isub dX3_itemOf_43 ?_
      refine zV_imul dX3_itemOf_44 ?_
      refine zV_iload_n dX3_itemOf_45 rfl ?_
      refine zV_iadd dX3_itemOf_46 ?_
      obtain ⟨ob, hO⟩ := hO
      refine zV_ia dX3_itemOf_47 sa_124 ob ?_
      refine zV_goto (tgt := 80) dX3_itemOf_48 (by decide) ?_
      refine zV_mask [false, false, false, false] rfl ?_
      exact K
  · have hP := zif_n hP c
    refine zV_aload_n dX3_itemOf_7 rfl ?_
    refine zV_sg dX3_itemOf_8 fm_101_25 sa_101 (by decide) fl_X3_65_3 rfl ?_
    refine zV_aload_n dX3_itemOf_11 rfl ?_
    refine zV_sg dX3_itemOf_12 fm_101_24 sa_101 (by decide) fl_X3_62_3 rfl ?_
    refine zV_iload_n dX3_itemOf_15 rfl ?_
    obtain ⟨ob, hP⟩ := hP
    refine zV_ia dX3_itemOf_16 sa_119 ob ?_
    refine zV_iload_n dX3_itemOf_17 rfl ?_
    refine zV_iadd dX3_itemOf_18 ?_
    obtain ⟨ob, hP⟩ := hP
    refine zV_ia dX3_itemOf_19 sa_120 ob ?_
    exact zV_ireturn dX3_itemOf_20 rfl rfl rfl ⟨rfl, hP⟩
def P_M_line_J64 (y1 : Int) (y2 : Int) (s0 : Int) (h : zH) (Q : Int → zH → Prop) : Prop :=
if 0 ≤ s0 then
(if y2 = (-1) then
(Q s0 h)
else
(P_M_in y2 0 (w32 (s0 - 1)) h (fun r5 h6 =>
if r5 = 0 then
(Q (-1005) h6)
else
(P_M_itemOf 0 y1 y2 h6 (fun r7 h8 =>
Q r7 h8)))))
else
(Q (-1005) h)
theorem W_M_line_J64 (y1 : Int) (y2 : Int) (s0 : Int) (h : zH) (Q : Int → zH → Prop) (hP : P_M_line_J64 y1 y2 s0 h Q) : zV true zy_X3_line 2 64 [zR 101, zI y1, zI y2, zU] [zI s0] h (zQ0 Q) := by
  unfold P_M_line_J64 at hP
  refine zV_istore_n (ls' := [zR 101, zI y1, zI y2, zI s0]) dX3_line_64 rfl (Nat.le_of_ble_eq_true rfl) rfl rfl ?_
  refine zV_iload_n dX3_line_65 rfl ?_
  refine zV_if_ge (tgt := 75) dX3_line_66 (by decide) (fun c => ?_) (fun c => ?_)
  · have hP := zif_p hP c
    refine zV_iload_n dX3_line_75 rfl ?_
    refine zV_iconst dX3_line_76 ⟨by decide, by decide⟩ ?_
    refine zV_icmp_ne (tgt := 84) dX3_line_77 (by decide) (fun c => ?_) (fun c => ?_)
    · have hP := zif_n hP c
      refine zV_iload_n dX3_line_84 rfl ?_
      refine zV_iconst dX3_line_85 ⟨by decide, by decide⟩ ?_
      refine zV_iload_n dX3_line_86 rfl ?_
      refine zV_iconst dX3_line_87 ⟨by decide, by decide⟩ ?_
      refine zV_isub dX3_line_88 ?_
      refine zV_cSk (As := [zI y2, zI 0, zI (w32 (s0 - 1))]) (rest := []) dX3_line_89 (W_M_in _ _ _ _ _ hP) mi_X3_in ml_X3_238 (by decide) (Nat.le_of_ble_eq_true rfl) rfl rfl rfl (fun r5 h6 hP => ?_)
      refine zV_if_eq (tgt := 105) dX3_line_92 (by decide) (fun c => ?_) (fun c => ?_)
      · have hP := zif_p hP c
        refine zV_sipush dX3_line_105 ⟨by decide, by decide, by decide⟩ ?_
        exact zV_ireturn dX3_line_108 rfl rfl rfl ⟨rfl, hP⟩
      · have hP := zif_n hP c
        refine zV_aload_n dX3_line_95 rfl ?_
        refine zV_iconst dX3_line_96 ⟨by decide, by decide⟩ ?_
        refine zV_iload_n dX3_line_97 rfl ?_
        refine zV_iload_n dX3_line_98 rfl ?_
        refine zV_cVk (As := [zI 0, zI y1, zI y2]) (rest := []) dX3_line_99 sa_101 (W_M_itemOf _ _ _ _ _ hP) mi_X3_itemOf ml_X3_381 (by decide) (Nat.le_of_ble_eq_true rfl) rfl rfl rfl (fun r7 h8 hP => ?_)
        refine zV_goto (tgt := 108) dX3_line_102 (by decide) ?_
        exact zV_ireturn dX3_line_108 rfl rfl rfl ⟨rfl, hP⟩
    · have hP := zif_p hP c
      refine zV_iload_n dX3_line_80 rfl ?_
      refine zV_goto (tgt := 108) dX3_line_81 (by decide) ?_
      exact zV_ireturn dX3_line_108 rfl rfl rfl ⟨rfl, hP⟩
  · have hP := zif_n hP c
    refine zV_sipush dX3_line_69 ⟨by decide, by decide, by decide⟩ ?_
    refine zV_goto (tgt := 108) dX3_line_72 (by decide) ?_
    exact zV_ireturn dX3_line_108 rfl rfl rfl ⟨rfl, hP⟩
def P_M_line_J52 (y1 : Int) (y2 : Int) (h : zH) (Q : Int → zH → Prop) : Prop :=
P_M_sizeOf 0 y1 h (fun r3 h4 =>
P_M_line_J64 y1 y2 r3 h4 Q)
theorem W_M_line_J52 (y1 : Int) (y2 : Int) (h : zH) (Q : Int → zH → Prop) (hP : P_M_line_J52 y1 y2 h Q) : zV true zy_X3_line 2 52 [zR 101, zI y1, zI y2, zU] [] h (zQ0 Q) := by
  unfold P_M_line_J52 at hP
  refine zV_aload_n dX3_line_52 rfl ?_
  refine zV_iconst dX3_line_53 ⟨by decide, by decide⟩ ?_
  refine zV_iload_n dX3_line_54 rfl ?_
  refine zV_cVk (As := [zI 0, zI y1]) (rest := []) dX3_line_55 sa_101 (W_M_sizeOf _ _ _ _ hP) mi_X3_sizeOf ml_X3_377 (by decide) (Nat.le_of_ble_eq_true rfl) rfl rfl rfl (fun r3 h4 hP => ?_)
  refine zV_goto (tgt := 64) dX3_line_58 (by decide) ?_
  exact W_M_line_J64 _ _ _ _ _ hP
def P_M_line (a1 : Int) (a2 : Int) (h : zH) (Q : Int → zH → Prop) : Prop :=
P_M_in a1 0 (w32 ((zd h 101 23) - 1)) h (fun r1 h2 =>
if r1 = 0 then
(P_M_in a1 1000 (w32 (999 + (zd h2 101 32))) h2 (fun r9 h10 =>
if r9 = 0 then
(P_M_in a1 2000 (w32 (1999 + (zd h10 155 0))) h10 (fun r11 h12 =>
if r11 = 0 then
(P_M_line_J64 a1 a2 (-1005) h12 Q)
else
(P_M_line_J52 a1 a2 h12 Q)))
else
(P_M_line_J52 a1 a2 h10 Q)))
else
(P_M_line_J52 a1 a2 h2 Q))
theorem W_M_line (a1 : Int) (a2 : Int) (h : zH) (Q : Int → zH → Prop) (hP : P_M_line a1 a2 h Q) : zC true zy_X3_line 2 [zR 101, zI a1, zI a2] h (zQ0 Q) := by
  unfold P_M_line at hP
  refine zC.of (by decide) (Nat.le_of_ble_eq_true rfl) ?_
  show zV true zy_X3_line 2 0 [zR 101, zI a1, zI a2, zU] [] h (zQ0 Q)
  refine zV_iload_n dX3_line_0 rfl ?_
  refine zV_iconst dX3_line_1 ⟨by decide, by decide⟩ ?_
  refine zV_aload_n dX3_line_2 rfl ?_
  refine zV_gf dX3_line_3 sa_101 (by decide) fl_X3_273_3 rfl (ki := 23) rfl ?_
  refine zV_iconst dX3_line_6 ⟨by decide, by decide⟩ ?_
  refine zV_isub dX3_line_7 ?_
  refine zV_cSk (As := [zI a1, zI 0, zI (w32 ((zd h 101 23) - 1))]) (rest := []) dX3_line_8 (W_M_in _ _ _ _ _ hP) mi_X3_in ml_X3_238 (by decide) (Nat.le_of_ble_eq_true rfl) rfl rfl rfl (fun r1 h2 hP => ?_)
  refine zV_if_ne (tgt := 52) dX3_line_11 (by decide) (fun c => ?_) (fun c => ?_)
  · have hP := zif_n hP c
    exact W_M_line_J52 _ _ _ _ hP
  · have hP := zif_p hP c
    refine zV_iload_n dX3_line_14 rfl ?_
    refine zV_sipush dX3_line_15 ⟨by decide, by decide, by decide⟩ ?_
    refine zV_sipush dX3_line_18 ⟨by decide, by decide, by decide⟩ ?_
    refine zV_aload_n dX3_line_21 rfl ?_
    refine zV_gf dX3_line_22 sa_101 (by decide) fl_X3_374_3 rfl (ki := 32) rfl ?_
    refine zV_iadd dX3_line_25 ?_
    refine zV_cSk (As := [zI a1, zI 1000, zI (w32 (999 + (zd h2 101 32)))]) (rest := []) dX3_line_26 (W_M_in _ _ _ _ _ hP) mi_X3_in ml_X3_238 (by decide) (Nat.le_of_ble_eq_true rfl) rfl rfl rfl (fun r9 h10 hP => ?_)
    refine zV_if_ne (tgt := 52) dX3_line_29 (by decide) (fun c => ?_) (fun c => ?_)
    · have hP := zif_n hP c
      exact W_M_line_J52 _ _ _ _ hP
    · have hP := zif_p hP c
      refine zV_iload_n dX3_line_32 rfl ?_
      refine zV_sipush dX3_line_33 ⟨by decide, by decide, by decide⟩ ?_
      refine zV_sipush dX3_line_36 ⟨by decide, by decide, by decide⟩ ?_
      refine zV_aload_n dX3_line_39 rfl ?_
      refine zV_sg dX3_line_40 fm_101_81 sa_101 (by decide) fl_X3_171_3 rfl ?_
      refine zV_iconst dX3_line_43 ⟨by decide, by decide⟩ ?_
      refine zV_ia dX3_line_44 sa_155 (by decide) ?_
      refine zV_iadd dX3_line_45 ?_
      refine zV_cSk (As := [zI a1, zI 2000, zI (w32 (1999 + (zd h10 155 0)))]) (rest := []) dX3_line_46 (W_M_in _ _ _ _ _ hP) mi_X3_in ml_X3_238 (by decide) (Nat.le_of_ble_eq_true rfl) rfl rfl rfl (fun r11 h12 hP => ?_)
      refine zV_if_eq (tgt := 61) dX3_line_49 (by decide) (fun c => ?_) (fun c => ?_)
      · have hP := zif_p hP c
        refine zV_sipush dX3_line_61 ⟨by decide, by decide, by decide⟩ ?_
        exact W_M_line_J64 _ _ _ _ _ hP
      · have hP := zif_n hP c
        exact W_M_line_J52 _ _ _ _ hP
def P_M_mark (a1 : Int) (h : zH) (Q : Int → zH → Prop) : Prop :=
(0 ≤ Int.tmod (zd h 101 27) 100 ∧ Int.tmod (zd h 101 27) 100 < 100) ∧
∀ h1 : zH, h1 = zw h 121 (Int.tmod (zd h 101 27) 100) a1 →
∀ h2 : zH, h2 = zw h1 101 27 (w32 ((zd h1 101 27) + 1)) →
Q 0 h2
theorem W_M_mark (a1 : Int) (h : zH) (Q : Int → zH → Prop) (hP : P_M_mark a1 h Q) : zC true zy_X3_mark 1 [zR 101, zI a1] h (zQ0 Q) := by
  unfold P_M_mark at hP
  refine zC.of (by decide) (Nat.le_of_ble_eq_true rfl) ?_
  show zV true zy_X3_mark 1 0 [zR 101, zI a1] [] h (zQ0 Q)
  refine zV_aload_n dX3_mark_0 rfl ?_
  refine zV_sg dX3_mark_1 fm_101_26 sa_101 (by decide) fl_X3_68_3 rfl ?_
  refine zV_aload_n dX3_mark_4 rfl ?_
  refine zV_gf dX3_mark_5 sa_101 (by decide) fl_X3_385_3 rfl (ki := 27) rfl ?_
  refine zV_bipush dX3_mark_8 ⟨by decide, by decide, by decide⟩ ?_
  refine zV_irem dX3_mark_10 (by decide) ?_
  refine zV_iload_n dX3_mark_11 rfl ?_
  obtain ⟨ob, hP⟩ := hP
  refine zV_ias dX3_mark_12 sa_121 ob (fun h1 e_h1 => ?_)
  have hP := hP h1 e_h1
  refine zV_aload_n dX3_mark_13 rfl ?_
  refine zV_dup dX3_mark_14 (Nat.ne_of_beq_eq_false rfl) ?_
  refine zV_gf dX3_mark_15 sa_101 (by decide) fl_X3_385_3 rfl (ki := 27) rfl ?_
  refine zV_iconst dX3_mark_18 ⟨by decide, by decide⟩ ?_
  refine zV_iadd dX3_mark_19 ?_
  refine zV_pf dX3_mark_20 sa_101 (by decide) fl_X3_385_3 rfl rfl trivial (ki := 27) rfl (fun h2 e_h2 => ?_)
  have hP := hP h2 e_h2
  exact zV_return dX3_mark_23 rfl ⟨rfl, hP⟩
def P_M_isTrue (a1 : Int) (h : zH) (Q : Int → zH → Prop) : Prop :=
(if a1 ≤ 0 then (0 ≤ w32 (-a1) ∧ w32 (-a1) < 301) ∧ True else (0 ≤ a1 ∧ a1 < 301) ∧ True) ∧
Q (if a1 ≤ 0 then if zd h 136 (w32 (-a1)) = 0 then 1 else 0 else if zd h 136 a1 = 1 then 1 else 0) h
theorem W_M_isTrue (a1 : Int) (h : zH) (Q : Int → zH → Prop) (hP : P_M_isTrue a1 h Q) : zC true zy_X3_isTrue 1 [zR 101, zI a1] h (zQ0 Q) := by
  unfold P_M_isTrue at hP
  refine zC.of (by decide) (Nat.le_of_ble_eq_true rfl) ?_
  show zV true zy_X3_isTrue 1 0 [zR 101, zI a1] [] h (zQ0 Q)
  refine zV_iload_n dX3_isTrue_0 rfl ?_
  obtain ⟨hO, hP⟩ := hP
  have K : zV true zy_X3_isTrue 1 37 [zU, zU] [zI (if a1 ≤ 0 then if zd h 136 (w32 (-a1)) = 0 then 1 else 0 else if zd h 136 a1 = 1 then 1 else 0)] h (zQ0 Q) := by
    exact zV_ireturn dX3_isTrue_37 rfl rfl (z01 (z01_if (z01_if z1 z0) (z01_if z1 z0))) ⟨rfl, hP⟩
  clear hP
  refine zV_if_le (tgt := 22) dX3_isTrue_1 (by decide) (fun c => ?_) (fun c => ?_)
  · try simp only [if_pos c] at K
    have hO := zif_p hO c
    refine zV_aload_n dX3_isTrue_22 rfl ?_
    refine zV_sg dX3_isTrue_23 fm_101_60 sa_101 (by decide) fl_X3_113_3 rfl ?_
    refine zV_iload_n dX3_isTrue_26 rfl ?_
    refine zV_ineg dX3_isTrue_27 ?_
    obtain ⟨ob, hO⟩ := hO
    refine zV_ia dX3_isTrue_28 sa_136 ob ?_
    refine zV_if_ne (tgt := 36) dX3_isTrue_29 (by decide) (fun c => ?_) (fun c => ?_)
    · try simp only [if_neg c] at K
      refine zV_iconst dX3_isTrue_36 ⟨by decide, by decide⟩ ?_
      refine zV_mask [false, false] rfl ?_
      exact K
    · try simp only [if_pos c] at K
      refine zV_iconst dX3_isTrue_32 ⟨by decide, by decide⟩ ?_
      refine zV_goto (tgt := 37) dX3_isTrue_33 (by decide) ?_
      refine zV_mask [false, false] rfl ?_
      exact K
  · try simp only [if_neg c] at K
    have hO := zif_n hO c
    refine zV_aload_n dX3_isTrue_4 rfl ?_
    refine zV_sg dX3_isTrue_5 fm_101_60 sa_101 (by decide) fl_X3_113_3 rfl ?_
    refine zV_iload_n dX3_isTrue_8 rfl ?_
    obtain ⟨ob, hO⟩ := hO
    refine zV_ia dX3_isTrue_9 sa_136 ob ?_
    refine zV_iconst dX3_isTrue_10 ⟨by decide, by decide⟩ ?_
    refine zV_icmp_ne (tgt := 18) dX3_isTrue_11 (by decide) (fun c => ?_) (fun c => ?_)
    · try simp only [if_neg c] at K
      refine zV_iconst dX3_isTrue_18 ⟨by decide, by decide⟩ ?_
      refine zV_goto (tgt := 37) dX3_isTrue_19 (by decide) ?_
      refine zV_mask [false, false] rfl ?_
      exact K
    · try simp only [if_pos c] at K
      refine zV_iconst dX3_isTrue_14 ⟨by decide, by decide⟩ ?_
      refine zV_goto (tgt := 37) dX3_isTrue_15 (by decide) ?_
      refine zV_mask [false, false] rfl ?_
      exact K
def P_M_isTextSo_J142 (y1 : Int) (y2 : Int) (y3 : Int) (y5 : Int) (y6 : Int) (y8 : Int) (s0 : Int) (s1 : Int) (h : zH) (Q : Int → zH → Prop) (k119 : Int → Int → zH → Prop) : Prop :=
∀ x7_5 : Int, x7_5 = (w32 (s1 + s0)) →
∀ x8_6 : Int, x8_6 = w32 (y8 + 1) →
k119 x7_5 x8_6 h
theorem W_M_isTextSo_J142 (y1 : Int) (y2 : Int) (y3 : Int) (y5 : Int) (y6 : Int) (y8 : Int) (s0 : Int) (s1 : Int) (h : zH) (Q : Int → zH → Prop) (k119 : Int → Int → zH → Prop) (H119 : ∀ (v7 v8 : Int) (h' : zH), k119 v7 v8 h' → zV true zy_X3_isTextSo 2 119 [zR 101, zI y1, zI y2, zI y3, zU, zI y5, zI y6, zI v7, zI v8, zU] [] h' (zQ0 Q)) (hP : P_M_isTextSo_J142 y1 y2 y3 y5 y6 y8 s0 s1 h Q k119) : zV true zy_X3_isTextSo 2 142 [zR 101, zI y1, zI y2, zI y3, zU, zI y5, zI y6, zU, zI y8, zU] [zI s0, zI s1] h (zQ0 Q) := by
  unfold P_M_isTextSo_J142 at hP
  refine zV_iadd dX3_isTextSo_142 ?_
  refine zV_top (fun x7_5 e_x7_5 => ?_)
  have hP := hP x7_5 e_x7_5
  refine zV_istore (ls' := [zR 101, zI y1, zI y2, zI y3, zU, zI y5, zI y6, zI x7_5, zI y8, zU]) dX3_isTextSo_143 (Nat.le_of_ble_eq_true rfl) rfl rfl ?_
  refine zV_inc (ls' := fun z => [zR 101, zI y1, zI y2, zI y3, zU, zI y5, zI y6, zI x7_5, zI z, zU]) dX3_isTextSo_145 (Nat.le_of_ble_eq_true rfl) rfl rfl (fun _ => rfl) (fun x8_6 e_x8_6 => ?_)
  have hP := hP x8_6 e_x8_6
  refine zV_goto (tgt := 119) dX3_isTextSo_148 (by decide) ?_
  exact H119 _ _ _ hP
def P_M_isTextSo_L119 (y1 : Int) (y2 : Int) (y3 : Int) (y5 : Int) (y6 : Int) (Q : Int → zH → Prop) (k151 : Int → zH → Prop) : Nat → Int → Int → zH → Prop
| 0, _, _, _ => False
| n119 + 1, y7, y8, h =>
if y2 ≤ y8 then
(k151 y7 h)
else
((0 ≤ y8 ∧ y8 < 60) ∧
P_M_isTextSo_J142 y1 y2 y3 y5 y6 y8 (if zd h 134 y8 = 0 then 0 else 1) y7 h Q (P_M_isTextSo_L119 y1 y2 y3 y5 y6 Q k151 n119))
theorem W_M_isTextSo_L119 (y1 : Int) (y2 : Int) (y3 : Int) (y5 : Int) (y6 : Int) (Q : Int → zH → Prop) (k151 : Int → zH → Prop) (H151 : ∀ (v7 : Int) (h' : zH), k151 v7 h' → zV true zy_X3_isTextSo 2 151 [zR 101, zI y1, zI y2, zI y3, zU, zI y5, zI y6, zI v7, zU, zU] [] h' (zQ0 Q)) : ∀ (n119 : Nat) (y7 y8 : Int) (h : zH), P_M_isTextSo_L119 y1 y2 y3 y5 y6 Q k151 n119 y7 y8 h → zV true zy_X3_isTextSo 2 119 [zR 101, zI y1, zI y2, zI y3, zU, zI y5, zI y6, zI y7, zI y8, zU] [] h (zQ0 Q) := by
  intro n119
  induction n119 with
  | zero => intro y7 y8 h hP; exact absurd hP id
  | succ n119 ih =>
    intro y7 y8 h hP
    unfold P_M_isTextSo_L119 at hP
    refine zV_iload dX3_isTextSo_119 rfl ?_
    refine zV_iload_n dX3_isTextSo_121 rfl ?_
    refine zV_icmp_ge (tgt := 151) dX3_isTextSo_122 (by decide) (fun c => ?_) (fun c => ?_)
    · have hP := zif_p hP c
      refine zV_mask [true, true, true, true, true, true, true, true, false, true] (ls' := [zR 101, zI y1, zI y2, zI y3, zU, zI y5, zI y6, zI y7, zU, zU]) rfl ?_
      exact H151 _ _ hP
    · have hP := zif_n hP c
      refine zV_iload dX3_isTextSo_125 rfl ?_
      refine zV_aload_n dX3_isTextSo_127 rfl ?_
      refine zV_sg dX3_isTextSo_128 fm_101_55 sa_101 (by decide) fl_X3_107_3 rfl ?_
      refine zV_iload dX3_isTextSo_131 rfl ?_
      obtain ⟨ob, hP⟩ := hP
      refine zV_za dX3_isTextSo_133 sa_134 ob ?_
      have K : zV true zy_X3_isTextSo 2 142 [zR 101, zI y1, zI y2, zI y3, zU, zI y5, zI y6, zU, zI y8, zU] [zI (if zd h 134 y8 = 0 then 0 else 1), zI y7] h (zQ0 Q) := by
        exact W_M_isTextSo_J142 _ _ _ _ _ _ _ _ _ _ _ ih hP
      clear hP
      refine zV_if_eq (tgt := 141) dX3_isTextSo_134 (by decide) (fun c => ?_) (fun c => ?_)
      · try simp only [if_pos c] at K
        refine zV_iconst dX3_isTextSo_141 ⟨by decide, by decide⟩ ?_
        refine zV_mask [true, true, true, true, false, true, true, false, true, false] rfl ?_
        exact K
      · try simp only [if_neg c] at K
        refine zV_iconst dX3_isTextSo_137 ⟨by decide, by decide⟩ ?_
        refine zV_goto (tgt := 142) dX3_isTextSo_138 (by decide) ?_
        refine zV_mask [true, true, true, true, false, true, true, false, true, false] rfl ?_
        exact K
def P_M_isTextSo_J264 (y1 : Int) (y2 : Int) (y3 : Int) (h : zH) (Q : Int → zH → Prop) (k4 : Int → Int → zH → Prop) : Prop :=
∀ x3_13 : Int, x3_13 = w32 (y3 + 1) →
k4 y2 x3_13 h
theorem W_M_isTextSo_J264 (y1 : Int) (y2 : Int) (y3 : Int) (h : zH) (Q : Int → zH → Prop) (k4 : Int → Int → zH → Prop) (H4 : ∀ (v2 v3 : Int) (h' : zH), k4 v2 v3 h' → zV true zy_X3_isTextSo 2 4 [zR 101, zI y1, zI v2, zI v3, zU, zU, zU, zU, zU, zU] [] h' (zQ0 Q)) (hP : P_M_isTextSo_J264 y1 y2 y3 h Q k4) : zV true zy_X3_isTextSo 2 264 [zR 101, zI y1, zI y2, zI y3, zU, zU, zU, zU, zU, zU] [] h (zQ0 Q) := by
  unfold P_M_isTextSo_J264 at hP
  refine zV_inc (ls' := fun z => [zR 101, zI y1, zI y2, zI z, zU, zU, zU, zU, zU, zU]) dX3_isTextSo_264 (Nat.le_of_ble_eq_true rfl) rfl rfl (fun _ => rfl) (fun x3_13 e_x3_13 => ?_)
  have hP := hP x3_13 e_x3_13
  refine zV_goto (tgt := 4) dX3_isTextSo_267 (by decide) ?_
  exact H4 _ _ _ hP
def P_M_isTextSo_J260 (y1 : Int) (y2 : Int) (y3 : Int) (s0 : Int) (s1 : Int) (h : zH) (Q : Int → zH → Prop) (k4 : Int → Int → zH → Prop) : Prop :=
(0 ≤ s1 ∧ s1 < 60) ∧
∀ h11 : zH, h11 = zw h 134 s1 (zbit s0) →
∀ x2_12 : Int, x2_12 = w32 (y2 + 1) →
P_M_isTextSo_J264 y1 x2_12 y3 h11 Q k4
theorem W_M_isTextSo_J260 (y1 : Int) (y2 : Int) (y3 : Int) (s0 : Int) (s1 : Int) (h : zH) (Q : Int → zH → Prop) (k4 : Int → Int → zH → Prop) (H4 : ∀ (v2 v3 : Int) (h' : zH), k4 v2 v3 h' → zV true zy_X3_isTextSo 2 4 [zR 101, zI y1, zI v2, zI v3, zU, zU, zU, zU, zU, zU] [] h' (zQ0 Q)) (hP : P_M_isTextSo_J260 y1 y2 y3 s0 s1 h Q k4) : zV true zy_X3_isTextSo 2 260 [zR 101, zI y1, zI y2, zI y3, zU, zU, zU, zU, zU, zU] [zI s0, zI s1, zR 134] h (zQ0 Q) := by
  unfold P_M_isTextSo_J260 at hP
  obtain ⟨ob, hP⟩ := hP
  refine zV_zas dX3_isTextSo_260 sa_134 ob (fun h11 e_h11 => ?_)
  have hP := hP h11 e_h11
  refine zV_inc (ls' := fun z => [zR 101, zI y1, zI z, zI y3, zU, zU, zU, zU, zU, zU]) dX3_isTextSo_261 (Nat.le_of_ble_eq_true rfl) rfl rfl (fun _ => rfl) (fun x2_12 e_x2_12 => ?_)
  have hP := hP x2_12 e_x2_12
  exact W_M_isTextSo_J264 _ _ _ _ _ _ H4 hP
def P_M_isTextSo_J90 (y1 : Int) (y2 : Int) (y3 : Int) (s0 : Int) (s1 : Int) (h : zH) (Q : Int → zH → Prop) (k4 : Int → Int → zH → Prop) : Prop :=
(0 ≤ s1 ∧ s1 < 60) ∧
∀ h14 : zH, h14 = zw h 134 s1 (zbit s0) →
P_M_isTextSo_J264 y1 y2 y3 h14 Q k4
theorem W_M_isTextSo_J90 (y1 : Int) (y2 : Int) (y3 : Int) (s0 : Int) (s1 : Int) (h : zH) (Q : Int → zH → Prop) (k4 : Int → Int → zH → Prop) (H4 : ∀ (v2 v3 : Int) (h' : zH), k4 v2 v3 h' → zV true zy_X3_isTextSo 2 4 [zR 101, zI y1, zI v2, zI v3, zU, zU, zU, zU, zU, zU] [] h' (zQ0 Q)) (hP : P_M_isTextSo_J90 y1 y2 y3 s0 s1 h Q k4) : zV true zy_X3_isTextSo 2 90 [zR 101, zI y1, zI y2, zI y3, zU, zU, zU, zU, zU, zU] [zI s0, zI s1, zR 134] h (zQ0 Q) := by
  unfold P_M_isTextSo_J90 at hP
  obtain ⟨ob, hP⟩ := hP
  refine zV_zas dX3_isTextSo_90 sa_134 ob (fun h14 e_h14 => ?_)
  have hP := hP h14 e_h14
  refine zV_goto (tgt := 264) dX3_isTextSo_91 (by decide) ?_
  exact W_M_isTextSo_J264 _ _ _ _ _ _ H4 hP
def P_M_isTextSo_L4 (y1 : Int) (Q : Int → zH → Prop) : Nat → Int → Int → zH → Prop
| 0, _, _, _ => False
| n4 + 1, y2, y3, h =>
(0 ≤ y1 ∧ y1 < 60) ∧
if zd h 118 y1 ≤ y3 then
((zd h 134 0 = 0 ∨ zd h 134 0 = 1) ∧ Q (zd h 134 0) h)
else
((0 ≤ w32 ((w32 (60 * y1)) + y3) ∧ w32 ((w32 (60 * y1)) + y3) < 3600) ∧
∀ x4_1 : Int, x4_1 = (zd h 117 (w32 ((w32 (60 * y1)) + y3))) →
if 0 ≤ x4_1 then
(if x4_1 = 0 then
((0 ≤ w32 (y2 - 1) ∧ w32 (y2 - 1) < 60) ∧
P_M_isTextSo_J90 y1 y2 y3 (if zd h 134 (w32 (y2 - 1)) = 0 then 1 else 0) (w32 (y2 - 1)) h Q (P_M_isTextSo_L4 y1 Q n4))
else
(∀ x5_2 : Int, x5_2 = (Int.tmod x4_1 1000) →
∀ x6_3 : Int, x6_3 = (w32 (Int.tdiv x4_1 1000)) →
∀ x8_4 : Int, x8_4 = (w32 (y2 - x5_2)) →
∃ n119, P_M_isTextSo_L119 y1 y2 y3 x5_2 x6_3 Q (fun u7_151 h7 =>
(0 ≤ w32 (y2 - x5_2) ∧ w32 (y2 - x5_2) < 60) ∧
∀ x8_8 : Int, x8_8 = (zd h7 134 (w32 (y2 - x5_2))) →
(0 ≤ w32 (y2 - 1) ∧ w32 (y2 - 1) < 60) ∧
∀ x9_9 : Int, x9_9 = (zd h7 134 (w32 (y2 - 1))) →
∀ x2_10 : Int, x2_10 = (w32 (y2 - x5_2)) →
P_M_isTextSo_J260 y1 x2_10 y3 (if x6_3 = 38 then if u7_151 = x5_2 then 1 else 0 else if x6_3 = 124 then if u7_151 ≤ 0 then 0 else 1 else if x6_3 = 106 then if u7_151 = 1 then 1 else 0 else if x8_8 = 0 then 1 else if x9_9 = 0 then 0 else 1) x2_10 h7 Q (P_M_isTextSo_L4 y1 Q n4)) n119 0 x8_4 h))
else
((0 ≤ w32 ((w32 ((w32 (30 * y1)) - x4_1)) - 1) ∧ w32 ((w32 ((w32 (30 * y1)) - x4_1)) - 1) < 1800) ∧
P_M_isTrue (zd h 112 (w32 ((w32 ((w32 (30 * y1)) - x4_1)) - 1))) h (fun r15 h16 =>
(0 ≤ y2 ∧ y2 < 60) ∧
∀ h17 : zH, h17 = zw h16 134 y2 (zbit r15) →
∀ x2_18 : Int, x2_18 = w32 (y2 + 1) →
P_M_isTextSo_J264 y1 x2_18 y3 h17 Q (P_M_isTextSo_L4 y1 Q n4))))
theorem W_M_isTextSo_L4 (y1 : Int) (Q : Int → zH → Prop) : ∀ (n4 : Nat) (y2 y3 : Int) (h : zH), P_M_isTextSo_L4 y1 Q n4 y2 y3 h → zV true zy_X3_isTextSo 2 4 [zR 101, zI y1, zI y2, zI y3, zU, zU, zU, zU, zU, zU] [] h (zQ0 Q) := by
  intro n4
  induction n4 with
  | zero => intro y2 y3 h hP; exact absurd hP id
  | succ n4 ih =>
    intro y2 y3 h hP
    unfold P_M_isTextSo_L4 at hP
    refine zV_iload_n dX3_isTextSo_4 rfl ?_
    refine zV_aload_n dX3_isTextSo_5 rfl ?_
    refine zV_sg dX3_isTextSo_6 fm_101_22 sa_101 (by decide) fl_X3_59_3 rfl ?_
    refine zV_iload_n dX3_isTextSo_9 rfl ?_
    obtain ⟨ob, hP⟩ := hP
    refine zV_ia dX3_isTextSo_10 sa_118 ob ?_
    refine zV_icmp_ge (tgt := 270) dX3_isTextSo_11 (by decide) (fun c => ?_) (fun c => ?_)
    · have hP := zif_p hP c
      refine zV_aload_n dX3_isTextSo_270 rfl ?_
      refine zV_sg dX3_isTextSo_271 fm_101_55 sa_101 (by decide) fl_X3_107_3 rfl ?_
      refine zV_iconst dX3_isTextSo_274 ⟨by decide, by decide⟩ ?_
      refine zV_za dX3_isTextSo_275 sa_134 (by decide) ?_
      exact zV_ireturn dX3_isTextSo_276 rfl rfl (z01 hP.1) ⟨rfl, hP.2⟩
    · have hP := zif_n hP c
      refine zV_aload_n dX3_isTextSo_14 rfl ?_
      refine zV_sg dX3_isTextSo_15 fm_101_21 sa_101 (by decide) fl_X3_56_3 rfl ?_
      refine zV_bipush dX3_isTextSo_18 ⟨by decide, by decide, by decide⟩ ?_
      refine zV_iload_n dX3_isTextSo_20 rfl ?_
      refine zV_imul dX3_isTextSo_21 ?_
      refine zV_iload_n dX3_isTextSo_22 rfl ?_
      refine zV_iadd dX3_isTextSo_23 ?_
      obtain ⟨ob, hP⟩ := hP
      refine zV_ia dX3_isTextSo_24 sa_117 ob ?_
      refine zV_top (fun x4_1 e_x4_1 => ?_)
      have hP := hP x4_1 e_x4_1
      refine zV_istore (ls' := [zR 101, zI y1, zI y2, zI y3, zI x4_1, zU, zU, zU, zU, zU]) dX3_isTextSo_25 (Nat.le_of_ble_eq_true rfl) rfl rfl ?_
      refine zV_iload dX3_isTextSo_27 rfl ?_
      refine zV_if_ge (tgt := 62) dX3_isTextSo_29 (by decide) (fun c => ?_) (fun c => ?_)
      · have hP := zif_p hP c
        refine zV_iload dX3_isTextSo_62 rfl ?_
        refine zV_if_ne (tgt := 94) dX3_isTextSo_64 (by decide) (fun c => ?_) (fun c => ?_)
        · have hP := zif_n hP c
          refine zV_iload dX3_isTextSo_94 rfl ?_
          refine zV_sipush dX3_isTextSo_96 ⟨by decide, by decide, by decide⟩ ?_
          refine zV_irem dX3_isTextSo_99 (by decide) ?_
          refine zV_top (fun x5_2 e_x5_2 => ?_)
          have hP := hP x5_2 e_x5_2
          refine zV_istore (ls' := [zR 101, zI y1, zI y2, zI y3, zI x4_1, zI x5_2, zU, zU, zU, zU]) dX3_isTextSo_100 (Nat.le_of_ble_eq_true rfl) rfl rfl ?_
          refine zV_iload dX3_isTextSo_102 rfl ?_
          refine zV_sipush dX3_isTextSo_104 ⟨by decide, by decide, by decide⟩ ?_
          refine zV_idiv dX3_isTextSo_107 (by decide) ?_
          refine zV_top (fun x6_3 e_x6_3 => ?_)
          have hP := hP x6_3 e_x6_3
          refine zV_istore (ls' := [zR 101, zI y1, zI y2, zI y3, zI x4_1, zI x5_2, zI x6_3, zU, zU, zU]) dX3_isTextSo_108 (Nat.le_of_ble_eq_true rfl) rfl rfl ?_
          refine zV_iconst dX3_isTextSo_110 ⟨by decide, by decide⟩ ?_
          refine zV_istore (ls' := [zR 101, zI y1, zI y2, zI y3, zI x4_1, zI x5_2, zI x6_3, zI 0, zU, zU]) dX3_isTextSo_111 (Nat.le_of_ble_eq_true rfl) rfl rfl ?_
          refine zV_iload_n dX3_isTextSo_113 rfl ?_
          refine zV_iload dX3_isTextSo_114 rfl ?_
          refine zV_isub dX3_isTextSo_116 ?_
          refine zV_top (fun x8_4 e_x8_4 => ?_)
          have hP := hP x8_4 e_x8_4
          refine zV_istore (ls' := [zR 101, zI y1, zI y2, zI y3, zI x4_1, zI x5_2, zI x6_3, zI 0, zI x8_4, zU]) dX3_isTextSo_117 (Nat.le_of_ble_eq_true rfl) rfl rfl ?_
          obtain ⟨n119, hP⟩ := hP
          refine zV_mask [true, true, true, true, false, true, true, true, true, true] (ls' := [zR 101, zI y1, zI y2, zI y3, zU, zI x5_2, zI x6_3, zI 0, zI x8_4, zU]) rfl ?_
          refine W_M_isTextSo_L119 _ _ _ _ _ _ _ (fun u7_151 h7 hP => ?_) n119 _ _ _ hP
          refine zV_aload_n dX3_isTextSo_151 rfl ?_
          refine zV_sg dX3_isTextSo_152 fm_101_55 sa_101 (by decide) fl_X3_107_3 rfl ?_
          refine zV_iload_n dX3_isTextSo_155 rfl ?_
          refine zV_iload dX3_isTextSo_156 rfl ?_
          refine zV_isub dX3_isTextSo_158 ?_
          obtain ⟨ob, hP⟩ := hP
          refine zV_za dX3_isTextSo_159 sa_134 ob ?_
          refine zV_top (fun x8_8 e_x8_8 => ?_)
          have hP := hP x8_8 e_x8_8
          refine zV_istore (ls' := [zR 101, zI y1, zI y2, zI y3, zU, zI x5_2, zI x6_3, zI u7_151, zI x8_8, zU]) dX3_isTextSo_160 (Nat.le_of_ble_eq_true rfl) rfl rfl ?_
          refine zV_aload_n dX3_isTextSo_162 rfl ?_
          refine zV_sg dX3_isTextSo_163 fm_101_55 sa_101 (by decide) fl_X3_107_3 rfl ?_
          refine zV_iload_n dX3_isTextSo_166 rfl ?_
          refine zV_iconst dX3_isTextSo_167 ⟨by decide, by decide⟩ ?_
          refine zV_isub dX3_isTextSo_168 ?_
          obtain ⟨ob, hP⟩ := hP
          refine zV_za dX3_isTextSo_169 sa_134 ob ?_
          refine zV_top (fun x9_9 e_x9_9 => ?_)
          have hP := hP x9_9 e_x9_9
          refine zV_istore (ls' := [zR 101, zI y1, zI y2, zI y3, zU, zI x5_2, zI x6_3, zI u7_151, zI x8_8, zI x9_9]) dX3_isTextSo_170 (Nat.le_of_ble_eq_true rfl) rfl rfl ?_
          refine zV_iload_n dX3_isTextSo_172 rfl ?_
          refine zV_iload dX3_isTextSo_173 rfl ?_
          refine zV_isub dX3_isTextSo_175 ?_
          refine zV_top (fun x2_10 e_x2_10 => ?_)
          have hP := hP x2_10 e_x2_10
          refine zV_istore_n (ls' := [zR 101, zI y1, zI x2_10, zI y3, zU, zI x5_2, zI x6_3, zI u7_151, zI x8_8, zI x9_9]) dX3_isTextSo_176 rfl (Nat.le_of_ble_eq_true rfl) rfl rfl ?_
          refine zV_aload_n dX3_isTextSo_177 rfl ?_
          refine zV_sg dX3_isTextSo_178 fm_101_55 sa_101 (by decide) fl_X3_107_3 rfl ?_
          refine zV_iload_n dX3_isTextSo_181 rfl ?_
          refine zV_iload dX3_isTextSo_182 rfl ?_
          refine zV_bipush dX3_isTextSo_184 ⟨by decide, by decide, by decide⟩ ?_
          have K : zV true zy_X3_isTextSo 2 260 [zR 101, zI y1, zI x2_10, zI y3, zU, zU, zU, zU, zU, zU] [zI (if x6_3 = 38 then if u7_151 = x5_2 then 1 else 0 else if x6_3 = 124 then if u7_151 ≤ 0 then 0 else 1 else if x6_3 = 106 then if u7_151 = 1 then 1 else 0 else if x8_8 = 0 then 1 else if x9_9 = 0 then 0 else 1), zI x2_10, zR 134] h7 (zQ0 Q) := by
            exact W_M_isTextSo_J260 _ _ _ _ _ _ _ _ ih hP
          clear hP
          refine zV_icmp_ne (tgt := 204) dX3_isTextSo_186 (by decide) (fun c => ?_) (fun c => ?_)
          · try simp only [if_neg c] at K
            refine zV_iload dX3_isTextSo_204 rfl ?_
            refine zV_bipush dX3_isTextSo_206 ⟨by decide, by decide, by decide⟩ ?_
            refine zV_icmp_ne (tgt := 224) dX3_isTextSo_208 (by decide) (fun c => ?_) (fun c => ?_)
            · try simp only [if_neg c] at K
              refine zV_iload dX3_isTextSo_224 rfl ?_
              refine zV_bipush dX3_isTextSo_226 ⟨by decide, by decide, by decide⟩ ?_
              refine zV_icmp_ne (tgt := 245) dX3_isTextSo_228 (by decide) (fun c => ?_) (fun c => ?_)
              · try simp only [if_neg c] at K
                refine zV_iload dX3_isTextSo_245 rfl ?_
                refine zV_if_eq (tgt := 255) dX3_isTextSo_247 (by decide) (fun c => ?_) (fun c => ?_)
                · try simp only [if_pos c] at K
                  refine zV_iconst dX3_isTextSo_255 ⟨by decide, by decide⟩ ?_
                  refine zV_goto (tgt := 260) dX3_isTextSo_256 (by decide) ?_
                  refine zV_mask [true, true, true, true, false, false, false, false, false, false] rfl ?_
                  exact K
                · try simp only [if_neg c] at K
                  refine zV_iload dX3_isTextSo_250 rfl ?_
                  refine zV_if_eq (tgt := 259) dX3_isTextSo_252 (by decide) (fun c => ?_) (fun c => ?_)
                  · try simp only [if_pos c] at K
                    refine zV_iconst dX3_isTextSo_259 ⟨by decide, by decide⟩ ?_
                    refine zV_mask [true, true, true, true, false, false, false, false, false, false] rfl ?_
                    exact K
                  · try simp only [if_neg c] at K
                    refine zV_iconst dX3_isTextSo_255 ⟨by decide, by decide⟩ ?_
                    refine zV_goto (tgt := 260) dX3_isTextSo_256 (by decide) ?_
                    refine zV_mask [true, true, true, true, false, false, false, false, false, false] rfl ?_
                    exact K
              · try simp only [if_pos c] at K
                refine zV_iload dX3_isTextSo_231 rfl ?_
                refine zV_iconst dX3_isTextSo_233 ⟨by decide, by decide⟩ ?_
                refine zV_icmp_ne (tgt := 241) dX3_isTextSo_234 (by decide) (fun c => ?_) (fun c => ?_)
                · try simp only [if_neg c] at K
                  refine zV_iconst dX3_isTextSo_241 ⟨by decide, by decide⟩ ?_
                  refine zV_goto (tgt := 260) dX3_isTextSo_242 (by decide) ?_
                  refine zV_mask [true, true, true, true, false, false, false, false, false, false] rfl ?_
                  exact K
                · try simp only [if_pos c] at K
                  refine zV_iconst dX3_isTextSo_237 ⟨by decide, by decide⟩ ?_
                  refine zV_goto (tgt := 260) dX3_isTextSo_238 (by decide) ?_
                  refine zV_mask [true, true, true, true, false, false, false, false, false, false] rfl ?_
                  exact K
            · try simp only [if_pos c] at K
              refine zV_iload dX3_isTextSo_211 rfl ?_
              refine zV_if_le (tgt := 220) dX3_isTextSo_213 (by decide) (fun c => ?_) (fun c => ?_)
              · try simp only [if_pos c] at K
                refine zV_iconst dX3_isTextSo_220 ⟨by decide, by decide⟩ ?_
                refine zV_goto (tgt := 260) dX3_isTextSo_221 (by decide) ?_
                refine zV_mask [true, true, true, true, false, false, false, false, false, false] rfl ?_
                exact K
              · try simp only [if_neg c] at K
                refine zV_iconst dX3_isTextSo_216 ⟨by decide, by decide⟩ ?_
                refine zV_goto (tgt := 260) dX3_isTextSo_217 (by decide) ?_
                refine zV_mask [true, true, true, true, false, false, false, false, false, false] rfl ?_
                exact K
          · try simp only [if_pos c] at K
            refine zV_iload dX3_isTextSo_189 rfl ?_
            refine zV_iload dX3_isTextSo_191 rfl ?_
            refine zV_icmp_ne (tgt := 200) dX3_isTextSo_193 (by decide) (fun c => ?_) (fun c => ?_)
            · try simp only [if_neg c] at K
              refine zV_iconst dX3_isTextSo_200 ⟨by decide, by decide⟩ ?_
              refine zV_goto (tgt := 260) dX3_isTextSo_201 (by decide) ?_
              refine zV_mask [true, true, true, true, false, false, false, false, false, false] rfl ?_
              exact K
            · try simp only [if_pos c] at K
              refine zV_iconst dX3_isTextSo_196 ⟨by decide, by decide⟩ ?_
              refine zV_goto (tgt := 260) dX3_isTextSo_197 (by decide) ?_
              refine zV_mask [true, true, true, true, false, false, false, false, false, false] rfl ?_
              exact K
        · have hP := zif_p hP c
          refine zV_aload_n dX3_isTextSo_67 rfl ?_
          refine zV_sg dX3_isTextSo_68 fm_101_55 sa_101 (by decide) fl_X3_107_3 rfl ?_
          refine zV_iload_n dX3_isTextSo_71 rfl ?_
          refine zV_iconst dX3_isTextSo_72 ⟨by decide, by decide⟩ ?_
          refine zV_isub dX3_isTextSo_73 ?_
          refine zV_aload_n dX3_isTextSo_74 rfl ?_
          refine zV_sg dX3_isTextSo_75 fm_101_55 sa_101 (by decide) fl_X3_107_3 rfl ?_
          refine zV_iload_n dX3_isTextSo_78 rfl ?_
          refine zV_iconst dX3_isTextSo_79 ⟨by decide, by decide⟩ ?_
          refine zV_isub dX3_isTextSo_80 ?_
          obtain ⟨ob, hP⟩ := hP
          refine zV_za dX3_isTextSo_81 sa_134 ob ?_
          have K : zV true zy_X3_isTextSo 2 90 [zR 101, zI y1, zI y2, zI y3, zU, zU, zU, zU, zU, zU] [zI (if zd h 134 (w32 (y2 - 1)) = 0 then 1 else 0), zI (w32 (y2 - 1)), zR 134] h (zQ0 Q) := by
            exact W_M_isTextSo_J90 _ _ _ _ _ _ _ _ ih hP
          clear hP
          refine zV_if_ne (tgt := 89) dX3_isTextSo_82 (by decide) (fun c => ?_) (fun c => ?_)
          · try simp only [if_neg c] at K
            refine zV_iconst dX3_isTextSo_89 ⟨by decide, by decide⟩ ?_
            refine zV_mask [true, true, true, true, false, false, false, false, false, false] rfl ?_
            exact K
          · try simp only [if_pos c] at K
            refine zV_iconst dX3_isTextSo_85 ⟨by decide, by decide⟩ ?_
            refine zV_goto (tgt := 90) dX3_isTextSo_86 (by decide) ?_
            refine zV_mask [true, true, true, true, false, false, false, false, false, false] rfl ?_
            exact K
      · have hP := zif_n hP c
        refine zV_aload_n dX3_isTextSo_32 rfl ?_
        refine zV_sg dX3_isTextSo_33 fm_101_55 sa_101 (by decide) fl_X3_107_3 rfl ?_
        refine zV_iload_n dX3_isTextSo_36 rfl ?_
        refine zV_aload_n dX3_isTextSo_37 rfl ?_
        refine zV_aload_n dX3_isTextSo_38 rfl ?_
        refine zV_sg dX3_isTextSo_39 fm_101_16 sa_101 (by decide) fl_X3_41_3 rfl ?_
        refine zV_bipush dX3_isTextSo_42 ⟨by decide, by decide, by decide⟩ ?_
        refine zV_iload_n dX3_isTextSo_44 rfl ?_
        refine zV_imul dX3_isTextSo_45 ?_
        refine zV_iload dX3_isTextSo_46 rfl ?_
        refine zV_isub dX3_isTextSo_48 ?_
        refine zV_iconst dX3_isTextSo_49 ⟨by decide, by decide⟩ ?_
        refine zV_isub dX3_isTextSo_50 ?_
        obtain ⟨ob, hP⟩ := hP
        refine zV_ia dX3_isTextSo_51 sa_112 ob ?_
        refine zV_cVk (As := [zI (zd h 112 (w32 ((w32 ((w32 (30 * y1)) - x4_1)) - 1)))]) (rest := [zI y2, zR 134]) dX3_isTextSo_52 sa_101 (W_M_isTrue _ _ _ hP) mi_X3_isTrue ml_X3_388 (by decide) (Nat.le_of_ble_eq_true rfl) rfl rfl rfl (fun r15 h16 hP => ?_)
        obtain ⟨ob, hP⟩ := hP
        refine zV_zas dX3_isTextSo_55 sa_134 ob (fun h17 e_h17 => ?_)
        have hP := hP h17 e_h17
        refine zV_inc (ls' := fun z => [zR 101, zI y1, zI z, zI y3, zI x4_1, zU, zU, zU, zU, zU]) dX3_isTextSo_56 (Nat.le_of_ble_eq_true rfl) rfl rfl (fun _ => rfl) (fun x2_18 e_x2_18 => ?_)
        have hP := hP x2_18 e_x2_18
        refine zV_goto (tgt := 264) dX3_isTextSo_59 (by decide) ?_
        refine zV_mask [true, true, true, true, false, true, true, true, true, true] (ls' := [zR 101, zI y1, zI x2_18, zI y3, zU, zU, zU, zU, zU, zU]) rfl ?_
        exact W_M_isTextSo_J264 _ _ _ _ _ _ ih hP
def P_M_isTextSo (a1 : Int) (h : zH) (Q : Int → zH → Prop) : Prop :=
∃ n4, P_M_isTextSo_L4 a1 Q n4 0 0 h
theorem W_M_isTextSo (a1 : Int) (h : zH) (Q : Int → zH → Prop) (hP : P_M_isTextSo a1 h Q) : zC true zy_X3_isTextSo 2 [zR 101, zI a1] h (zQ0 Q) := by
  unfold P_M_isTextSo at hP
  refine zC.of (by decide) (Nat.le_of_ble_eq_true rfl) ?_
  show zV true zy_X3_isTextSo 2 0 [zR 101, zI a1, zU, zU, zU, zU, zU, zU, zU, zU] [] h (zQ0 Q)
  refine zV_iconst dX3_isTextSo_0 ⟨by decide, by decide⟩ ?_
  refine zV_istore_n (ls' := [zR 101, zI a1, zI 0, zU, zU, zU, zU, zU, zU, zU]) dX3_isTextSo_1 rfl (Nat.le_of_ble_eq_true rfl) rfl rfl ?_
  refine zV_iconst dX3_isTextSo_2 ⟨by decide, by decide⟩ ?_
  refine zV_istore_n (ls' := [zR 101, zI a1, zI 0, zI 0, zU, zU, zU, zU, zU, zU]) dX3_isTextSo_3 rfl (Nat.le_of_ble_eq_true rfl) rfl rfl ?_
  obtain ⟨n4, hP⟩ := hP
  refine W_M_isTextSo_L4 _ _ n4 _ _ _ hP
def P_M_truesOf_J38 (y1 : Int) (y3 : Int) (s0 : Int) (s1 : Int) (h : zH) (Q : Int → zH → Prop) (k4 : Int → Int → zH → Prop) : Prop :=
∀ x2_3 : Int, x2_3 = (w32 (s1 + s0)) →
∀ x3_4 : Int, x3_4 = w32 (y3 + 1) →
k4 x2_3 x3_4 h
theorem W_M_truesOf_J38 (y1 : Int) (y3 : Int) (s0 : Int) (s1 : Int) (h : zH) (Q : Int → zH → Prop) (k4 : Int → Int → zH → Prop) (H4 : ∀ (v2 v3 : Int) (h' : zH), k4 v2 v3 h' → zV true zy_X3_truesOf 2 4 [zR 101, zI y1, zI v2, zI v3] [] h' (zQ0 Q)) (hP : P_M_truesOf_J38 y1 y3 s0 s1 h Q k4) : zV true zy_X3_truesOf 2 38 [zR 101, zI y1, zU, zI y3] [zI s0, zI s1] h (zQ0 Q) := by
  unfold P_M_truesOf_J38 at hP
  refine zV_iadd dX3_truesOf_38 ?_
  refine zV_top (fun x2_3 e_x2_3 => ?_)
  have hP := hP x2_3 e_x2_3
  refine zV_istore_n (ls' := [zR 101, zI y1, zI x2_3, zI y3]) dX3_truesOf_39 rfl (Nat.le_of_ble_eq_true rfl) rfl rfl ?_
  refine zV_inc (ls' := fun z => [zR 101, zI y1, zI x2_3, zI z]) dX3_truesOf_40 (Nat.le_of_ble_eq_true rfl) rfl rfl (fun _ => rfl) (fun x3_4 e_x3_4 => ?_)
  have hP := hP x3_4 e_x3_4
  refine zV_goto (tgt := 4) dX3_truesOf_43 (by decide) ?_
  exact H4 _ _ _ hP
def P_M_truesOf_L4 (y1 : Int) (Q : Int → zH → Prop) : Nat → Int → Int → zH → Prop
| 0, _, _, _ => False
| n4 + 1, y2, y3, h =>
(0 ≤ y1 ∧ y1 < 60) ∧
if zd h 111 y1 ≤ y3 then
(Q y2 h)
else
((0 ≤ w32 ((w32 (30 * y1)) + y3) ∧ w32 ((w32 (30 * y1)) + y3) < 1800) ∧
P_M_isTrue (zd h 112 (w32 ((w32 (30 * y1)) + y3))) h (fun r1 h2 =>
P_M_truesOf_J38 y1 y3 (if r1 = 0 then 0 else 1) y2 h2 Q (P_M_truesOf_L4 y1 Q n4)))
theorem W_M_truesOf_L4 (y1 : Int) (Q : Int → zH → Prop) : ∀ (n4 : Nat) (y2 y3 : Int) (h : zH), P_M_truesOf_L4 y1 Q n4 y2 y3 h → zV true zy_X3_truesOf 2 4 [zR 101, zI y1, zI y2, zI y3] [] h (zQ0 Q) := by
  intro n4
  induction n4 with
  | zero => intro y2 y3 h hP; exact absurd hP id
  | succ n4 ih =>
    intro y2 y3 h hP
    unfold P_M_truesOf_L4 at hP
    refine zV_iload_n dX3_truesOf_4 rfl ?_
    refine zV_aload_n dX3_truesOf_5 rfl ?_
    refine zV_sg dX3_truesOf_6 fm_101_15 sa_101 (by decide) fl_X3_38_3 rfl ?_
    refine zV_iload_n dX3_truesOf_9 rfl ?_
    obtain ⟨ob, hP⟩ := hP
    refine zV_ia dX3_truesOf_10 sa_111 ob ?_
    refine zV_icmp_ge (tgt := 46) dX3_truesOf_11 (by decide) (fun c => ?_) (fun c => ?_)
    · have hP := zif_p hP c
      refine zV_iload_n dX3_truesOf_46 rfl ?_
      exact zV_ireturn dX3_truesOf_47 rfl rfl rfl ⟨rfl, hP⟩
    · have hP := zif_n hP c
      refine zV_iload_n dX3_truesOf_14 rfl ?_
      refine zV_aload_n dX3_truesOf_15 rfl ?_
      refine zV_aload_n dX3_truesOf_16 rfl ?_
      refine zV_sg dX3_truesOf_17 fm_101_16 sa_101 (by decide) fl_X3_41_3 rfl ?_
      refine zV_bipush dX3_truesOf_20 ⟨by decide, by decide, by decide⟩ ?_
      refine zV_iload_n dX3_truesOf_22 rfl ?_
      refine zV_imul dX3_truesOf_23 ?_
      refine zV_iload_n dX3_truesOf_24 rfl ?_
      refine zV_iadd dX3_truesOf_25 ?_
      obtain ⟨ob, hP⟩ := hP
      refine zV_ia dX3_truesOf_26 sa_112 ob ?_
      refine zV_cVk (As := [zI (zd h 112 (w32 ((w32 (30 * y1)) + y3)))]) (rest := [zI y2]) dX3_truesOf_27 sa_101 (W_M_isTrue _ _ _ hP) mi_X3_isTrue ml_X3_388 (by decide) (Nat.le_of_ble_eq_true rfl) rfl rfl rfl (fun r1 h2 hP => ?_)
      have K : zV true zy_X3_truesOf 2 38 [zR 101, zI y1, zU, zI y3] [zI (if r1 = 0 then 0 else 1), zI y2] h2 (zQ0 Q) := by
        exact W_M_truesOf_J38 _ _ _ _ _ _ _ ih hP
      clear hP
      refine zV_if_eq (tgt := 37) dX3_truesOf_30 (by decide) (fun c => ?_) (fun c => ?_)
      · try simp only [if_pos c] at K
        refine zV_iconst dX3_truesOf_37 ⟨by decide, by decide⟩ ?_
        refine zV_mask [true, true, false, true] rfl ?_
        exact K
      · try simp only [if_neg c] at K
        refine zV_iconst dX3_truesOf_33 ⟨by decide, by decide⟩ ?_
        refine zV_goto (tgt := 38) dX3_truesOf_34 (by decide) ?_
        refine zV_mask [true, true, false, true] rfl ?_
        exact K
def P_M_truesOf (a1 : Int) (h : zH) (Q : Int → zH → Prop) : Prop :=
∃ n4, P_M_truesOf_L4 a1 Q n4 0 0 h
theorem W_M_truesOf (a1 : Int) (h : zH) (Q : Int → zH → Prop) (hP : P_M_truesOf a1 h Q) : zC true zy_X3_truesOf 2 [zR 101, zI a1] h (zQ0 Q) := by
  unfold P_M_truesOf at hP
  refine zC.of (by decide) (Nat.le_of_ble_eq_true rfl) ?_
  show zV true zy_X3_truesOf 2 0 [zR 101, zI a1, zU, zU] [] h (zQ0 Q)
  refine zV_iconst dX3_truesOf_0 ⟨by decide, by decide⟩ ?_
  refine zV_istore_n (ls' := [zR 101, zI a1, zI 0, zU]) dX3_truesOf_1 rfl (Nat.le_of_ble_eq_true rfl) rfl rfl ?_
  refine zV_iconst dX3_truesOf_2 ⟨by decide, by decide⟩ ?_
  refine zV_istore_n (ls' := [zR 101, zI a1, zI 0, zI 0]) dX3_truesOf_3 rfl (Nat.le_of_ble_eq_true rfl) rfl rfl ?_
  obtain ⟨n4, hP⟩ := hP
  refine W_M_truesOf_L4 _ _ n4 _ _ _ hP
def P_M_holds (a1 : Int) (h : zH) (Q : Int → zH → Prop) : Prop :=
(0 ≤ a1 ∧ a1 < 60) ∧
∀ x2_1 : Int, x2_1 = (zd h 108 a1) →
P_M_mark (w32 (10 * x2_1)) h (fun r2 h3 =>
if x2_1 = 4 then
(P_M_isTextSo a1 h3 (fun r8 h9 =>
(r8 = 0 ∨ r8 = 1) ∧ Q r8 h9))
else
(P_M_truesOf a1 h3 (fun r4 h5 =>
if x2_1 = 2 then
(P_M_mark 10 h5 (fun r6 h7 =>
(0 ≤ a1 ∧ a1 < 60) ∧
Q (if r4 = zd h7 109 a1 then 1 else 0) h7))
else
((if x2_1 = 0 then True else (if x2_1 = 1 then (0 ≤ a1 ∧ a1 < 60) ∧ True else (if Int.tmod r4 2 = 1 then (0 ≤ a1 ∧ a1 < 60) ∧ True else (0 ≤ a1 ∧ a1 < 60) ∧ True))) ∧
Q (if x2_1 = 0 then if r4 ≤ 0 then 0 else 1 else if x2_1 = 1 then if zd h5 109 a1 < r4 then 0 else 1 else if Int.tmod r4 2 = 1 then if 1 = zd h5 110 a1 then 1 else 0 else if 0 = zd h5 110 a1 then 1 else 0) h5))))
theorem W_M_holds (a1 : Int) (h : zH) (Q : Int → zH → Prop) (hP : P_M_holds a1 h Q) : zC true zy_X3_holds 3 [zR 101, zI a1] h (zQ0 Q) := by
  unfold P_M_holds at hP
  refine zC.of (by decide) (Nat.le_of_ble_eq_true rfl) ?_
  show zV true zy_X3_holds 3 0 [zR 101, zI a1, zU, zU] [] h (zQ0 Q)
  refine zV_aload_n dX3_holds_0 rfl ?_
  refine zV_sg dX3_holds_1 fm_101_12 sa_101 (by decide) fl_X3_29_3 rfl ?_
  refine zV_iload_n dX3_holds_4 rfl ?_
  obtain ⟨ob, hP⟩ := hP
  refine zV_ia dX3_holds_5 sa_108 ob ?_
  refine zV_top (fun x2_1 e_x2_1 => ?_)
  have hP := hP x2_1 e_x2_1
  refine zV_istore_n (ls' := [zR 101, zI a1, zI x2_1, zU]) dX3_holds_6 rfl (Nat.le_of_ble_eq_true rfl) rfl rfl ?_
  refine zV_aload_n dX3_holds_7 rfl ?_
  refine zV_bipush dX3_holds_8 ⟨by decide, by decide, by decide⟩ ?_
  refine zV_iload_n dX3_holds_10 rfl ?_
  refine zV_imul dX3_holds_11 ?_
  refine zV_cVv (As := [zI (w32 (10 * x2_1))]) (rest := []) dX3_holds_12 sa_101 (W_M_mark _ _ _ hP) mi_X3_mark ml_X3_391 (by decide) (Nat.le_of_ble_eq_true rfl) rfl rfl (fun r2 h3 hP => ?_)
  refine zV_iload_n dX3_holds_15 rfl ?_
  refine zV_iconst dX3_holds_16 ⟨by decide, by decide⟩ ?_
  refine zV_icmp_ne (tgt := 26) dX3_holds_17 (by decide) (fun c => ?_) (fun c => ?_)
  · have hP := zif_n hP c
    refine zV_aload_n dX3_holds_26 rfl ?_
    refine zV_iload_n dX3_holds_27 rfl ?_
    refine zV_cVk (As := [zI a1]) (rest := []) dX3_holds_28 sa_101 (W_M_truesOf _ _ _ hP) mi_X3_truesOf ml_X3_397 (by decide) (Nat.le_of_ble_eq_true rfl) rfl rfl rfl (fun r4 h5 hP => ?_)
    refine zV_istore_n (ls' := [zR 101, zI a1, zI x2_1, zI r4]) dX3_holds_31 rfl (Nat.le_of_ble_eq_true rfl) rfl rfl ?_
    refine zV_iload_n dX3_holds_32 rfl ?_
    refine zV_iconst dX3_holds_33 ⟨by decide, by decide⟩ ?_
    refine zV_icmp_ne (tgt := 59) dX3_holds_34 (by decide) (fun c => ?_) (fun c => ?_)
    · have hP := zif_n hP c
      refine zV_iload_n dX3_holds_59 rfl ?_
      obtain ⟨hO, hP⟩ := hP
      have K : zV true zy_X3_holds 3 124 [zU, zU, zU, zU] [zI (if x2_1 = 0 then if r4 ≤ 0 then 0 else 1 else if x2_1 = 1 then if zd h5 109 a1 < r4 then 0 else 1 else if Int.tmod r4 2 = 1 then if 1 = zd h5 110 a1 then 1 else 0 else if 0 = zd h5 110 a1 then 1 else 0)] h5 (zQ0 Q) := by
        exact zV_ireturn dX3_holds_124 rfl rfl (z01 (z01_if (z01_if z0 z1) (z01_if (z01_if z0 z1) (z01_if (z01_if z1 z0) (z01_if z1 z0))))) ⟨rfl, hP⟩
      clear hP
      refine zV_if_ne (tgt := 75) dX3_holds_60 (by decide) (fun c => ?_) (fun c => ?_)
      · try simp only [if_neg c] at K
        have hO := zif_n hO c
        refine zV_iload_n dX3_holds_75 rfl ?_
        refine zV_iconst dX3_holds_76 ⟨by decide, by decide⟩ ?_
        refine zV_icmp_ne (tgt := 98) dX3_holds_77 (by decide) (fun c => ?_) (fun c => ?_)
        · try simp only [if_neg c] at K
          have hO := zif_n hO c
          refine zV_iload_n dX3_holds_98 rfl ?_
          refine zV_iconst dX3_holds_99 ⟨by decide, by decide⟩ ?_
          refine zV_irem dX3_holds_100 (by decide) ?_
          refine zV_iconst dX3_holds_101 ⟨by decide, by decide⟩ ?_
          refine zV_icmp_ne (tgt := 109) dX3_holds_102 (by decide) (fun c => ?_) (fun c => ?_)
          · try simp only [if_neg c] at K
            have hO := zif_n hO c
            refine zV_iconst dX3_holds_109 ⟨by decide, by decide⟩ ?_
            refine zV_aload_n dX3_holds_110 rfl ?_
            refine zV_sg dX3_holds_111 fm_101_14 sa_101 (by decide) fl_X3_35_3 rfl ?_
            refine zV_iload_n dX3_holds_114 rfl ?_
            obtain ⟨ob, hO⟩ := hO
            refine zV_za dX3_holds_115 sa_110 ob ?_
            refine zV_icmp_ne (tgt := 123) dX3_holds_116 (by decide) (fun c => ?_) (fun c => ?_)
            · try simp only [if_neg c] at K
              refine zV_iconst dX3_holds_123 ⟨by decide, by decide⟩ ?_
              refine zV_mask [false, false, false, false] rfl ?_
              exact K
            · try simp only [if_pos c] at K
              refine zV_iconst dX3_holds_119 ⟨by decide, by decide⟩ ?_
              refine zV_goto (tgt := 124) dX3_holds_120 (by decide) ?_
              refine zV_mask [false, false, false, false] rfl ?_
              exact K
          · try simp only [if_pos c] at K
            have hO := zif_p hO c
            refine zV_iconst dX3_holds_105 ⟨by decide, by decide⟩ ?_
            refine zV_goto (tgt := 110) dX3_holds_106 (by decide) ?_
            refine zV_aload_n dX3_holds_110 rfl ?_
            refine zV_sg dX3_holds_111 fm_101_14 sa_101 (by decide) fl_X3_35_3 rfl ?_
            refine zV_iload_n dX3_holds_114 rfl ?_
            obtain ⟨ob, hO⟩ := hO
            refine zV_za dX3_holds_115 sa_110 ob ?_
            refine zV_icmp_ne (tgt := 123) dX3_holds_116 (by decide) (fun c => ?_) (fun c => ?_)
            · try simp only [if_neg c] at K
              refine zV_iconst dX3_holds_123 ⟨by decide, by decide⟩ ?_
              refine zV_mask [false, false, false, false] rfl ?_
              exact K
            · try simp only [if_pos c] at K
              refine zV_iconst dX3_holds_119 ⟨by decide, by decide⟩ ?_
              refine zV_goto (tgt := 124) dX3_holds_120 (by decide) ?_
              refine zV_mask [false, false, false, false] rfl ?_
              exact K
        · try simp only [if_pos c] at K
          have hO := zif_p hO c
          refine zV_iload_n dX3_holds_80 rfl ?_
          refine zV_aload_n dX3_holds_81 rfl ?_
          refine zV_sg dX3_holds_82 fm_101_13 sa_101 (by decide) fl_X3_32_3 rfl ?_
          refine zV_iload_n dX3_holds_85 rfl ?_
          obtain ⟨ob, hO⟩ := hO
          refine zV_ia dX3_holds_86 sa_109 ob ?_
          refine zV_icmp_gt (tgt := 94) dX3_holds_87 (by decide) (fun c => ?_) (fun c => ?_)
          · try simp only [if_pos c] at K
            refine zV_iconst dX3_holds_94 ⟨by decide, by decide⟩ ?_
            refine zV_goto (tgt := 124) dX3_holds_95 (by decide) ?_
            refine zV_mask [false, false, false, false] rfl ?_
            exact K
          · try simp only [if_neg c] at K
            refine zV_iconst dX3_holds_90 ⟨by decide, by decide⟩ ?_
            refine zV_goto (tgt := 124) dX3_holds_91 (by decide) ?_
            refine zV_mask [false, false, false, false] rfl ?_
            exact K
      · try simp only [if_pos c] at K
        have hO := zif_p hO c
        refine zV_iload_n dX3_holds_63 rfl ?_
        refine zV_if_le (tgt := 71) dX3_holds_64 (by decide) (fun c => ?_) (fun c => ?_)
        · try simp only [if_pos c] at K
          refine zV_iconst dX3_holds_71 ⟨by decide, by decide⟩ ?_
          refine zV_goto (tgt := 124) dX3_holds_72 (by decide) ?_
          refine zV_mask [false, false, false, false] rfl ?_
          exact K
        · try simp only [if_neg c] at K
          refine zV_iconst dX3_holds_67 ⟨by decide, by decide⟩ ?_
          refine zV_goto (tgt := 124) dX3_holds_68 (by decide) ?_
          refine zV_mask [false, false, false, false] rfl ?_
          exact K
    · have hP := zif_p hP c
      refine zV_aload_n dX3_holds_37 rfl ?_
      refine zV_bipush dX3_holds_38 ⟨by decide, by decide, by decide⟩ ?_
      refine zV_cVv (As := [zI 10]) (rest := []) dX3_holds_40 sa_101 (W_M_mark _ _ _ hP) mi_X3_mark ml_X3_391 (by decide) (Nat.le_of_ble_eq_true rfl) rfl rfl (fun r6 h7 hP => ?_)
      refine zV_iload_n dX3_holds_43 rfl ?_
      refine zV_aload_n dX3_holds_44 rfl ?_
      refine zV_sg dX3_holds_45 fm_101_13 sa_101 (by decide) fl_X3_32_3 rfl ?_
      refine zV_iload_n dX3_holds_48 rfl ?_
      obtain ⟨ob, hP⟩ := hP
      refine zV_ia dX3_holds_49 sa_109 ob ?_
      have K : zV true zy_X3_holds 3 58 [zU, zU, zU, zU] [zI (if r4 = zd h7 109 a1 then 1 else 0)] h7 (zQ0 Q) := by
        exact zV_ireturn dX3_holds_58 rfl rfl (z01 (z01_if z1 z0)) ⟨rfl, hP⟩
      clear hP
      refine zV_icmp_ne (tgt := 57) dX3_holds_50 (by decide) (fun c => ?_) (fun c => ?_)
      · try simp only [if_neg c] at K
        refine zV_iconst dX3_holds_57 ⟨by decide, by decide⟩ ?_
        refine zV_mask [false, false, false, false] rfl ?_
        exact K
      · try simp only [if_pos c] at K
        refine zV_iconst dX3_holds_53 ⟨by decide, by decide⟩ ?_
        refine zV_goto (tgt := 58) dX3_holds_54 (by decide) ?_
        refine zV_mask [false, false, false, false] rfl ?_
        exact K
  · have hP := zif_p hP c
    refine zV_aload_n dX3_holds_20 rfl ?_
    refine zV_iload_n dX3_holds_21 rfl ?_
    refine zV_cVk (As := [zI a1]) (rest := []) dX3_holds_22 sa_101 (W_M_isTextSo _ _ _ hP) mi_X3_isTextSo ml_X3_394 (by decide) (Nat.le_of_ble_eq_true rfl) rfl rfl rfl (fun r8 h9 hP => ?_)
    exact zV_ireturn dX3_holds_25 rfl rfl (z01 hP.1) ⟨rfl, hP.2⟩
def P_M_leastTrue_J61 (y2 : Int) (h : zH) (Q : Int → zH → Prop) : Prop :=
P_M_mark 1 h (fun r1 h2 =>
P_M_mark 51 h2 (fun r3 h4 =>
Q (if y2 = 1 then 0 else 1) h4))
theorem W_M_leastTrue_J61 (y2 : Int) (h : zH) (Q : Int → zH → Prop) (hP : P_M_leastTrue_J61 y2 h Q) : zV true zy_X3_leastTrue 2 61 [zR 101, zU, zI y2] [] h (zQ0 Q) := by
  unfold P_M_leastTrue_J61 at hP
  refine zV_aload_n dX3_leastTrue_61 rfl ?_
  refine zV_iconst dX3_leastTrue_62 ⟨by decide, by decide⟩ ?_
  refine zV_cVv (As := [zI 1]) (rest := []) dX3_leastTrue_63 sa_101 (W_M_mark _ _ _ hP) mi_X3_mark ml_X3_391 (by decide) (Nat.le_of_ble_eq_true rfl) rfl rfl (fun r1 h2 hP => ?_)
  refine zV_aload_n dX3_leastTrue_66 rfl ?_
  refine zV_bipush dX3_leastTrue_67 ⟨by decide, by decide, by decide⟩ ?_
  refine zV_cVv (As := [zI 51]) (rest := []) dX3_leastTrue_69 sa_101 (W_M_mark _ _ _ hP) mi_X3_mark ml_X3_391 (by decide) (Nat.le_of_ble_eq_true rfl) rfl rfl (fun r3 h4 hP => ?_)
  refine zV_iload_n dX3_leastTrue_72 rfl ?_
  refine zV_iconst dX3_leastTrue_73 ⟨by decide, by decide⟩ ?_
  have K : zV true zy_X3_leastTrue 2 82 [zU, zU, zU] [zI (if y2 = 1 then 0 else 1)] h4 (zQ0 Q) := by
    exact zV_ireturn dX3_leastTrue_82 rfl rfl rfl ⟨rfl, hP⟩
  clear hP
  refine zV_icmp_ne (tgt := 81) dX3_leastTrue_74 (by decide) (fun c => ?_) (fun c => ?_)
  · try simp only [if_neg c] at K
    refine zV_iconst dX3_leastTrue_81 ⟨by decide, by decide⟩ ?_
    refine zV_mask [false, false, false] rfl ?_
    exact K
  · try simp only [if_pos c] at K
    refine zV_iconst dX3_leastTrue_77 ⟨by decide, by decide⟩ ?_
    refine zV_goto (tgt := 82) dX3_leastTrue_78 (by decide) ?_
    refine zV_mask [false, false, false] rfl ?_
    exact K
def P_M_leastTrue (a1 : Int) (a2 : Int) (h : zH) (Q : Int → zH → Prop) : Prop :=
if a2 = 2 then
(P_M_mark 21 h (fun r11 h12 =>
(0 ≤ a1 ∧ a1 < 60) ∧
Q (zd h12 109 a1) h12))
else
(if a2 = 3 then
(P_M_mark 31 h (fun r7 h8 =>
P_M_mark 51 h8 (fun r9 h10 =>
(0 ≤ a1 ∧ a1 < 60) ∧
Q (if zd h10 110 a1 = 0 then 0 else 1) h10)))
else
(if a2 = 1 then
(P_M_mark 11 h (fun r5 h6 =>
P_M_leastTrue_J61 a2 h6 Q))
else
(P_M_leastTrue_J61 a2 h Q)))
theorem W_M_leastTrue (a1 : Int) (a2 : Int) (h : zH) (Q : Int → zH → Prop) (hP : P_M_leastTrue a1 a2 h Q) : zC true zy_X3_leastTrue 2 [zR 101, zI a1, zI a2] h (zQ0 Q) := by
  unfold P_M_leastTrue at hP
  refine zC.of (by decide) (Nat.le_of_ble_eq_true rfl) ?_
  show zV true zy_X3_leastTrue 2 0 [zR 101, zI a1, zI a2] [] h (zQ0 Q)
  refine zV_iload_n dX3_leastTrue_0 rfl ?_
  refine zV_iconst dX3_leastTrue_1 ⟨by decide, by decide⟩ ?_
  refine zV_icmp_ne (tgt := 18) dX3_leastTrue_2 (by decide) (fun c => ?_) (fun c => ?_)
  · have hP := zif_n hP c
    refine zV_iload_n dX3_leastTrue_18 rfl ?_
    refine zV_iconst dX3_leastTrue_19 ⟨by decide, by decide⟩ ?_
    refine zV_icmp_ne (tgt := 50) dX3_leastTrue_20 (by decide) (fun c => ?_) (fun c => ?_)
    · have hP := zif_n hP c
      refine zV_iload_n dX3_leastTrue_50 rfl ?_
      refine zV_iconst dX3_leastTrue_51 ⟨by decide, by decide⟩ ?_
      refine zV_icmp_ne (tgt := 61) dX3_leastTrue_52 (by decide) (fun c => ?_) (fun c => ?_)
      · have hP := zif_n hP c
        refine zV_mask [true, false, true] (ls' := [zR 101, zU, zI a2]) rfl ?_
        exact W_M_leastTrue_J61 _ _ _ hP
      · have hP := zif_p hP c
        refine zV_aload_n dX3_leastTrue_55 rfl ?_
        refine zV_bipush dX3_leastTrue_56 ⟨by decide, by decide, by decide⟩ ?_
        refine zV_cVv (As := [zI 11]) (rest := []) dX3_leastTrue_58 sa_101 (W_M_mark _ _ _ hP) mi_X3_mark ml_X3_391 (by decide) (Nat.le_of_ble_eq_true rfl) rfl rfl (fun r5 h6 hP => ?_)
        refine zV_mask [true, false, true] (ls' := [zR 101, zU, zI a2]) rfl ?_
        exact W_M_leastTrue_J61 _ _ _ hP
    · have hP := zif_p hP c
      refine zV_aload_n dX3_leastTrue_23 rfl ?_
      refine zV_bipush dX3_leastTrue_24 ⟨by decide, by decide, by decide⟩ ?_
      refine zV_cVv (As := [zI 31]) (rest := []) dX3_leastTrue_26 sa_101 (W_M_mark _ _ _ hP) mi_X3_mark ml_X3_391 (by decide) (Nat.le_of_ble_eq_true rfl) rfl rfl (fun r7 h8 hP => ?_)
      refine zV_aload_n dX3_leastTrue_29 rfl ?_
      refine zV_bipush dX3_leastTrue_30 ⟨by decide, by decide, by decide⟩ ?_
      refine zV_cVv (As := [zI 51]) (rest := []) dX3_leastTrue_32 sa_101 (W_M_mark _ _ _ hP) mi_X3_mark ml_X3_391 (by decide) (Nat.le_of_ble_eq_true rfl) rfl rfl (fun r9 h10 hP => ?_)
      refine zV_aload_n dX3_leastTrue_35 rfl ?_
      refine zV_sg dX3_leastTrue_36 fm_101_14 sa_101 (by decide) fl_X3_35_3 rfl ?_
      refine zV_iload_n dX3_leastTrue_39 rfl ?_
      obtain ⟨ob, hP⟩ := hP
      refine zV_za dX3_leastTrue_40 sa_110 ob ?_
      have K : zV true zy_X3_leastTrue 2 49 [zU, zU, zU] [zI (if zd h10 110 a1 = 0 then 0 else 1)] h10 (zQ0 Q) := by
        exact zV_ireturn dX3_leastTrue_49 rfl rfl rfl ⟨rfl, hP⟩
      clear hP
      refine zV_if_eq (tgt := 48) dX3_leastTrue_41 (by decide) (fun c => ?_) (fun c => ?_)
      · try simp only [if_pos c] at K
        refine zV_iconst dX3_leastTrue_48 ⟨by decide, by decide⟩ ?_
        refine zV_mask [false, false, false] rfl ?_
        exact K
      · try simp only [if_neg c] at K
        refine zV_iconst dX3_leastTrue_44 ⟨by decide, by decide⟩ ?_
        refine zV_goto (tgt := 49) dX3_leastTrue_45 (by decide) ?_
        refine zV_mask [false, false, false] rfl ?_
        exact K
  · have hP := zif_p hP c
    refine zV_aload_n dX3_leastTrue_5 rfl ?_
    refine zV_bipush dX3_leastTrue_6 ⟨by decide, by decide, by decide⟩ ?_
    refine zV_cVv (As := [zI 21]) (rest := []) dX3_leastTrue_8 sa_101 (W_M_mark _ _ _ hP) mi_X3_mark ml_X3_391 (by decide) (Nat.le_of_ble_eq_true rfl) rfl rfl (fun r11 h12 hP => ?_)
    refine zV_aload_n dX3_leastTrue_11 rfl ?_
    refine zV_sg dX3_leastTrue_12 fm_101_13 sa_101 (by decide) fl_X3_32_3 rfl ?_
    refine zV_iload_n dX3_leastTrue_15 rfl ?_
    obtain ⟨ob, hP⟩ := hP
    refine zV_ia dX3_leastTrue_16 sa_109 ob ?_
    exact zV_ireturn dX3_leastTrue_17 rfl rfl rfl ⟨rfl, hP⟩
def P_M_mostTrue_J79 (y1 : Int) (y3 : Int) (s0 : Int) (h : zH) (Q : Int → zH → Prop) : Prop :=
(0 ≤ y1 ∧ y1 < 60) ∧
Q (if s0 = zd h 110 y1 then y3 else w32 (y3 - 1)) h
theorem W_M_mostTrue_J79 (y1 : Int) (y3 : Int) (s0 : Int) (h : zH) (Q : Int → zH → Prop) (hP : P_M_mostTrue_J79 y1 y3 s0 h Q) : zV true zy_X3_mostTrue 2 79 [zR 101, zI y1, zU, zI y3] [zI s0] h (zQ0 Q) := by
  unfold P_M_mostTrue_J79 at hP
  refine zV_aload_n dX3_mostTrue_79 rfl ?_
  refine zV_sg dX3_mostTrue_80 fm_101_14 sa_101 (by decide) fl_X3_35_3 rfl ?_
  refine zV_iload_n dX3_mostTrue_83 rfl ?_
  obtain ⟨ob, hP⟩ := hP
  refine zV_za dX3_mostTrue_84 sa_110 ob ?_
  have K : zV true zy_X3_mostTrue 2 95 [zU, zU, zU, zU] [zI (if s0 = zd h 110 y1 then y3 else w32 (y3 - 1))] h (zQ0 Q) := by
    exact zV_ireturn dX3_mostTrue_95 rfl rfl rfl ⟨rfl, hP⟩
  clear hP
  refine zV_icmp_ne (tgt := 92) dX3_mostTrue_85 (by decide) (fun c => ?_) (fun c => ?_)
  · try simp only [if_neg c] at K
    refine zV_iload_n dX3_mostTrue_92 rfl ?_
    refine zV_iconst dX3_mostTrue_93 ⟨by decide, by decide⟩ ?_
    refine zV_isub dX3_mostTrue_94 ?_
    refine zV_mask [false, false, false, false] rfl ?_
    exact K
  · try simp only [if_pos c] at K
    refine zV_iload_n dX3_mostTrue_88 rfl ?_
    refine zV_goto (tgt := 95) dX3_mostTrue_89 (by decide) ?_
    refine zV_mask [false, false, false, false] rfl ?_
    exact K
def P_M_mostTrue_J50 (y1 : Int) (y2 : Int) (y3 : Int) (h : zH) (Q : Int → zH → Prop) : Prop :=
P_M_mark 52 h (fun r4 h5 =>
if y2 = 0 then
(Q y3 h5)
else
(if y2 = 3 then
(P_M_mostTrue_J79 y1 y3 (if Int.tmod y3 2 = 1 then 1 else 0) h5 Q)
else
((0 ≤ y1 ∧ y1 < 60) ∧
(if zd h5 109 y1 ≤ y3 then (0 ≤ y1 ∧ y1 < 60) ∧ True else True) ∧
Q (if zd h5 109 y1 ≤ y3 then zd h5 109 y1 else y3) h5)))
theorem W_M_mostTrue_J50 (y1 : Int) (y2 : Int) (y3 : Int) (h : zH) (Q : Int → zH → Prop) (hP : P_M_mostTrue_J50 y1 y2 y3 h Q) : zV true zy_X3_mostTrue 2 50 [zR 101, zI y1, zI y2, zI y3] [] h (zQ0 Q) := by
  unfold P_M_mostTrue_J50 at hP
  refine zV_aload_n dX3_mostTrue_50 rfl ?_
  refine zV_bipush dX3_mostTrue_51 ⟨by decide, by decide, by decide⟩ ?_
  refine zV_cVv (As := [zI 52]) (rest := []) dX3_mostTrue_53 sa_101 (W_M_mark _ _ _ hP) mi_X3_mark ml_X3_391 (by decide) (Nat.le_of_ble_eq_true rfl) rfl rfl (fun r4 h5 hP => ?_)
  refine zV_iload_n dX3_mostTrue_56 rfl ?_
  refine zV_if_ne (tgt := 62) dX3_mostTrue_57 (by decide) (fun c => ?_) (fun c => ?_)
  · have hP := zif_n hP c
    refine zV_iload_n dX3_mostTrue_62 rfl ?_
    refine zV_iconst dX3_mostTrue_63 ⟨by decide, by decide⟩ ?_
    refine zV_icmp_ne (tgt := 96) dX3_mostTrue_64 (by decide) (fun c => ?_) (fun c => ?_)
    · have hP := zif_n hP c
      refine zV_iload_n dX3_mostTrue_96 rfl ?_
      refine zV_aload_n dX3_mostTrue_97 rfl ?_
      refine zV_sg dX3_mostTrue_98 fm_101_13 sa_101 (by decide) fl_X3_32_3 rfl ?_
      refine zV_iload_n dX3_mostTrue_101 rfl ?_
      obtain ⟨ob, hP⟩ := hP
      refine zV_ia dX3_mostTrue_102 sa_109 ob ?_
      obtain ⟨hO, hP⟩ := hP
      have K : zV true zy_X3_mostTrue 2 116 [zU, zU, zU, zU] [zI (if zd h5 109 y1 ≤ y3 then zd h5 109 y1 else y3)] h5 (zQ0 Q) := by
        exact zV_ireturn dX3_mostTrue_116 rfl rfl rfl ⟨rfl, hP⟩
      clear hP
      refine zV_icmp_ge (tgt := 110) dX3_mostTrue_103 (by decide) (fun c => ?_) (fun c => ?_)
      · try simp only [if_pos c] at K
        have hO := zif_p hO c
        refine zV_aload_n dX3_mostTrue_110 rfl ?_
        refine zV_sg dX3_mostTrue_111 fm_101_13 sa_101 (by decide) fl_X3_32_3 rfl ?_
        refine zV_iload_n dX3_mostTrue_114 rfl ?_
        obtain ⟨ob, hO⟩ := hO
        refine zV_ia dX3_mostTrue_115 sa_109 ob ?_
        refine zV_mask [false, false, false, false] rfl ?_
        exact K
      · try simp only [if_neg c] at K
        have hO := zif_n hO c
        refine zV_iload_n dX3_mostTrue_106 rfl ?_
        refine zV_goto (tgt := 116) dX3_mostTrue_107 (by decide) ?_
        refine zV_mask [false, false, false, false] rfl ?_
        exact K
    · have hP := zif_p hP c
      refine zV_iload_n dX3_mostTrue_67 rfl ?_
      refine zV_iconst dX3_mostTrue_68 ⟨by decide, by decide⟩ ?_
      refine zV_irem dX3_mostTrue_69 (by decide) ?_
      refine zV_iconst dX3_mostTrue_70 ⟨by decide, by decide⟩ ?_
      have K : zV true zy_X3_mostTrue 2 79 [zR 101, zI y1, zU, zI y3] [zI (if Int.tmod y3 2 = 1 then 1 else 0)] h5 (zQ0 Q) := by
        exact W_M_mostTrue_J79 _ _ _ _ _ hP
      clear hP
      refine zV_icmp_ne (tgt := 78) dX3_mostTrue_71 (by decide) (fun c => ?_) (fun c => ?_)
      · try simp only [if_neg c] at K
        refine zV_iconst dX3_mostTrue_78 ⟨by decide, by decide⟩ ?_
        refine zV_mask [true, true, false, true] rfl ?_
        exact K
      · try simp only [if_pos c] at K
        refine zV_iconst dX3_mostTrue_74 ⟨by decide, by decide⟩ ?_
        refine zV_goto (tgt := 79) dX3_mostTrue_75 (by decide) ?_
        refine zV_mask [true, true, false, true] rfl ?_
        exact K
  · have hP := zif_p hP c
    refine zV_iload_n dX3_mostTrue_60 rfl ?_
    exact zV_ireturn dX3_mostTrue_61 rfl rfl rfl ⟨rfl, hP⟩
def P_M_mostTrue_J30 (y1 : Int) (y2 : Int) (y3 : Int) (h : zH) (Q : Int → zH → Prop) : Prop :=
P_M_mark 12 h (fun r2 h3 =>
P_M_mostTrue_J50 y1 y2 y3 h3 Q)
theorem W_M_mostTrue_J30 (y1 : Int) (y2 : Int) (y3 : Int) (h : zH) (Q : Int → zH → Prop) (hP : P_M_mostTrue_J30 y1 y2 y3 h Q) : zV true zy_X3_mostTrue 2 30 [zR 101, zI y1, zI y2, zI y3] [] h (zQ0 Q) := by
  unfold P_M_mostTrue_J30 at hP
  refine zV_aload_n dX3_mostTrue_30 rfl ?_
  refine zV_bipush dX3_mostTrue_31 ⟨by decide, by decide, by decide⟩ ?_
  refine zV_cVv (As := [zI 12]) (rest := []) dX3_mostTrue_33 sa_101 (W_M_mark _ _ _ hP) mi_X3_mark ml_X3_391 (by decide) (Nat.le_of_ble_eq_true rfl) rfl rfl (fun r2 h3 hP => ?_)
  refine zV_goto (tgt := 50) dX3_mostTrue_36 (by decide) ?_
  exact W_M_mostTrue_J50 _ _ _ _ _ hP
def P_M_mostTrue (a1 : Int) (a2 : Int) (h : zH) (Q : Int → zH → Prop) : Prop :=
(0 ≤ a1 ∧ a1 < 60) ∧
∀ x3_1 : Int, x3_1 = (zd h 111 a1) →
if a2 = 4 then
(P_M_mark 42 h (fun r8 h9 =>
Q 1 h9))
else
(if a2 = 1 then
(P_M_mostTrue_J30 a1 a2 x3_1 h Q)
else
(if a2 = 2 then
(P_M_mostTrue_J30 a1 a2 x3_1 h Q)
else
(if a2 = 3 then
(P_M_mark 32 h (fun r6 h7 =>
P_M_mostTrue_J50 a1 a2 x3_1 h7 Q))
else
(P_M_mostTrue_J50 a1 a2 x3_1 h Q))))
theorem W_M_mostTrue (a1 : Int) (a2 : Int) (h : zH) (Q : Int → zH → Prop) (hP : P_M_mostTrue a1 a2 h Q) : zC true zy_X3_mostTrue 2 [zR 101, zI a1, zI a2] h (zQ0 Q) := by
  unfold P_M_mostTrue at hP
  refine zC.of (by decide) (Nat.le_of_ble_eq_true rfl) ?_
  show zV true zy_X3_mostTrue 2 0 [zR 101, zI a1, zI a2, zU] [] h (zQ0 Q)
  refine zV_aload_n dX3_mostTrue_0 rfl ?_
  refine zV_sg dX3_mostTrue_1 fm_101_15 sa_101 (by decide) fl_X3_38_3 rfl ?_
  refine zV_iload_n dX3_mostTrue_4 rfl ?_
  obtain ⟨ob, hP⟩ := hP
  refine zV_ia dX3_mostTrue_5 sa_111 ob ?_
  refine zV_top (fun x3_1 e_x3_1 => ?_)
  have hP := hP x3_1 e_x3_1
  refine zV_istore_n (ls' := [zR 101, zI a1, zI a2, zI x3_1]) dX3_mostTrue_6 rfl (Nat.le_of_ble_eq_true rfl) rfl rfl ?_
  refine zV_iload_n dX3_mostTrue_7 rfl ?_
  refine zV_iconst dX3_mostTrue_8 ⟨by decide, by decide⟩ ?_
  refine zV_icmp_ne (tgt := 20) dX3_mostTrue_9 (by decide) (fun c => ?_) (fun c => ?_)
  · have hP := zif_n hP c
    refine zV_iload_n dX3_mostTrue_20 rfl ?_
    refine zV_iconst dX3_mostTrue_21 ⟨by decide, by decide⟩ ?_
    refine zV_icmp_eq (tgt := 30) dX3_mostTrue_22 (by decide) (fun c => ?_) (fun c => ?_)
    · have hP := zif_p hP c
      exact W_M_mostTrue_J30 _ _ _ _ _ hP
    · have hP := zif_n hP c
      refine zV_iload_n dX3_mostTrue_25 rfl ?_
      refine zV_iconst dX3_mostTrue_26 ⟨by decide, by decide⟩ ?_
      refine zV_icmp_ne (tgt := 39) dX3_mostTrue_27 (by decide) (fun c => ?_) (fun c => ?_)
      · have hP := zif_n hP c
        refine zV_iload_n dX3_mostTrue_39 rfl ?_
        refine zV_iconst dX3_mostTrue_40 ⟨by decide, by decide⟩ ?_
        refine zV_icmp_ne (tgt := 50) dX3_mostTrue_41 (by decide) (fun c => ?_) (fun c => ?_)
        · have hP := zif_n hP c
          exact W_M_mostTrue_J50 _ _ _ _ _ hP
        · have hP := zif_p hP c
          refine zV_aload_n dX3_mostTrue_44 rfl ?_
          refine zV_bipush dX3_mostTrue_45 ⟨by decide, by decide, by decide⟩ ?_
          refine zV_cVv (As := [zI 32]) (rest := []) dX3_mostTrue_47 sa_101 (W_M_mark _ _ _ hP) mi_X3_mark ml_X3_391 (by decide) (Nat.le_of_ble_eq_true rfl) rfl rfl (fun r6 h7 hP => ?_)
          exact W_M_mostTrue_J50 _ _ _ _ _ hP
      · have hP := zif_p hP c
        exact W_M_mostTrue_J30 _ _ _ _ _ hP
  · have hP := zif_p hP c
    refine zV_aload_n dX3_mostTrue_12 rfl ?_
    refine zV_bipush dX3_mostTrue_13 ⟨by decide, by decide, by decide⟩ ?_
    refine zV_cVv (As := [zI 42]) (rest := []) dX3_mostTrue_15 sa_101 (W_M_mark _ _ _ hP) mi_X3_mark ml_X3_391 (by decide) (Nat.le_of_ble_eq_true rfl) rfl rfl (fun r8 h9 hP => ?_)
    refine zV_iconst dX3_mostTrue_18 ⟨by decide, by decide⟩ ?_
    exact zV_ireturn dX3_mostTrue_19 rfl rfl rfl ⟨rfl, hP⟩
def P_M_ask_J55 (y1 : Int) (y2 : Int) (h : zH) (Q : Int → zH → Prop) : Prop :=
if y2 = 0 then
(P_M_holds y1 h (fun r7 h8 =>
Q (if r7 = 0 then 0 else 1) h8))
else
(if y2 = 1 then
((0 ≤ y1 ∧ y1 < 60) ∧
P_M_leastTrue y1 (zd h 108 y1) h (fun r9 h10 =>
Q r9 h10))
else
(if y2 = 2 then
((0 ≤ y1 ∧ y1 < 60) ∧
P_M_mostTrue y1 (zd h 108 y1) h (fun r11 h12 =>
Q r11 h12))
else
(P_M_mark 53 h (fun r13 h14 =>
(0 ≤ y1 ∧ y1 < 60) ∧
Q (zd h14 114 y1) h14))))
theorem W_M_ask_J55 (y1 : Int) (y2 : Int) (h : zH) (Q : Int → zH → Prop) (hP : P_M_ask_J55 y1 y2 h Q) : zV true zy_X3_ask 4 55 [zR 101, zI y1, zI y2] [] h (zQ0 Q) := by
  unfold P_M_ask_J55 at hP
  refine zV_iload_n dX3_ask_55 rfl ?_
  by_cases c : y2 = 0
  · have hP := zif_p hP c
    refine zV_ts (tgt := 84) dX3_ask_56 0 c ⟨by decide, by decide⟩ rfl (by decide) ?_
    refine zV_aload_n dX3_ask_84 rfl ?_
    refine zV_iload_n dX3_ask_85 rfl ?_
    refine zV_cVk (As := [zI y1]) (rest := []) dX3_ask_86 sa_101 (W_M_holds _ _ _ hP) mi_X3_holds ml_X3_403 (by decide) (Nat.le_of_ble_eq_true rfl) rfl rfl rfl (fun r7 h8 hP => ?_)
    have K : zV true zy_X3_ask 4 97 [zU, zU, zU] [zI (if r7 = 0 then 0 else 1)] h8 (zQ0 Q) := by
      exact zV_ireturn dX3_ask_97 rfl rfl rfl ⟨rfl, hP⟩
    clear hP
    refine zV_if_eq (tgt := 96) dX3_ask_89 (by decide) (fun c => ?_) (fun c => ?_)
    · try simp only [if_pos c] at K
      refine zV_iconst dX3_ask_96 ⟨by decide, by decide⟩ ?_
      refine zV_mask [false, false, false] rfl ?_
      exact K
    · try simp only [if_neg c] at K
      refine zV_iconst dX3_ask_92 ⟨by decide, by decide⟩ ?_
      refine zV_goto (tgt := 97) dX3_ask_93 (by decide) ?_
      refine zV_mask [false, false, false] rfl ?_
      exact K
  · have hP := zif_n hP c
    have n0 := c
    by_cases c : y2 = 1
    · have hP := zif_p hP c
      refine zV_ts (tgt := 98) dX3_ask_56 1 c ⟨by decide, by decide⟩ rfl (by decide) ?_
      refine zV_aload_n dX3_ask_98 rfl ?_
      refine zV_iload_n dX3_ask_99 rfl ?_
      refine zV_aload_n dX3_ask_100 rfl ?_
      refine zV_sg dX3_ask_101 fm_101_12 sa_101 (by decide) fl_X3_29_3 rfl ?_
      refine zV_iload_n dX3_ask_104 rfl ?_
      obtain ⟨ob, hP⟩ := hP
      refine zV_ia dX3_ask_105 sa_108 ob ?_
      refine zV_cVk (As := [zI y1, zI (zd h 108 y1)]) (rest := []) dX3_ask_106 sa_101 (W_M_leastTrue _ _ _ _ hP) mi_X3_leastTrue ml_X3_406 (by decide) (Nat.le_of_ble_eq_true rfl) rfl rfl rfl (fun r9 h10 hP => ?_)
      exact zV_ireturn dX3_ask_109 rfl rfl rfl ⟨rfl, hP⟩
    · have hP := zif_n hP c
      have n1 := c
      by_cases c : y2 = 2
      · have hP := zif_p hP c
        refine zV_ts (tgt := 110) dX3_ask_56 2 c ⟨by decide, by decide⟩ rfl (by decide) ?_
        refine zV_aload_n dX3_ask_110 rfl ?_
        refine zV_iload_n dX3_ask_111 rfl ?_
        refine zV_aload_n dX3_ask_112 rfl ?_
        refine zV_sg dX3_ask_113 fm_101_12 sa_101 (by decide) fl_X3_29_3 rfl ?_
        refine zV_iload_n dX3_ask_116 rfl ?_
        obtain ⟨ob, hP⟩ := hP
        refine zV_ia dX3_ask_117 sa_108 ob ?_
        refine zV_cVk (As := [zI y1, zI (zd h 108 y1)]) (rest := []) dX3_ask_118 sa_101 (W_M_mostTrue _ _ _ _ hP) mi_X3_mostTrue ml_X3_409 (by decide) (Nat.le_of_ble_eq_true rfl) rfl rfl rfl (fun r11 h12 hP => ?_)
        exact zV_ireturn dX3_ask_121 rfl rfl rfl ⟨rfl, hP⟩
      · have hP := zif_n hP c
        have n2 := c
        refine zV_tsd (tgt := 122) dX3_ask_56 (by omega) (by decide) ?_
        refine zV_aload_n dX3_ask_122 rfl ?_
        refine zV_bipush dX3_ask_123 ⟨by decide, by decide, by decide⟩ ?_
        refine zV_cVv (As := [zI 53]) (rest := []) dX3_ask_125 sa_101 (W_M_mark _ _ _ hP) mi_X3_mark ml_X3_391 (by decide) (Nat.le_of_ble_eq_true rfl) rfl rfl (fun r13 h14 hP => ?_)
        refine zV_aload_n dX3_ask_128 rfl ?_
        refine zV_sg dX3_ask_129 fm_101_18 sa_101 (by decide) fl_X3_47_3 rfl ?_
        refine zV_iload_n dX3_ask_132 rfl ?_
        obtain ⟨ob, hP⟩ := hP
        refine zV_ia dX3_ask_133 sa_114 ob ?_
        exact zV_ireturn dX3_ask_134 rfl rfl rfl ⟨rfl, hP⟩
def P_M_ask (a1 : Int) (a2 : Int) (h : zH) (Q : Int → zH → Prop) : Prop :=
P_M_isRule a1 h (fun r1 h2 =>
if r1 = 0 then
(P_M_fail (-1001) h2 (fun r3 h4 =>
Q r3 h4))
else
(P_M_in a2 0 3 h2 (fun r5 h6 =>
if r5 = 0 then
(P_M_fail (-1001) h6 (fun r19 h20 =>
Q r19 h20))
else
(if a2 = 0 then
(if zd h6 142 0 = 1 then
(if a1 < zd h6 101 59 then
(P_M_ask_J55 a1 a2 h6 Q)
else
(P_M_fail (-1002) h6 (fun r17 h18 =>
Q r17 h18)))
else
(P_M_fail (-1002) h6 (fun r15 h16 =>
Q r15 h16)))
else
(P_M_ask_J55 a1 a2 h6 Q)))))
theorem W_M_ask (a1 : Int) (a2 : Int) (h : zH) (Q : Int → zH → Prop) (hP : P_M_ask a1 a2 h Q) : zC true zy_X3_ask 4 [zR 101, zI a1, zI a2] h (zQ0 Q) := by
  unfold P_M_ask at hP
  refine zC.of (by decide) (Nat.le_of_ble_eq_true rfl) ?_
  show zV true zy_X3_ask 4 0 [zR 101, zI a1, zI a2] [] h (zQ0 Q)
  refine zV_aload_n dX3_ask_0 rfl ?_
  refine zV_iload_n dX3_ask_1 rfl ?_
  refine zV_cVk (As := [zI a1]) (rest := []) dX3_ask_2 sa_101 (W_M_isRule _ _ _ hP) mi_X3_isRule ml_X3_371 (by decide) (Nat.le_of_ble_eq_true rfl) rfl rfl rfl (fun r1 h2 hP => ?_)
  refine zV_if_eq (tgt := 17) dX3_ask_5 (by decide) (fun c => ?_) (fun c => ?_)
  · have hP := zif_p hP c
    refine zV_aload_n dX3_ask_17 rfl ?_
    refine zV_sipush dX3_ask_18 ⟨by decide, by decide, by decide⟩ ?_
    refine zV_cVk (As := [zI (-1001)]) (rest := []) dX3_ask_21 sa_101 (W_M_fail _ _ _ hP) mi_X3_fail ml_X3_242 (by decide) (Nat.le_of_ble_eq_true rfl) rfl rfl rfl (fun r3 h4 hP => ?_)
    exact zV_ireturn dX3_ask_24 rfl rfl rfl ⟨rfl, hP⟩
  · have hP := zif_n hP c
    refine zV_iload_n dX3_ask_8 rfl ?_
    refine zV_iconst dX3_ask_9 ⟨by decide, by decide⟩ ?_
    refine zV_iconst dX3_ask_10 ⟨by decide, by decide⟩ ?_
    refine zV_cSk (As := [zI a2, zI 0, zI 3]) (rest := []) dX3_ask_11 (W_M_in _ _ _ _ _ hP) mi_X3_in ml_X3_238 (by decide) (Nat.le_of_ble_eq_true rfl) rfl rfl rfl (fun r5 h6 hP => ?_)
    refine zV_if_ne (tgt := 25) dX3_ask_14 (by decide) (fun c => ?_) (fun c => ?_)
    · have hP := zif_n hP c
      refine zV_iload_n dX3_ask_25 rfl ?_
      refine zV_if_ne (tgt := 55) dX3_ask_26 (by decide) (fun c => ?_) (fun c => ?_)
      · have hP := zif_n hP c
        exact W_M_ask_J55 _ _ _ _ hP
      · have hP := zif_p hP c
        refine zV_aload_n dX3_ask_29 rfl ?_
        refine zV_sg dX3_ask_30 fm_101_68 sa_101 (by decide) fl_X3_131_3 rfl ?_
        refine zV_iconst dX3_ask_33 ⟨by decide, by decide⟩ ?_
        refine zV_ia dX3_ask_34 sa_142 (by decide) ?_
        refine zV_iconst dX3_ask_35 ⟨by decide, by decide⟩ ?_
        refine zV_icmp_ne (tgt := 47) dX3_ask_36 (by decide) (fun c => ?_) (fun c => ?_)
        · have hP := zif_n hP c
          refine zV_aload_n dX3_ask_47 rfl ?_
          refine zV_sipush dX3_ask_48 ⟨by decide, by decide, by decide⟩ ?_
          refine zV_cVk (As := [zI (-1002)]) (rest := []) dX3_ask_51 sa_101 (W_M_fail _ _ _ hP) mi_X3_fail ml_X3_242 (by decide) (Nat.le_of_ble_eq_true rfl) rfl rfl rfl (fun r15 h16 hP => ?_)
          exact zV_ireturn dX3_ask_54 rfl rfl rfl ⟨rfl, hP⟩
        · have hP := zif_p hP c
          refine zV_iload_n dX3_ask_39 rfl ?_
          refine zV_aload_n dX3_ask_40 rfl ?_
          refine zV_gf dX3_ask_41 sa_101 (by decide) fl_X3_400_3 rfl (ki := 59) rfl ?_
          refine zV_icmp_lt (tgt := 55) dX3_ask_44 (by decide) (fun c => ?_) (fun c => ?_)
          · have hP := zif_p hP c
            exact W_M_ask_J55 _ _ _ _ hP
          · have hP := zif_n hP c
            refine zV_aload_n dX3_ask_47 rfl ?_
            refine zV_sipush dX3_ask_48 ⟨by decide, by decide, by decide⟩ ?_
            refine zV_cVk (As := [zI (-1002)]) (rest := []) dX3_ask_51 sa_101 (W_M_fail _ _ _ hP) mi_X3_fail ml_X3_242 (by decide) (Nat.le_of_ble_eq_true rfl) rfl rfl rfl (fun r17 h18 hP => ?_)
            exact zV_ireturn dX3_ask_54 rfl rfl rfl ⟨rfl, hP⟩
    · have hP := zif_p hP c
      refine zV_aload_n dX3_ask_17 rfl ?_
      refine zV_sipush dX3_ask_18 ⟨by decide, by decide, by decide⟩ ?_
      refine zV_cVk (As := [zI (-1001)]) (rest := []) dX3_ask_21 sa_101 (W_M_fail _ _ _ hP) mi_X3_fail ml_X3_242 (by decide) (Nat.le_of_ble_eq_true rfl) rfl rfl rfl (fun r19 h20 hP => ?_)
      exact zV_ireturn dX3_ask_24 rfl rfl rfl ⟨rfl, hP⟩
def P_M_write (a1 : Int) (h : zH) (Q : Int → zH → Prop) : Prop :=
(0 ≤ zd h 101 10 ∧ zd h 101 10 < 16384) ∧
∀ h1 : zH, h1 = zw h 107 (zd h 101 10) a1 →
∀ h2 : zH, h2 = zw h1 101 10 (w32 ((zd h1 101 10) + 1)) →
Q 0 h2
theorem W_M_write (a1 : Int) (h : zH) (Q : Int → zH → Prop) (hP : P_M_write a1 h Q) : zC true zy_X3_write 1 [zR 101, zI a1] h (zQ0 Q) := by
  unfold P_M_write at hP
  refine zC.of (by decide) (Nat.le_of_ble_eq_true rfl) ?_
  show zV true zy_X3_write 1 0 [zR 101, zI a1] [] h (zQ0 Q)
  refine zV_aload_n dX3_write_0 rfl ?_
  refine zV_sg dX3_write_1 fm_101_9 sa_101 (by decide) fl_X3_26_3 rfl ?_
  refine zV_aload_n dX3_write_4 rfl ?_
  refine zV_gf dX3_write_5 sa_101 (by decide) fl_X3_412_3 rfl (ki := 10) rfl ?_
  refine zV_iload_n dX3_write_8 rfl ?_
  obtain ⟨ob, hP⟩ := hP
  refine zV_ias dX3_write_9 sa_107 ob (fun h1 e_h1 => ?_)
  have hP := hP h1 e_h1
  refine zV_aload_n dX3_write_10 rfl ?_
  refine zV_dup dX3_write_11 (Nat.ne_of_beq_eq_false rfl) ?_
  refine zV_gf dX3_write_12 sa_101 (by decide) fl_X3_412_3 rfl (ki := 10) rfl ?_
  refine zV_iconst dX3_write_15 ⟨by decide, by decide⟩ ?_
  refine zV_iadd dX3_write_16 ?_
  refine zV_pf dX3_write_17 sa_101 (by decide) fl_X3_412_3 rfl rfl trivial (ki := 10) rfl (fun h2 e_h2 => ?_)
  have hP := hP h2 e_h2
  exact zV_return dX3_write_20 rfl ⟨rfl, hP⟩
def P_M_writeWord_L2 (Q : Int → zH → Prop) : Nat → Int → zH → Prop
| 0, _, _ => False
| n2 + 1, y2, h =>
(0 ≤ y2 ∧ y2 < 26) ∧
if zd h 135 y2 = 0 then
(Q 0 h)
else
((0 ≤ y2 ∧ y2 < 26) ∧
P_M_write (zd h 135 y2) h (fun r1 h2 =>
∀ x2_3 : Int, x2_3 = w32 (y2 + 1) →
P_M_writeWord_L2 Q n2 x2_3 h2))
theorem W_M_writeWord_L2 (Q : Int → zH → Prop) : ∀ (n2 : Nat) (y2 : Int) (h : zH), P_M_writeWord_L2 Q n2 y2 h → zV true zy_X3_writeWord 2 2 [zR 101, zU, zI y2] [] h (zQ0 Q) := by
  intro n2
  induction n2 with
  | zero => intro y2 h hP; exact absurd hP id
  | succ n2 ih =>
    intro y2 h hP
    unfold P_M_writeWord_L2 at hP
    refine zV_aload_n dX3_writeWord_2 rfl ?_
    refine zV_sg dX3_writeWord_3 fm_101_56 sa_101 (by decide) fl_X3_110_3 rfl ?_
    refine zV_iload_n dX3_writeWord_6 rfl ?_
    obtain ⟨ob, hP⟩ := hP
    refine zV_ia dX3_writeWord_7 sa_135 ob ?_
    refine zV_if_eq (tgt := 27) dX3_writeWord_8 (by decide) (fun c => ?_) (fun c => ?_)
    · have hP := zif_p hP c
      exact zV_return dX3_writeWord_27 rfl ⟨rfl, hP⟩
    · have hP := zif_n hP c
      refine zV_aload_n dX3_writeWord_11 rfl ?_
      refine zV_aload_n dX3_writeWord_12 rfl ?_
      refine zV_sg dX3_writeWord_13 fm_101_56 sa_101 (by decide) fl_X3_110_3 rfl ?_
      refine zV_iload_n dX3_writeWord_16 rfl ?_
      obtain ⟨ob, hP⟩ := hP
      refine zV_ia dX3_writeWord_17 sa_135 ob ?_
      refine zV_cVv (As := [zI (zd h 135 y2)]) (rest := []) dX3_writeWord_18 sa_101 (W_M_write _ _ _ hP) mi_X3_write ml_X3_415 (by decide) (Nat.le_of_ble_eq_true rfl) rfl rfl (fun r1 h2 hP => ?_)
      refine zV_inc (ls' := fun z => [zR 101, zU, zI z]) dX3_writeWord_21 (Nat.le_of_ble_eq_true rfl) rfl rfl (fun _ => rfl) (fun x2_3 e_x2_3 => ?_)
      have hP := hP x2_3 e_x2_3
      refine zV_goto (tgt := 2) dX3_writeWord_24 (by decide) ?_
      exact ih _ _ hP
def P_M_writeWord (a1 : Int) (h : zH) (Q : Int → zH → Prop) : Prop :=
∃ n2, P_M_writeWord_L2 Q n2 a1 h
theorem W_M_writeWord (a1 : Int) (h : zH) (Q : Int → zH → Prop) (hP : P_M_writeWord a1 h Q) : zC true zy_X3_writeWord 2 [zR 101, zI a1] h (zQ0 Q) := by
  unfold P_M_writeWord at hP
  refine zC.of (by decide) (Nat.le_of_ble_eq_true rfl) ?_
  show zV true zy_X3_writeWord 2 0 [zR 101, zI a1, zU] [] h (zQ0 Q)
  refine zV_iload_n dX3_writeWord_0 rfl ?_
  refine zV_istore_n (ls' := [zR 101, zI a1, zI a1]) dX3_writeWord_1 rfl (Nat.le_of_ble_eq_true rfl) rfl rfl ?_
  obtain ⟨n2, hP⟩ := hP
  refine zV_mask [true, false, true] (ls' := [zR 101, zU, zI a1]) rfl ?_
  refine W_M_writeWord_L2 _ n2 _ _ hP
def P_M_writeNumber_J32 (y2 : Int) (h : zH) (Q : Int → zH → Prop) : Prop :=
if y2 ≤ 9 then
(P_M_write (w32 (48 + (Int.tmod y2 10))) h (fun r1 h2 =>
Q 0 h2))
else
(P_M_write (w32 (48 + (Int.tmod (w32 (Int.tdiv y2 10)) 10))) h (fun r3 h4 =>
P_M_write (w32 (48 + (Int.tmod y2 10))) h4 (fun r5 h6 =>
Q 0 h6)))
theorem W_M_writeNumber_J32 (y2 : Int) (h : zH) (Q : Int → zH → Prop) (hP : P_M_writeNumber_J32 y2 h Q) : zV true zy_X3_writeNumber 2 32 [zR 101, zU, zI y2] [] h (zQ0 Q) := by
  unfold P_M_writeNumber_J32 at hP
  refine zV_iload_n dX3_writeNumber_32 rfl ?_
  refine zV_bipush dX3_writeNumber_33 ⟨by decide, by decide, by decide⟩ ?_
  refine zV_icmp_le (tgt := 52) dX3_writeNumber_35 (by decide) (fun c => ?_) (fun c => ?_)
  · have hP := zif_p hP c
    refine zV_aload_n dX3_writeNumber_52 rfl ?_
    refine zV_bipush dX3_writeNumber_53 ⟨by decide, by decide, by decide⟩ ?_
    refine zV_iload_n dX3_writeNumber_55 rfl ?_
    refine zV_bipush dX3_writeNumber_56 ⟨by decide, by decide, by decide⟩ ?_
    refine zV_irem dX3_writeNumber_58 (by decide) ?_
    refine zV_iadd dX3_writeNumber_59 ?_
    refine zV_cVv (As := [zI (w32 (48 + (Int.tmod y2 10)))]) (rest := []) dX3_writeNumber_60 sa_101 (W_M_write _ _ _ hP) mi_X3_write ml_X3_415 (by decide) (Nat.le_of_ble_eq_true rfl) rfl rfl (fun r1 h2 hP => ?_)
    exact zV_return dX3_writeNumber_63 rfl ⟨rfl, hP⟩
  · have hP := zif_n hP c
    refine zV_aload_n dX3_writeNumber_38 rfl ?_
    refine zV_bipush dX3_writeNumber_39 ⟨by decide, by decide, by decide⟩ ?_
    refine zV_iload_n dX3_writeNumber_41 rfl ?_
    refine zV_bipush dX3_writeNumber_42 ⟨by decide, by decide, by decide⟩ ?_
    refine zV_idiv dX3_writeNumber_44 (by decide) ?_
    refine zV_bipush dX3_writeNumber_45 ⟨by decide, by decide, by decide⟩ ?_
    refine zV_irem dX3_writeNumber_47 (by decide) ?_
    refine zV_iadd dX3_writeNumber_48 ?_
    refine zV_cVv (As := [zI (w32 (48 + (Int.tmod (w32 (Int.tdiv y2 10)) 10)))]) (rest := []) dX3_writeNumber_49 sa_101 (W_M_write _ _ _ hP) mi_X3_write ml_X3_415 (by decide) (Nat.le_of_ble_eq_true rfl) rfl rfl (fun r3 h4 hP => ?_)
    refine zV_aload_n dX3_writeNumber_52 rfl ?_
    refine zV_bipush dX3_writeNumber_53 ⟨by decide, by decide, by decide⟩ ?_
    refine zV_iload_n dX3_writeNumber_55 rfl ?_
    refine zV_bipush dX3_writeNumber_56 ⟨by decide, by decide, by decide⟩ ?_
    refine zV_irem dX3_writeNumber_58 (by decide) ?_
    refine zV_iadd dX3_writeNumber_59 ?_
    refine zV_cVv (As := [zI (w32 (48 + (Int.tmod y2 10)))]) (rest := []) dX3_writeNumber_60 sa_101 (W_M_write _ _ _ hP) mi_X3_write ml_X3_415 (by decide) (Nat.le_of_ble_eq_true rfl) rfl rfl (fun r5 h6 hP => ?_)
    exact zV_return dX3_writeNumber_63 rfl ⟨rfl, hP⟩
def P_M_writeNumber_J15 (y2 : Int) (h : zH) (Q : Int → zH → Prop) : Prop :=
if y2 ≤ 99 then
(P_M_writeNumber_J32 y2 h Q)
else
(P_M_write (w32 (48 + (w32 (Int.tdiv y2 100)))) h (fun r7 h8 =>
P_M_writeNumber_J32 y2 h8 Q))
theorem W_M_writeNumber_J15 (y2 : Int) (h : zH) (Q : Int → zH → Prop) (hP : P_M_writeNumber_J15 y2 h Q) : zV true zy_X3_writeNumber 2 15 [zR 101, zU, zI y2] [] h (zQ0 Q) := by
  unfold P_M_writeNumber_J15 at hP
  refine zV_iload_n dX3_writeNumber_15 rfl ?_
  refine zV_bipush dX3_writeNumber_16 ⟨by decide, by decide, by decide⟩ ?_
  refine zV_icmp_le (tgt := 32) dX3_writeNumber_18 (by decide) (fun c => ?_) (fun c => ?_)
  · have hP := zif_p hP c
    exact W_M_writeNumber_J32 _ _ _ hP
  · have hP := zif_n hP c
    refine zV_aload_n dX3_writeNumber_21 rfl ?_
    refine zV_bipush dX3_writeNumber_22 ⟨by decide, by decide, by decide⟩ ?_
    refine zV_iload_n dX3_writeNumber_24 rfl ?_
    refine zV_bipush dX3_writeNumber_25 ⟨by decide, by decide, by decide⟩ ?_
    refine zV_idiv dX3_writeNumber_27 (by decide) ?_
    refine zV_iadd dX3_writeNumber_28 ?_
    refine zV_cVv (As := [zI (w32 (48 + (w32 (Int.tdiv y2 100))))]) (rest := []) dX3_writeNumber_29 sa_101 (W_M_write _ _ _ hP) mi_X3_write ml_X3_415 (by decide) (Nat.le_of_ble_eq_true rfl) rfl rfl (fun r7 h8 hP => ?_)
    exact W_M_writeNumber_J32 _ _ _ hP
def P_M_writeNumber (a1 : Int) (h : zH) (Q : Int → zH → Prop) : Prop :=
if 0 ≤ a1 then
(P_M_writeNumber_J15 a1 h Q)
else
(P_M_write 45 h (fun r9 h10 =>
∀ x2_11 : Int, x2_11 = (w32 (-a1)) →
P_M_writeNumber_J15 x2_11 h10 Q))
theorem W_M_writeNumber (a1 : Int) (h : zH) (Q : Int → zH → Prop) (hP : P_M_writeNumber a1 h Q) : zC true zy_X3_writeNumber 2 [zR 101, zI a1] h (zQ0 Q) := by
  unfold P_M_writeNumber at hP
  refine zC.of (by decide) (Nat.le_of_ble_eq_true rfl) ?_
  show zV true zy_X3_writeNumber 2 0 [zR 101, zI a1, zU] [] h (zQ0 Q)
  refine zV_iload_n dX3_writeNumber_0 rfl ?_
  refine zV_istore_n (ls' := [zR 101, zI a1, zI a1]) dX3_writeNumber_1 rfl (Nat.le_of_ble_eq_true rfl) rfl rfl ?_
  refine zV_iload_n dX3_writeNumber_2 rfl ?_
  refine zV_if_ge (tgt := 15) dX3_writeNumber_3 (by decide) (fun c => ?_) (fun c => ?_)
  · have hP := zif_p hP c
    refine zV_mask [true, false, true] (ls' := [zR 101, zU, zI a1]) rfl ?_
    exact W_M_writeNumber_J15 _ _ _ hP
  · have hP := zif_n hP c
    refine zV_aload_n dX3_writeNumber_6 rfl ?_
    refine zV_bipush dX3_writeNumber_7 ⟨by decide, by decide, by decide⟩ ?_
    refine zV_cVv (As := [zI 45]) (rest := []) dX3_writeNumber_9 sa_101 (W_M_write _ _ _ hP) mi_X3_write ml_X3_415 (by decide) (Nat.le_of_ble_eq_true rfl) rfl rfl (fun r9 h10 hP => ?_)
    refine zV_iload_n dX3_writeNumber_12 rfl ?_
    refine zV_ineg dX3_writeNumber_13 ?_
    refine zV_top (fun x2_11 e_x2_11 => ?_)
    have hP := hP x2_11 e_x2_11
    refine zV_istore_n (ls' := [zR 101, zI a1, zI x2_11]) dX3_writeNumber_14 rfl (Nat.le_of_ble_eq_true rfl) rfl rfl ?_
    refine zV_mask [true, false, true] (ls' := [zR 101, zU, zI x2_11]) rfl ?_
    exact W_M_writeNumber_J15 _ _ _ hP
def P_M_writeList_J34 (y1 : Int) (y2 : Int) (h : zH) (Q : Int → zH → Prop) (k14 : Int → zH → Prop) : Prop :=
(0 ≤ w32 ((w32 (30 * y1)) + y2) ∧ w32 ((w32 (30 * y1)) + y2) < 1800) ∧
P_M_writeNumber (zd h 112 (w32 ((w32 (30 * y1)) + y2))) h (fun r7 h8 =>
∀ x2_9 : Int, x2_9 = w32 (y2 + 1) →
k14 x2_9 h8)
theorem W_M_writeList_J34 (y1 : Int) (y2 : Int) (h : zH) (Q : Int → zH → Prop) (k14 : Int → zH → Prop) (H14 : ∀ (v2 : Int) (h' : zH), k14 v2 h' → zV true zy_X3_writeList 3 14 [zR 101, zI y1, zI v2] [] h' (zQ0 Q)) (hP : P_M_writeList_J34 y1 y2 h Q k14) : zV true zy_X3_writeList 3 34 [zR 101, zI y1, zI y2] [] h (zQ0 Q) := by
  unfold P_M_writeList_J34 at hP
  refine zV_aload_n dX3_writeList_34 rfl ?_
  refine zV_aload_n dX3_writeList_35 rfl ?_
  refine zV_sg dX3_writeList_36 fm_101_16 sa_101 (by decide) fl_X3_41_3 rfl ?_
  refine zV_bipush dX3_writeList_39 ⟨by decide, by decide, by decide⟩ ?_
  refine zV_iload_n dX3_writeList_41 rfl ?_
  refine zV_imul dX3_writeList_42 ?_
  refine zV_iload_n dX3_writeList_43 rfl ?_
  refine zV_iadd dX3_writeList_44 ?_
  obtain ⟨ob, hP⟩ := hP
  refine zV_ia dX3_writeList_45 sa_112 ob ?_
  refine zV_cVv (As := [zI (zd h 112 (w32 ((w32 (30 * y1)) + y2)))]) (rest := []) dX3_writeList_46 sa_101 (W_M_writeNumber _ _ _ hP) mi_X3_writeNumber ml_X3_418 (by decide) (Nat.le_of_ble_eq_true rfl) rfl rfl (fun r7 h8 hP => ?_)
  refine zV_inc (ls' := fun z => [zR 101, zI y1, zI z]) dX3_writeList_49 (Nat.le_of_ble_eq_true rfl) rfl rfl (fun _ => rfl) (fun x2_9 e_x2_9 => ?_)
  have hP := hP x2_9 e_x2_9
  refine zV_goto (tgt := 14) dX3_writeList_52 (by decide) ?_
  exact H14 _ _ hP
def P_M_writeList_L14 (y1 : Int) (Q : Int → zH → Prop) : Nat → Int → zH → Prop
| 0, _, _ => False
| n14 + 1, y2, h =>
(0 ≤ y1 ∧ y1 < 60) ∧
if zd h 111 y1 ≤ y2 then
(P_M_write 41 h (fun r5 h6 =>
Q 0 h6))
else
(if y2 ≤ 0 then
(P_M_writeList_J34 y1 y2 h Q (P_M_writeList_L14 y1 Q n14))
else
(P_M_write 44 h (fun r10 h11 =>
P_M_writeList_J34 y1 y2 h11 Q (P_M_writeList_L14 y1 Q n14))))
theorem W_M_writeList_L14 (y1 : Int) (Q : Int → zH → Prop) : ∀ (n14 : Nat) (y2 : Int) (h : zH), P_M_writeList_L14 y1 Q n14 y2 h → zV true zy_X3_writeList 3 14 [zR 101, zI y1, zI y2] [] h (zQ0 Q) := by
  intro n14
  induction n14 with
  | zero => intro y2 h hP; exact absurd hP id
  | succ n14 ih =>
    intro y2 h hP
    unfold P_M_writeList_L14 at hP
    refine zV_iload_n dX3_writeList_14 rfl ?_
    refine zV_aload_n dX3_writeList_15 rfl ?_
    refine zV_sg dX3_writeList_16 fm_101_15 sa_101 (by decide) fl_X3_38_3 rfl ?_
    refine zV_iload_n dX3_writeList_19 rfl ?_
    obtain ⟨ob, hP⟩ := hP
    refine zV_ia dX3_writeList_20 sa_111 ob ?_
    refine zV_icmp_ge (tgt := 55) dX3_writeList_21 (by decide) (fun c => ?_) (fun c => ?_)
    · have hP := zif_p hP c
      refine zV_aload_n dX3_writeList_55 rfl ?_
      refine zV_bipush dX3_writeList_56 ⟨by decide, by decide, by decide⟩ ?_
      refine zV_cVv (As := [zI 41]) (rest := []) dX3_writeList_58 sa_101 (W_M_write _ _ _ hP) mi_X3_write ml_X3_415 (by decide) (Nat.le_of_ble_eq_true rfl) rfl rfl (fun r5 h6 hP => ?_)
      exact zV_return dX3_writeList_61 rfl ⟨rfl, hP⟩
    · have hP := zif_n hP c
      refine zV_iload_n dX3_writeList_24 rfl ?_
      refine zV_if_le (tgt := 34) dX3_writeList_25 (by decide) (fun c => ?_) (fun c => ?_)
      · have hP := zif_p hP c
        exact W_M_writeList_J34 _ _ _ _ _ ih hP
      · have hP := zif_n hP c
        refine zV_aload_n dX3_writeList_28 rfl ?_
        refine zV_bipush dX3_writeList_29 ⟨by decide, by decide, by decide⟩ ?_
        refine zV_cVv (As := [zI 44]) (rest := []) dX3_writeList_31 sa_101 (W_M_write _ _ _ hP) mi_X3_write ml_X3_415 (by decide) (Nat.le_of_ble_eq_true rfl) rfl rfl (fun r10 h11 hP => ?_)
        exact W_M_writeList_J34 _ _ _ _ _ ih hP
def P_M_writeList (a1 : Int) (h : zH) (Q : Int → zH → Prop) : Prop :=
P_M_mark 64 h (fun r1 h2 =>
P_M_write 40 h2 (fun r3 h4 =>
∃ n14, P_M_writeList_L14 a1 Q n14 0 h4))
theorem W_M_writeList (a1 : Int) (h : zH) (Q : Int → zH → Prop) (hP : P_M_writeList a1 h Q) : zC true zy_X3_writeList 3 [zR 101, zI a1] h (zQ0 Q) := by
  unfold P_M_writeList at hP
  refine zC.of (by decide) (Nat.le_of_ble_eq_true rfl) ?_
  show zV true zy_X3_writeList 3 0 [zR 101, zI a1, zU] [] h (zQ0 Q)
  refine zV_aload_n dX3_writeList_0 rfl ?_
  refine zV_bipush dX3_writeList_1 ⟨by decide, by decide, by decide⟩ ?_
  refine zV_cVv (As := [zI 64]) (rest := []) dX3_writeList_3 sa_101 (W_M_mark _ _ _ hP) mi_X3_mark ml_X3_391 (by decide) (Nat.le_of_ble_eq_true rfl) rfl rfl (fun r1 h2 hP => ?_)
  refine zV_aload_n dX3_writeList_6 rfl ?_
  refine zV_bipush dX3_writeList_7 ⟨by decide, by decide, by decide⟩ ?_
  refine zV_cVv (As := [zI 40]) (rest := []) dX3_writeList_9 sa_101 (W_M_write _ _ _ hP) mi_X3_write ml_X3_415 (by decide) (Nat.le_of_ble_eq_true rfl) rfl rfl (fun r3 h4 hP => ?_)
  refine zV_iconst dX3_writeList_12 ⟨by decide, by decide⟩ ?_
  refine zV_istore_n (ls' := [zR 101, zI a1, zI 0]) dX3_writeList_13 rfl (Nat.le_of_ble_eq_true rfl) rfl rfl ?_
  obtain ⟨n14, hP⟩ := hP
  refine W_M_writeList_L14 _ _ n14 _ _ hP
def P_M_print_J108 (y1 : Int) (h : zH) (Q : Int → zH → Prop) : Prop :=
P_M_writeWord 5 h (fun r7 h8 =>
(0 ≤ y1 ∧ y1 < 60) ∧
P_M_writeNumber (zd h8 109 y1) h8 (fun r9 h10 =>
P_M_writeList y1 h10 (fun r11 h12 =>
Q (zd h12 101 10) h12)))
theorem W_M_print_J108 (y1 : Int) (h : zH) (Q : Int → zH → Prop) (hP : P_M_print_J108 y1 h Q) : zV true zy_X3_print 4 108 [zR 101, zI y1, zU, zU] [] h (zQ0 Q) := by
  unfold P_M_print_J108 at hP
  refine zV_aload_n dX3_print_108 rfl ?_
  refine zV_iconst dX3_print_109 ⟨by decide, by decide⟩ ?_
  refine zV_cVv (As := [zI 5]) (rest := []) dX3_print_110 sa_101 (W_M_writeWord _ _ _ hP) mi_X3_writeWord ml_X3_421 (by decide) (Nat.le_of_ble_eq_true rfl) rfl rfl (fun r7 h8 hP => ?_)
  refine zV_aload_n dX3_print_113 rfl ?_
  refine zV_aload_n dX3_print_114 rfl ?_
  refine zV_sg dX3_print_115 fm_101_13 sa_101 (by decide) fl_X3_32_3 rfl ?_
  refine zV_iload_n dX3_print_118 rfl ?_
  obtain ⟨ob, hP⟩ := hP
  refine zV_ia dX3_print_119 sa_109 ob ?_
  refine zV_cVv (As := [zI (zd h8 109 y1)]) (rest := []) dX3_print_120 sa_101 (W_M_writeNumber _ _ _ hP) mi_X3_writeNumber ml_X3_418 (by decide) (Nat.le_of_ble_eq_true rfl) rfl rfl (fun r9 h10 hP => ?_)
  refine zV_goto (tgt := 154) dX3_print_123 (by decide) ?_
  refine zV_aload_n dX3_print_154 rfl ?_
  refine zV_iload_n dX3_print_155 rfl ?_
  refine zV_cVv (As := [zI y1]) (rest := []) dX3_print_156 sa_101 (W_M_writeList _ _ _ hP) mi_X3_writeList ml_X3_424 (by decide) (Nat.le_of_ble_eq_true rfl) rfl rfl (fun r11 h12 hP => ?_)
  refine zV_aload_n dX3_print_159 rfl ?_
  refine zV_gf dX3_print_160 sa_101 (by decide) fl_X3_412_3 rfl (ki := 10) rfl ?_
  exact zV_ireturn dX3_print_163 rfl rfl rfl ⟨rfl, hP⟩
def P_M_print_J98 (y1 : Int) (y2 : Int) (h : zH) (Q : Int → zH → Prop) : Prop :=
if y2 = 1 then
(P_M_print_J108 y1 h Q)
else
(if y2 = 2 then
(P_M_print_J108 y1 h Q)
else
((if y2 = 0 then True else (0 ≤ y1 ∧ y1 < 60) ∧ True) ∧
P_M_writeWord (if y2 = 0 then 0 else if zd h 110 y1 = 0 then 21 else 17) h (fun r13 h14 =>
P_M_writeList y1 h14 (fun r15 h16 =>
Q (zd h16 101 10) h16))))
theorem W_M_print_J98 (y1 : Int) (y2 : Int) (h : zH) (Q : Int → zH → Prop) (hP : P_M_print_J98 y1 y2 h Q) : zV true zy_X3_print 4 98 [zR 101, zI y1, zI y2, zU] [] h (zQ0 Q) := by
  unfold P_M_print_J98 at hP
  refine zV_iload_n dX3_print_98 rfl ?_
  refine zV_iconst dX3_print_99 ⟨by decide, by decide⟩ ?_
  refine zV_icmp_eq (tgt := 108) dX3_print_100 (by decide) (fun c => ?_) (fun c => ?_)
  · have hP := zif_p hP c
    refine zV_mask [true, true, false, true] (ls' := [zR 101, zI y1, zU, zU]) rfl ?_
    exact W_M_print_J108 _ _ _ hP
  · have hP := zif_n hP c
    refine zV_iload_n dX3_print_103 rfl ?_
    refine zV_iconst dX3_print_104 ⟨by decide, by decide⟩ ?_
    refine zV_icmp_ne (tgt := 126) dX3_print_105 (by decide) (fun c => ?_) (fun c => ?_)
    · have hP := zif_n hP c
      refine zV_aload_n dX3_print_126 rfl ?_
      refine zV_iload_n dX3_print_127 rfl ?_
      obtain ⟨hO, hP⟩ := hP
      have K : zV true zy_X3_print 4 151 [zR 101, zI y1, zU, zU] [zI (if y2 = 0 then 0 else if zd h 110 y1 = 0 then 21 else 17), zR 101] h (zQ0 Q) := by
        refine zV_cVv (As := [zI (if y2 = 0 then 0 else if zd h 110 y1 = 0 then 21 else 17)]) (rest := []) dX3_print_151 sa_101 (W_M_writeWord _ _ _ hP) mi_X3_writeWord ml_X3_421 (by decide) (Nat.le_of_ble_eq_true rfl) rfl rfl (fun r13 h14 hP => ?_)
        refine zV_aload_n dX3_print_154 rfl ?_
        refine zV_iload_n dX3_print_155 rfl ?_
        refine zV_cVv (As := [zI y1]) (rest := []) dX3_print_156 sa_101 (W_M_writeList _ _ _ hP) mi_X3_writeList ml_X3_424 (by decide) (Nat.le_of_ble_eq_true rfl) rfl rfl (fun r15 h16 hP => ?_)
        refine zV_aload_n dX3_print_159 rfl ?_
        refine zV_gf dX3_print_160 sa_101 (by decide) fl_X3_412_3 rfl (ki := 10) rfl ?_
        exact zV_ireturn dX3_print_163 rfl rfl rfl ⟨rfl, hP⟩
      clear hP
      refine zV_if_ne (tgt := 135) dX3_print_128 (by decide) (fun c => ?_) (fun c => ?_)
      · try simp only [if_neg c] at K
        have hO := zif_n hO c
        refine zV_aload_n dX3_print_135 rfl ?_
        refine zV_sg dX3_print_136 fm_101_14 sa_101 (by decide) fl_X3_35_3 rfl ?_
        refine zV_iload_n dX3_print_139 rfl ?_
        obtain ⟨ob, hO⟩ := hO
        refine zV_za dX3_print_140 sa_110 ob ?_
        refine zV_if_eq (tgt := 149) dX3_print_141 (by decide) (fun c => ?_) (fun c => ?_)
        · try simp only [if_pos c] at K
          refine zV_bipush dX3_print_149 ⟨by decide, by decide, by decide⟩ ?_
          refine zV_mask [true, true, false, false] rfl ?_
          exact K
        · try simp only [if_neg c] at K
          refine zV_bipush dX3_print_144 ⟨by decide, by decide, by decide⟩ ?_
          refine zV_goto (tgt := 151) dX3_print_146 (by decide) ?_
          refine zV_mask [true, true, false, false] rfl ?_
          exact K
      · try simp only [if_pos c] at K
        have hO := zif_p hO c
        refine zV_iconst dX3_print_131 ⟨by decide, by decide⟩ ?_
        refine zV_goto (tgt := 151) dX3_print_132 (by decide) ?_
        refine zV_mask [true, true, false, false] rfl ?_
        exact K
    · have hP := zif_p hP c
      refine zV_mask [true, true, false, true] (ls' := [zR 101, zI y1, zU, zU]) rfl ?_
      exact W_M_print_J108 _ _ _ hP
def P_M_print_L45 (y1 : Int) (Q : Int → zH → Prop) : Nat → Int → zH → Prop
| 0, _, _ => False
| n45 + 1, y3, h =>
(0 ≤ y1 ∧ y1 < 60) ∧
if zd h 116 y1 ≤ y3 then
(Q (zd h 101 10) h)
else
((0 ≤ w32 ((w32 (60 * y1)) + y3) ∧ w32 ((w32 (60 * y1)) + y3) < 3600) ∧
P_M_write (zd h 115 (w32 ((w32 (60 * y1)) + y3))) h (fun r21 h22 =>
∀ x3_23 : Int, x3_23 = w32 (y3 + 1) →
P_M_print_L45 y1 Q n45 x3_23 h22))
theorem W_M_print_L45 (y1 : Int) (Q : Int → zH → Prop) : ∀ (n45 : Nat) (y3 : Int) (h : zH), P_M_print_L45 y1 Q n45 y3 h → zV true zy_X3_print 4 45 [zR 101, zI y1, zU, zI y3] [] h (zQ0 Q) := by
  intro n45
  induction n45 with
  | zero => intro y3 h hP; exact absurd hP id
  | succ n45 ih =>
    intro y3 h hP
    unfold P_M_print_L45 at hP
    refine zV_iload_n dX3_print_45 rfl ?_
    refine zV_aload_n dX3_print_46 rfl ?_
    refine zV_sg dX3_print_47 fm_101_20 sa_101 (by decide) fl_X3_53_3 rfl ?_
    refine zV_iload_n dX3_print_50 rfl ?_
    obtain ⟨ob, hP⟩ := hP
    refine zV_ia dX3_print_51 sa_116 ob ?_
    refine zV_icmp_ge (tgt := 76) dX3_print_52 (by decide) (fun c => ?_) (fun c => ?_)
    · have hP := zif_p hP c
      refine zV_aload_n dX3_print_76 rfl ?_
      refine zV_gf dX3_print_77 sa_101 (by decide) fl_X3_412_3 rfl (ki := 10) rfl ?_
      exact zV_ireturn dX3_print_80 rfl rfl rfl ⟨rfl, hP⟩
    · have hP := zif_n hP c
      refine zV_aload_n dX3_print_55 rfl ?_
      refine zV_aload_n dX3_print_56 rfl ?_
      refine zV_sg dX3_print_57 fm_101_19 sa_101 (by decide) fl_X3_50_3 rfl ?_
      refine zV_bipush dX3_print_60 ⟨by decide, by decide, by decide⟩ ?_
      refine zV_iload_n dX3_print_62 rfl ?_
      refine zV_imul dX3_print_63 ?_
      refine zV_iload_n dX3_print_64 rfl ?_
      refine zV_iadd dX3_print_65 ?_
      obtain ⟨ob, hP⟩ := hP
      refine zV_ia dX3_print_66 sa_115 ob ?_
      refine zV_cVv (As := [zI (zd h 115 (w32 ((w32 (60 * y1)) + y3)))]) (rest := []) dX3_print_67 sa_101 (W_M_write _ _ _ hP) mi_X3_write ml_X3_415 (by decide) (Nat.le_of_ble_eq_true rfl) rfl rfl (fun r21 h22 hP => ?_)
      refine zV_inc (ls' := fun z => [zR 101, zI y1, zU, zI z]) dX3_print_70 (Nat.le_of_ble_eq_true rfl) rfl rfl (fun _ => rfl) (fun x3_23 e_x3_23 => ?_)
      have hP := hP x3_23 e_x3_23
      refine zV_goto (tgt := 45) dX3_print_73 (by decide) ?_
      exact ih _ _ hP
def P_M_print (a1 : Int) (h : zH) (Q : Int → zH → Prop) : Prop :=
P_M_isRule a1 h (fun r1 h2 =>
if r1 = 0 then
(P_M_fail (-1001) h2 (fun r24 h25 =>
Q r24 h25))
else
(∀ h3 : zH, h3 = zw h2 101 10 0 →
(0 ≤ a1 ∧ a1 < 60) ∧
∀ x2_4 : Int, x2_4 = (zd h3 108 a1) →
P_M_mark (w32 ((w32 (10 * x2_4)) + 4)) h3 (fun r5 h6 =>
if x2_4 = 4 then
(∃ n45, P_M_print_L45 a1 Q n45 0 h6)
else
(if x2_4 = 2 then
(P_M_writeWord 11 h6 (fun r17 h18 =>
P_M_mark 14 h18 (fun r19 h20 =>
P_M_print_J98 a1 x2_4 h20 Q)))
else
(P_M_print_J98 a1 x2_4 h6 Q)))))
theorem W_M_print (a1 : Int) (h : zH) (Q : Int → zH → Prop) (hP : P_M_print a1 h Q) : zC true zy_X3_print 4 [zR 101, zI a1] h (zQ0 Q) := by
  unfold P_M_print at hP
  refine zC.of (by decide) (Nat.le_of_ble_eq_true rfl) ?_
  show zV true zy_X3_print 4 0 [zR 101, zI a1, zU, zU] [] h (zQ0 Q)
  refine zV_aload_n dX3_print_0 rfl ?_
  refine zV_iload_n dX3_print_1 rfl ?_
  refine zV_cVk (As := [zI a1]) (rest := []) dX3_print_2 sa_101 (W_M_isRule _ _ _ hP) mi_X3_isRule ml_X3_371 (by decide) (Nat.le_of_ble_eq_true rfl) rfl rfl rfl (fun r1 h2 hP => ?_)
  refine zV_if_ne (tgt := 16) dX3_print_5 (by decide) (fun c => ?_) (fun c => ?_)
  · have hP := zif_n hP c
    refine zV_aload_n dX3_print_16 rfl ?_
    refine zV_iconst dX3_print_17 ⟨by decide, by decide⟩ ?_
    refine zV_pf dX3_print_18 sa_101 (by decide) fl_X3_412_3 rfl rfl trivial (ki := 10) rfl (fun h3 e_h3 => ?_)
    have hP := hP h3 e_h3
    refine zV_aload_n dX3_print_21 rfl ?_
    refine zV_sg dX3_print_22 fm_101_12 sa_101 (by decide) fl_X3_29_3 rfl ?_
    refine zV_iload_n dX3_print_25 rfl ?_
    obtain ⟨ob, hP⟩ := hP
    refine zV_ia dX3_print_26 sa_108 ob ?_
    refine zV_top (fun x2_4 e_x2_4 => ?_)
    have hP := hP x2_4 e_x2_4
    refine zV_istore_n (ls' := [zR 101, zI a1, zI x2_4, zU]) dX3_print_27 rfl (Nat.le_of_ble_eq_true rfl) rfl rfl ?_
    refine zV_aload_n dX3_print_28 rfl ?_
    refine zV_bipush dX3_print_29 ⟨by decide, by decide, by decide⟩ ?_
    refine zV_iload_n dX3_print_31 rfl ?_
    refine zV_imul dX3_print_32 ?_
    refine zV_iconst dX3_print_33 ⟨by decide, by decide⟩ ?_
    refine zV_iadd dX3_print_34 ?_
    refine zV_cVv (As := [zI (w32 ((w32 (10 * x2_4)) + 4))]) (rest := []) dX3_print_35 sa_101 (W_M_mark _ _ _ hP) mi_X3_mark ml_X3_391 (by decide) (Nat.le_of_ble_eq_true rfl) rfl rfl (fun r5 h6 hP => ?_)
    refine zV_iload_n dX3_print_38 rfl ?_
    refine zV_iconst dX3_print_39 ⟨by decide, by decide⟩ ?_
    refine zV_icmp_ne (tgt := 81) dX3_print_40 (by decide) (fun c => ?_) (fun c => ?_)
    · have hP := zif_n hP c
      refine zV_iload_n dX3_print_81 rfl ?_
      refine zV_iconst dX3_print_82 ⟨by decide, by decide⟩ ?_
      refine zV_icmp_ne (tgt := 98) dX3_print_83 (by decide) (fun c => ?_) (fun c => ?_)
      · have hP := zif_n hP c
        exact W_M_print_J98 _ _ _ _ hP
      · have hP := zif_p hP c
        refine zV_aload_n dX3_print_86 rfl ?_
        refine zV_bipush dX3_print_87 ⟨by decide, by decide, by decide⟩ ?_
        refine zV_cVv (As := [zI 11]) (rest := []) dX3_print_89 sa_101 (W_M_writeWord _ _ _ hP) mi_X3_writeWord ml_X3_421 (by decide) (Nat.le_of_ble_eq_true rfl) rfl rfl (fun r17 h18 hP => ?_)
        refine zV_aload_n dX3_print_92 rfl ?_
        refine zV_bipush dX3_print_93 ⟨by decide, by decide, by decide⟩ ?_
        refine zV_cVv (As := [zI 14]) (rest := []) dX3_print_95 sa_101 (W_M_mark _ _ _ hP) mi_X3_mark ml_X3_391 (by decide) (Nat.le_of_ble_eq_true rfl) rfl rfl (fun r19 h20 hP => ?_)
        exact W_M_print_J98 _ _ _ _ hP
    · have hP := zif_p hP c
      refine zV_iconst dX3_print_43 ⟨by decide, by decide⟩ ?_
      refine zV_istore_n (ls' := [zR 101, zI a1, zI x2_4, zI 0]) dX3_print_44 rfl (Nat.le_of_ble_eq_true rfl) rfl rfl ?_
      obtain ⟨n45, hP⟩ := hP
      refine zV_mask [true, true, false, true] (ls' := [zR 101, zI a1, zU, zI 0]) rfl ?_
      refine W_M_print_L45 _ _ n45 _ _ hP
  · have hP := zif_p hP c
    refine zV_aload_n dX3_print_8 rfl ?_
    refine zV_sipush dX3_print_9 ⟨by decide, by decide, by decide⟩ ?_
    refine zV_cVk (As := [zI (-1001)]) (rest := []) dX3_print_12 sa_101 (W_M_fail _ _ _ hP) mi_X3_fail ml_X3_242 (by decide) (Nat.le_of_ble_eq_true rfl) rfl rfl rfl (fun r24 h25 hP => ?_)
    exact zV_ireturn dX3_print_15 rfl rfl rfl ⟨rfl, hP⟩
def P_M_export_L22 (y1 : Int) (Q : Int → zH → Prop) (k56 : zH → Prop) : Nat → Int → zH → Prop
| 0, _, _ => False
| n22 + 1, y2, h =>
(0 ≤ w32 (y1 + 1) ∧ w32 (y1 + 1) < 501) ∧
if zd h 119 (w32 (y1 + 1)) ≤ y2 then
(k56 h)
else
((0 ≤ y2 ∧ y2 < 2600) ∧
P_M_writeNumber (zd h 120 y2) h (fun r3 h4 =>
P_M_write 32 h4 (fun r5 h6 =>
∀ x2_7 : Int, x2_7 = w32 (y2 + 1) →
P_M_export_L22 y1 Q k56 n22 x2_7 h6)))
theorem W_M_export_L22 (y1 : Int) (Q : Int → zH → Prop) (k56 : zH → Prop) (H56 : ∀ (h' : zH), k56 h' → zV true zy_X3_export 3 56 [zR 101, zI y1, zU] [] h' (zQ0 Q)) : ∀ (n22 : Nat) (y2 : Int) (h : zH), P_M_export_L22 y1 Q k56 n22 y2 h → zV true zy_X3_export 3 22 [zR 101, zI y1, zI y2] [] h (zQ0 Q) := by
  intro n22
  induction n22 with
  | zero => intro y2 h hP; exact absurd hP id
  | succ n22 ih =>
    intro y2 h hP
    unfold P_M_export_L22 at hP
    refine zV_iload_n dX3_export_22 rfl ?_
    refine zV_aload_n dX3_export_23 rfl ?_
    refine zV_sg dX3_export_24 fm_101_24 sa_101 (by decide) fl_X3_62_3 rfl ?_
    refine zV_iload_n dX3_export_27 rfl ?_
    refine zV_iconst dX3_export_28 ⟨by decide, by decide⟩ ?_
    refine zV_iadd dX3_export_29 ?_
    obtain ⟨ob, hP⟩ := hP
    refine zV_ia dX3_export_30 sa_119 ob ?_
    refine zV_icmp_ge (tgt := 56) dX3_export_31 (by decide) (fun c => ?_) (fun c => ?_)
    · have hP := zif_p hP c
      refine zV_mask [true, true, false] (ls' := [zR 101, zI y1, zU]) rfl ?_
      exact H56 _ hP
    · have hP := zif_n hP c
      refine zV_aload_n dX3_export_34 rfl ?_
      refine zV_aload_n dX3_export_35 rfl ?_
      refine zV_sg dX3_export_36 fm_101_25 sa_101 (by decide) fl_X3_65_3 rfl ?_
      refine zV_iload_n dX3_export_39 rfl ?_
      obtain ⟨ob, hP⟩ := hP
      refine zV_ia dX3_export_40 sa_120 ob ?_
      refine zV_cVv (As := [zI (zd h 120 y2)]) (rest := []) dX3_export_41 sa_101 (W_M_writeNumber _ _ _ hP) mi_X3_writeNumber ml_X3_418 (by decide) (Nat.le_of_ble_eq_true rfl) rfl rfl (fun r3 h4 hP => ?_)
      refine zV_aload_n dX3_export_44 rfl ?_
      refine zV_bipush dX3_export_45 ⟨by decide, by decide, by decide⟩ ?_
      refine zV_cVv (As := [zI 32]) (rest := []) dX3_export_47 sa_101 (W_M_write _ _ _ hP) mi_X3_write ml_X3_415 (by decide) (Nat.le_of_ble_eq_true rfl) rfl rfl (fun r5 h6 hP => ?_)
      refine zV_inc (ls' := fun z => [zR 101, zI y1, zI z]) dX3_export_50 (Nat.le_of_ble_eq_true rfl) rfl rfl (fun _ => rfl) (fun x2_7 e_x2_7 => ?_)
      have hP := hP x2_7 e_x2_7
      refine zV_goto (tgt := 22) dX3_export_53 (by decide) ?_
      exact ih _ _ hP
def P_M_export_L7 (Q : Int → zH → Prop) : Nat → Int → zH → Prop
| 0, _, _ => False
| n7 + 1, y1, h =>
if zd h 101 23 ≤ y1 then
(Q (zd h 101 10) h)
else
((0 ≤ y1 ∧ y1 < 501) ∧
∀ x2_2 : Int, x2_2 = (zd h 119 y1) →
∃ n22, P_M_export_L22 y1 Q (fun h8 =>
P_M_write 48 h8 (fun r9 h10 =>
P_M_write 10 h10 (fun r11 h12 =>
∀ x1_13 : Int, x1_13 = w32 (y1 + 1) →
P_M_export_L7 Q n7 x1_13 h12))) n22 x2_2 h)
theorem W_M_export_L7 (Q : Int → zH → Prop) : ∀ (n7 : Nat) (y1 : Int) (h : zH), P_M_export_L7 Q n7 y1 h → zV true zy_X3_export 3 7 [zR 101, zI y1, zU] [] h (zQ0 Q) := by
  intro n7
  induction n7 with
  | zero => intro y1 h hP; exact absurd hP id
  | succ n7 ih =>
    intro y1 h hP
    unfold P_M_export_L7 at hP
    refine zV_iload_n dX3_export_7 rfl ?_
    refine zV_aload_n dX3_export_8 rfl ?_
    refine zV_gf dX3_export_9 sa_101 (by decide) fl_X3_273_3 rfl (ki := 23) rfl ?_
    refine zV_icmp_ge (tgt := 74) dX3_export_12 (by decide) (fun c => ?_) (fun c => ?_)
    · have hP := zif_p hP c
      refine zV_aload_n dX3_export_74 rfl ?_
      refine zV_gf dX3_export_75 sa_101 (by decide) fl_X3_412_3 rfl (ki := 10) rfl ?_
      exact zV_ireturn dX3_export_78 rfl rfl rfl ⟨rfl, hP⟩
    · have hP := zif_n hP c
      refine zV_aload_n dX3_export_15 rfl ?_
      refine zV_sg dX3_export_16 fm_101_24 sa_101 (by decide) fl_X3_62_3 rfl ?_
      refine zV_iload_n dX3_export_19 rfl ?_
      obtain ⟨ob, hP⟩ := hP
      refine zV_ia dX3_export_20 sa_119 ob ?_
      refine zV_top (fun x2_2 e_x2_2 => ?_)
      have hP := hP x2_2 e_x2_2
      refine zV_istore_n (ls' := [zR 101, zI y1, zI x2_2]) dX3_export_21 rfl (Nat.le_of_ble_eq_true rfl) rfl rfl ?_
      obtain ⟨n22, hP⟩ := hP
      refine W_M_export_L22 _ _ _ (fun h8 hP => ?_) n22 _ _ hP
      refine zV_aload_n dX3_export_56 rfl ?_
      refine zV_bipush dX3_export_57 ⟨by decide, by decide, by decide⟩ ?_
      refine zV_cVv (As := [zI 48]) (rest := []) dX3_export_59 sa_101 (W_M_write _ _ _ hP) mi_X3_write ml_X3_415 (by decide) (Nat.le_of_ble_eq_true rfl) rfl rfl (fun r9 h10 hP => ?_)
      refine zV_aload_n dX3_export_62 rfl ?_
      refine zV_bipush dX3_export_63 ⟨by decide, by decide, by decide⟩ ?_
      refine zV_cVv (As := [zI 10]) (rest := []) dX3_export_65 sa_101 (W_M_write _ _ _ hP) mi_X3_write ml_X3_415 (by decide) (Nat.le_of_ble_eq_true rfl) rfl rfl (fun r11 h12 hP => ?_)
      refine zV_inc (ls' := fun z => [zR 101, zI z, zU]) dX3_export_68 (Nat.le_of_ble_eq_true rfl) rfl rfl (fun _ => rfl) (fun x1_13 e_x1_13 => ?_)
      have hP := hP x1_13 e_x1_13
      refine zV_goto (tgt := 7) dX3_export_71 (by decide) ?_
      exact ih _ _ hP
def P_M_export (h : zH) (Q : Int → zH → Prop) : Prop :=
∀ h1 : zH, h1 = zw h 101 10 0 →
∃ n7, P_M_export_L7 Q n7 0 h1
theorem W_M_export (h : zH) (Q : Int → zH → Prop) (hP : P_M_export  h Q) : zC true zy_X3_export 3 [zR 101] h (zQ0 Q) := by
  unfold P_M_export at hP
  refine zC.of (by decide) (Nat.le_of_ble_eq_true rfl) ?_
  show zV true zy_X3_export 3 0 [zR 101, zU, zU] [] h (zQ0 Q)
  refine zV_aload_n dX3_export_0 rfl ?_
  refine zV_iconst dX3_export_1 ⟨by decide, by decide⟩ ?_
  refine zV_pf dX3_export_2 sa_101 (by decide) fl_X3_412_3 rfl rfl trivial (ki := 10) rfl (fun h1 e_h1 => ?_)
  have hP := hP h1 e_h1
  refine zV_iconst dX3_export_5 ⟨by decide, by decide⟩ ?_
  refine zV_istore_n (ls' := [zR 101, zI 0, zU]) dX3_export_6 rfl (Nat.le_of_ble_eq_true rfl) rfl rfl ?_
  obtain ⟨n7, hP⟩ := hP
  refine W_M_export_L7 _ n7 _ _ hP
def P_M_out (a1 : Int) (h : zH) (Q : Int → zH → Prop) : Prop :=
P_M_in a1 0 (w32 ((zd h 101 10) - 1)) h (fun r1 h2 =>
(if r1 = 0 then True else (0 ≤ a1 ∧ a1 < 16384) ∧ True) ∧
Q (if r1 = 0 then (-1005) else zd h2 107 a1) h2)
theorem W_M_out (a1 : Int) (h : zH) (Q : Int → zH → Prop) (hP : P_M_out a1 h Q) : zC true zy_X3_out 2 [zR 101, zI a1] h (zQ0 Q) := by
  unfold P_M_out at hP
  refine zC.of (by decide) (Nat.le_of_ble_eq_true rfl) ?_
  show zV true zy_X3_out 2 0 [zR 101, zI a1] [] h (zQ0 Q)
  refine zV_iload_n dX3_out_0 rfl ?_
  refine zV_iconst dX3_out_1 ⟨by decide, by decide⟩ ?_
  refine zV_aload_n dX3_out_2 rfl ?_
  refine zV_gf dX3_out_3 sa_101 (by decide) fl_X3_412_3 rfl (ki := 10) rfl ?_
  refine zV_iconst dX3_out_6 ⟨by decide, by decide⟩ ?_
  refine zV_isub dX3_out_7 ?_
  refine zV_cSk (As := [zI a1, zI 0, zI (w32 ((zd h 101 10) - 1))]) (rest := []) dX3_out_8 (W_M_in _ _ _ _ _ hP) mi_X3_in ml_X3_238 (by decide) (Nat.le_of_ble_eq_true rfl) rfl rfl rfl (fun r1 h2 hP => ?_)
  obtain ⟨hO, hP⟩ := hP
  have K : zV true zy_X3_out 2 26 [zU, zU] [zI (if r1 = 0 then (-1005) else zd h2 107 a1)] h2 (zQ0 Q) := by
    exact zV_ireturn dX3_out_26 rfl rfl rfl ⟨rfl, hP⟩
  clear hP
  refine zV_if_eq (tgt := 23) dX3_out_11 (by decide) (fun c => ?_) (fun c => ?_)
  · try simp only [if_pos c] at K
    have hO := zif_p hO c
    refine zV_sipush dX3_out_23 ⟨by decide, by decide, by decide⟩ ?_
    refine zV_mask [false, false] rfl ?_
    exact K
  · try simp only [if_neg c] at K
    have hO := zif_n hO c
    refine zV_aload_n dX3_out_14 rfl ?_
    refine zV_sg dX3_out_15 fm_101_9 sa_101 (by decide) fl_X3_26_3 rfl ?_
    refine zV_iload_n dX3_out_18 rfl ?_
    obtain ⟨ob, hO⟩ := hO
    refine zV_ia dX3_out_19 sa_107 ob ?_
    refine zV_goto (tgt := 26) dX3_out_20 (by decide) ?_
    refine zV_mask [false, false] rfl ?_
    exact K
def P_M_trace_J20 (y1 : Int) (s0 : Int) (s1 : Int) (s2 : Int) (h : zH) (Q : Int → zH → Prop) : Prop :=
P_M_in s2 s1 (w32 (s0 - 1)) h (fun r1 h2 =>
(if r1 = 0 then True else (0 ≤ Int.tmod (w32 ((w32 ((zd h2 101 27) - 1)) - y1)) 100 ∧ Int.tmod (w32 ((w32 ((zd h2 101 27) - 1)) - y1)) 100 < 100) ∧ True) ∧
Q (if r1 = 0 then (-1005) else zd h2 121 (Int.tmod (w32 ((w32 ((zd h2 101 27) - 1)) - y1)) 100)) h2)
theorem W_M_trace_J20 (y1 : Int) (s0 : Int) (s1 : Int) (s2 : Int) (h : zH) (Q : Int → zH → Prop) (hP : P_M_trace_J20 y1 s0 s1 s2 h Q) : zV true zy_X3_trace 2 20 [zR 101, zI y1] [zI s0, zI s1, zI s2] h (zQ0 Q) := by
  unfold P_M_trace_J20 at hP
  refine zV_iconst dX3_trace_20 ⟨by decide, by decide⟩ ?_
  refine zV_isub dX3_trace_21 ?_
  refine zV_cSk (As := [zI s2, zI s1, zI (w32 (s0 - 1))]) (rest := []) dX3_trace_22 (W_M_in _ _ _ _ _ hP) mi_X3_in ml_X3_238 (by decide) (Nat.le_of_ble_eq_true rfl) rfl rfl rfl (fun r1 h2 hP => ?_)
  obtain ⟨hO, hP⟩ := hP
  have K : zV true zy_X3_trace 2 50 [zU, zU] [zI (if r1 = 0 then (-1005) else zd h2 121 (Int.tmod (w32 ((w32 ((zd h2 101 27) - 1)) - y1)) 100))] h2 (zQ0 Q) := by
    exact zV_ireturn dX3_trace_50 rfl rfl rfl ⟨rfl, hP⟩
  clear hP
  refine zV_if_eq (tgt := 47) dX3_trace_25 (by decide) (fun c => ?_) (fun c => ?_)
  · try simp only [if_pos c] at K
    have hO := zif_p hO c
    refine zV_sipush dX3_trace_47 ⟨by decide, by decide, by decide⟩ ?_
    refine zV_mask [false, false] rfl ?_
    exact K
  · try simp only [if_neg c] at K
    have hO := zif_n hO c
    refine zV_aload_n dX3_trace_28 rfl ?_
    refine zV_sg dX3_trace_29 fm_101_26 sa_101 (by decide) fl_X3_68_3 rfl ?_
    refine zV_aload_n dX3_trace_32 rfl ?_
    refine zV_gf dX3_trace_33 sa_101 (by decide) fl_X3_385_3 rfl (ki := 27) rfl ?_
    refine zV_iconst dX3_trace_36 ⟨by decide, by decide⟩ ?_
    refine zV_isub dX3_trace_37 ?_
    refine zV_iload_n dX3_trace_38 rfl ?_
    refine zV_isub dX3_trace_39 ?_
    refine zV_bipush dX3_trace_40 ⟨by decide, by decide, by decide⟩ ?_
    refine zV_irem dX3_trace_42 (by decide) ?_
    obtain ⟨ob, hO⟩ := hO
    refine zV_ia dX3_trace_43 sa_121 ob ?_
    refine zV_goto (tgt := 50) dX3_trace_44 (by decide) ?_
    refine zV_mask [false, false] rfl ?_
    exact K
def P_M_trace (a1 : Int) (h : zH) (Q : Int → zH → Prop) : Prop :=
P_M_trace_J20 a1 (if 100 ≤ zd h 101 27 then 100 else zd h 101 27) 0 a1 h Q
theorem W_M_trace (a1 : Int) (h : zH) (Q : Int → zH → Prop) (hP : P_M_trace a1 h Q) : zC true zy_X3_trace 2 [zR 101, zI a1] h (zQ0 Q) := by
  unfold P_M_trace at hP
  refine zC.of (by decide) (Nat.le_of_ble_eq_true rfl) ?_
  show zV true zy_X3_trace 2 0 [zR 101, zI a1] [] h (zQ0 Q)
  refine zV_iload_n dX3_trace_0 rfl ?_
  refine zV_iconst dX3_trace_1 ⟨by decide, by decide⟩ ?_
  refine zV_aload_n dX3_trace_2 rfl ?_
  refine zV_gf dX3_trace_3 sa_101 (by decide) fl_X3_385_3 rfl (ki := 27) rfl ?_
  refine zV_bipush dX3_trace_6 ⟨by decide, by decide, by decide⟩ ?_
  have K : zV true zy_X3_trace 2 20 [zR 101, zI a1] [zI (if 100 ≤ zd h 101 27 then 100 else zd h 101 27), zI 0, zI a1] h (zQ0 Q) := by
    exact W_M_trace_J20 _ _ _ _ _ _ hP
  clear hP
  refine zV_icmp_ge (tgt := 18) dX3_trace_8 (by decide) (fun c => ?_) (fun c => ?_)
  · try simp only [if_pos c] at K
    refine zV_bipush dX3_trace_18 ⟨by decide, by decide, by decide⟩ ?_
    refine zV_mask [true, true] rfl ?_
    exact K
  · try simp only [if_neg c] at K
    refine zV_aload_n dX3_trace_11 rfl ?_
    refine zV_gf dX3_trace_12 sa_101 (by decide) fl_X3_385_3 rfl (ki := 27) rfl ?_
    refine zV_goto (tgt := 20) dX3_trace_15 (by decide) ?_
    refine zV_mask [true, true] rfl ?_
    exact K
def P_M_wrongToAssume_J37 (y1 : Int) (y3 : Int) (s0 : Int) (h : zH) (Q : Int → zH → Prop) (k8 : Int → Int → zH → Prop) : Prop :=
∀ x3_3 : Int, x3_3 = w32 (y3 + 1) →
k8 s0 x3_3 h
theorem W_M_wrongToAssume_J37 (y1 : Int) (y3 : Int) (s0 : Int) (h : zH) (Q : Int → zH → Prop) (k8 : Int → Int → zH → Prop) (H8 : ∀ (v2 v3 : Int) (h' : zH), k8 v2 v3 h' → zV true zy_X3_wrongToAssume 3 8 [zR 101, zI y1, zI v2, zI v3] [] h' (zQ0 Q)) (hP : P_M_wrongToAssume_J37 y1 y3 s0 h Q k8) : zV true zy_X3_wrongToAssume 3 37 [zR 101, zI y1, zU, zI y3] [zI s0] h (zQ0 Q) := by
  unfold P_M_wrongToAssume_J37 at hP
  refine zV_istore_n (ls' := [zR 101, zI y1, zI s0, zI y3]) dX3_wrongToAssume_37 rfl (Nat.le_of_ble_eq_true rfl) rfl rfl ?_
  refine zV_inc (ls' := fun z => [zR 101, zI y1, zI s0, zI z]) dX3_wrongToAssume_38 (Nat.le_of_ble_eq_true rfl) rfl rfl (fun _ => rfl) (fun x3_3 e_x3_3 => ?_)
  have hP := hP x3_3 e_x3_3
  refine zV_goto (tgt := 8) dX3_wrongToAssume_41 (by decide) ?_
  exact H8 _ _ _ hP
def P_M_wrongToAssume_L8 (y1 : Int) (Q : Int → zH → Prop) (k44 : Int → zH → Prop) : Nat → Int → Int → zH → Prop
| 0, _, _, _ => False
| n8 + 1, y2, y3, h =>
if zd h 101 29 ≤ y3 then
(k44 y2 h)
else
(if y2 = 0 then
((0 ≤ y3 ∧ y3 < 20) ∧
P_M_wrongToAssume_J37 y1 y3 (if zd h 122 y3 = y1 then (-1002) else 0) h Q (P_M_wrongToAssume_L8 y1 Q k44 n8))
else
(k44 y2 h))
theorem W_M_wrongToAssume_L8 (y1 : Int) (Q : Int → zH → Prop) (k44 : Int → zH → Prop) (H44 : ∀ (v2 : Int) (h' : zH), k44 v2 h' → zV true zy_X3_wrongToAssume 3 44 [zR 101, zU, zI v2, zU] [] h' (zQ0 Q)) : ∀ (n8 : Nat) (y2 y3 : Int) (h : zH), P_M_wrongToAssume_L8 y1 Q k44 n8 y2 y3 h → zV true zy_X3_wrongToAssume 3 8 [zR 101, zI y1, zI y2, zI y3] [] h (zQ0 Q) := by
  intro n8
  induction n8 with
  | zero => intro y2 y3 h hP; exact absurd hP id
  | succ n8 ih =>
    intro y2 y3 h hP
    unfold P_M_wrongToAssume_L8 at hP
    refine zV_iload_n dX3_wrongToAssume_8 rfl ?_
    refine zV_aload_n dX3_wrongToAssume_9 rfl ?_
    refine zV_gf dX3_wrongToAssume_10 sa_101 (by decide) fl_X3_427_3 rfl (ki := 29) rfl ?_
    refine zV_icmp_ge (tgt := 44) dX3_wrongToAssume_13 (by decide) (fun c => ?_) (fun c => ?_)
    · have hP := zif_p hP c
      refine zV_mask [true, false, true, false] (ls' := [zR 101, zU, zI y2, zU]) rfl ?_
      exact H44 _ _ hP
    · have hP := zif_n hP c
      refine zV_iload_n dX3_wrongToAssume_16 rfl ?_
      refine zV_if_ne (tgt := 44) dX3_wrongToAssume_17 (by decide) (fun c => ?_) (fun c => ?_)
      · have hP := zif_n hP c
        refine zV_mask [true, false, true, false] (ls' := [zR 101, zU, zI y2, zU]) rfl ?_
        exact H44 _ _ hP
      · have hP := zif_p hP c
        refine zV_aload_n dX3_wrongToAssume_20 rfl ?_
        refine zV_sg dX3_wrongToAssume_21 fm_101_28 sa_101 (by decide) fl_X3_71_3 rfl ?_
        refine zV_iload_n dX3_wrongToAssume_24 rfl ?_
        obtain ⟨ob, hP⟩ := hP
        refine zV_ia dX3_wrongToAssume_25 sa_122 ob ?_
        refine zV_iload_n dX3_wrongToAssume_26 rfl ?_
        have K : zV true zy_X3_wrongToAssume 3 37 [zR 101, zI y1, zU, zI y3] [zI (if zd h 122 y3 = y1 then (-1002) else 0)] h (zQ0 Q) := by
          exact W_M_wrongToAssume_J37 _ _ _ _ _ _ ih hP
        clear hP
        refine zV_icmp_ne (tgt := 36) dX3_wrongToAssume_27 (by decide) (fun c => ?_) (fun c => ?_)
        · try simp only [if_neg c] at K
          refine zV_iconst dX3_wrongToAssume_36 ⟨by decide, by decide⟩ ?_
          refine zV_mask [true, true, false, true] rfl ?_
          exact K
        · try simp only [if_pos c] at K
          refine zV_sipush dX3_wrongToAssume_30 ⟨by decide, by decide, by decide⟩ ?_
          refine zV_goto (tgt := 37) dX3_wrongToAssume_33 (by decide) ?_
          refine zV_mask [true, true, false, true] rfl ?_
          exact K
def P_M_wrongToAssume_J44 (y2 : Int) (h : zH) (Q : Int → zH → Prop) : Prop :=
Q (if y2 = 0 then if zd h 101 29 = 20 then (-1003) else y2 else y2) h
theorem W_M_wrongToAssume_J44 (y2 : Int) (h : zH) (Q : Int → zH → Prop) (hP : P_M_wrongToAssume_J44 y2 h Q) : zV true zy_X3_wrongToAssume 3 44 [zR 101, zU, zI y2, zU] [] h (zQ0 Q) := by
  unfold P_M_wrongToAssume_J44 at hP
  refine zV_iload_n dX3_wrongToAssume_44 rfl ?_
  have K : zV true zy_X3_wrongToAssume 3 64 [zU, zU, zU, zU] [zI (if y2 = 0 then if zd h 101 29 = 20 then (-1003) else y2 else y2)] h (zQ0 Q) := by
    exact zV_ireturn dX3_wrongToAssume_64 rfl rfl rfl ⟨rfl, hP⟩
  clear hP
  refine zV_if_ne (tgt := 63) dX3_wrongToAssume_45 (by decide) (fun c => ?_) (fun c => ?_)
  · try simp only [if_neg c] at K
    refine zV_iload_n dX3_wrongToAssume_63 rfl ?_
    refine zV_mask [false, false, false, false] rfl ?_
    exact K
  · try simp only [if_pos c] at K
    refine zV_aload_n dX3_wrongToAssume_48 rfl ?_
    refine zV_gf dX3_wrongToAssume_49 sa_101 (by decide) fl_X3_427_3 rfl (ki := 29) rfl ?_
    refine zV_bipush dX3_wrongToAssume_52 ⟨by decide, by decide, by decide⟩ ?_
    refine zV_icmp_ne (tgt := 63) dX3_wrongToAssume_54 (by decide) (fun c => ?_) (fun c => ?_)
    · try simp only [if_neg c] at K
      refine zV_iload_n dX3_wrongToAssume_63 rfl ?_
      refine zV_mask [false, false, false, false] rfl ?_
      exact K
    · try simp only [if_pos c] at K
      refine zV_sipush dX3_wrongToAssume_57 ⟨by decide, by decide, by decide⟩ ?_
      refine zV_goto (tgt := 64) dX3_wrongToAssume_60 (by decide) ?_
      refine zV_mask [false, false, false, false] rfl ?_
      exact K
def P_M_wrongToAssume (a1 : Int) (h : zH) (Q : Int → zH → Prop) : Prop :=
P_M_wrongItem a1 h (fun r1 h2 =>
∃ n8, P_M_wrongToAssume_L8 a1 Q (fun u2_44 h4 =>
P_M_wrongToAssume_J44 u2_44 h4 Q) n8 r1 0 h2)
theorem W_M_wrongToAssume (a1 : Int) (h : zH) (Q : Int → zH → Prop) (hP : P_M_wrongToAssume a1 h Q) : zC true zy_X3_wrongToAssume 3 [zR 101, zI a1] h (zQ0 Q) := by
  unfold P_M_wrongToAssume at hP
  refine zC.of (by decide) (Nat.le_of_ble_eq_true rfl) ?_
  show zV true zy_X3_wrongToAssume 3 0 [zR 101, zI a1, zU, zU] [] h (zQ0 Q)
  refine zV_aload_n dX3_wrongToAssume_0 rfl ?_
  refine zV_iload_n dX3_wrongToAssume_1 rfl ?_
  refine zV_cVk (As := [zI a1]) (rest := []) dX3_wrongToAssume_2 sa_101 (W_M_wrongItem _ _ _ hP) mi_X3_wrongItem ml_X3_295 (by decide) (Nat.le_of_ble_eq_true rfl) rfl rfl rfl (fun r1 h2 hP => ?_)
  refine zV_istore_n (ls' := [zR 101, zI a1, zI r1, zU]) dX3_wrongToAssume_5 rfl (Nat.le_of_ble_eq_true rfl) rfl rfl ?_
  refine zV_iconst dX3_wrongToAssume_6 ⟨by decide, by decide⟩ ?_
  refine zV_istore_n (ls' := [zR 101, zI a1, zI r1, zI 0]) dX3_wrongToAssume_7 rfl (Nat.le_of_ble_eq_true rfl) rfl rfl ?_
  obtain ⟨n8, hP⟩ := hP
  refine W_M_wrongToAssume_L8 _ _ _ (fun u2_44 h4 hP => ?_) n8 _ _ _ hP
  exact W_M_wrongToAssume_J44 _ _ _ hP
def P_M_assume (a1 : Int) (h : zH) (Q : Int → zH → Prop) : Prop :=
P_M_wrongToAssume a1 h (fun r1 h2 =>
if 0 ≤ r1 then
((0 ≤ zd h2 101 29 ∧ zd h2 101 29 < 20) ∧
∀ h3 : zH, h3 = zw h2 122 (zd h2 101 29) a1 →
∀ h4 : zH, h4 = zw h3 101 29 (w32 ((zd h3 101 29) + 1)) →
∀ h5 : zH, h5 = zw h4 101 57 0 →
Q (zd h5 101 29) h5)
else
(P_M_fail r1 h2 (fun r6 h7 =>
Q r6 h7)))
theorem W_M_assume (a1 : Int) (h : zH) (Q : Int → zH → Prop) (hP : P_M_assume a1 h Q) : zC true zy_X3_assume 4 [zR 101, zI a1] h (zQ0 Q) := by
  unfold P_M_assume at hP
  refine zC.of (by decide) (Nat.le_of_ble_eq_true rfl) ?_
  show zV true zy_X3_assume 4 0 [zR 101, zI a1, zU] [] h (zQ0 Q)
  refine zV_aload_n dX3_assume_0 rfl ?_
  refine zV_iload_n dX3_assume_1 rfl ?_
  refine zV_cVk (As := [zI a1]) (rest := []) dX3_assume_2 sa_101 (W_M_wrongToAssume _ _ _ hP) mi_X3_wrongToAssume ml_X3_430 (by decide) (Nat.le_of_ble_eq_true rfl) rfl rfl rfl (fun r1 h2 hP => ?_)
  refine zV_istore_n (ls' := [zR 101, zI a1, zI r1]) dX3_assume_5 rfl (Nat.le_of_ble_eq_true rfl) rfl rfl ?_
  refine zV_iload_n dX3_assume_6 rfl ?_
  refine zV_if_ge (tgt := 16) dX3_assume_7 (by decide) (fun c => ?_) (fun c => ?_)
  · have hP := zif_p hP c
    refine zV_aload_n dX3_assume_16 rfl ?_
    refine zV_sg dX3_assume_17 fm_101_28 sa_101 (by decide) fl_X3_71_3 rfl ?_
    refine zV_aload_n dX3_assume_20 rfl ?_
    refine zV_gf dX3_assume_21 sa_101 (by decide) fl_X3_427_3 rfl (ki := 29) rfl ?_
    refine zV_iload_n dX3_assume_24 rfl ?_
    obtain ⟨ob, hP⟩ := hP
    refine zV_ias dX3_assume_25 sa_122 ob (fun h3 e_h3 => ?_)
    have hP := hP h3 e_h3
    refine zV_aload_n dX3_assume_26 rfl ?_
    refine zV_dup dX3_assume_27 (Nat.ne_of_beq_eq_false rfl) ?_
    refine zV_gf dX3_assume_28 sa_101 (by decide) fl_X3_427_3 rfl (ki := 29) rfl ?_
    refine zV_iconst dX3_assume_31 ⟨by decide, by decide⟩ ?_
    refine zV_iadd dX3_assume_32 ?_
    refine zV_pf dX3_assume_33 sa_101 (by decide) fl_X3_427_3 rfl rfl trivial (ki := 29) rfl (fun h4 e_h4 => ?_)
    have hP := hP h4 e_h4
    refine zV_aload_n dX3_assume_36 rfl ?_
    refine zV_iconst dX3_assume_37 ⟨by decide, by decide⟩ ?_
    refine zV_pf dX3_assume_38 sa_101 (by decide) fl_X3_249_3 rfl rfl z0 (ki := 57) rfl (fun h5 e_h5 => ?_)
    have hP := hP h5 e_h5
    refine zV_aload_n dX3_assume_41 rfl ?_
    refine zV_gf dX3_assume_42 sa_101 (by decide) fl_X3_427_3 rfl (ki := 29) rfl ?_
    exact zV_ireturn dX3_assume_45 rfl rfl rfl ⟨rfl, hP⟩
  · have hP := zif_n hP c
    refine zV_aload_n dX3_assume_10 rfl ?_
    refine zV_iload_n dX3_assume_11 rfl ?_
    refine zV_cVk (As := [zI r1]) (rest := []) dX3_assume_12 sa_101 (W_M_fail _ _ _ hP) mi_X3_fail ml_X3_242 (by decide) (Nat.le_of_ble_eq_true rfl) rfl rfl rfl (fun r6 h7 hP => ?_)
    exact zV_ireturn dX3_assume_15 rfl rfl rfl ⟨rfl, hP⟩
def P_M_free (h : zH) (Q : Int → zH → Prop) : Prop :=
∀ x1_1 : Int, x1_1 = (zd h 101 29) →
∀ h2 : zH, h2 = zw h 101 29 0 →
∀ h3 : zH, h3 = zw h2 101 57 0 →
Q x1_1 h3
theorem W_M_free (h : zH) (Q : Int → zH → Prop) (hP : P_M_free  h Q) : zC true zy_X3_free 1 [zR 101] h (zQ0 Q) := by
  unfold P_M_free at hP
  refine zC.of (by decide) (Nat.le_of_ble_eq_true rfl) ?_
  show zV true zy_X3_free 1 0 [zR 101, zU] [] h (zQ0 Q)
  refine zV_aload_n dX3_free_0 rfl ?_
  refine zV_gf dX3_free_1 sa_101 (by decide) fl_X3_427_3 rfl (ki := 29) rfl ?_
  refine zV_top (fun x1_1 e_x1_1 => ?_)
  have hP := hP x1_1 e_x1_1
  refine zV_istore_n (ls' := [zR 101, zI x1_1]) dX3_free_4 rfl (Nat.le_of_ble_eq_true rfl) rfl rfl ?_
  refine zV_aload_n dX3_free_5 rfl ?_
  refine zV_iconst dX3_free_6 ⟨by decide, by decide⟩ ?_
  refine zV_pf dX3_free_7 sa_101 (by decide) fl_X3_427_3 rfl rfl trivial (ki := 29) rfl (fun h2 e_h2 => ?_)
  have hP := hP h2 e_h2
  refine zV_aload_n dX3_free_10 rfl ?_
  refine zV_iconst dX3_free_11 ⟨by decide, by decide⟩ ?_
  refine zV_pf dX3_free_12 sa_101 (by decide) fl_X3_249_3 rfl rfl z0 (ki := 57) rfl (fun h3 e_h3 => ?_)
  have hP := hP h3 e_h3
  refine zV_iload_n dX3_free_15 rfl ?_
  exact zV_ireturn dX3_free_16 rfl rfl rfl ⟨rfl, hP⟩
def P_M_isName (a1 : Int) (h : zH) (Q : Int → zH → Prop) : Prop :=
P_M_in a1 1 (zd h 101 1) h (fun r1 h2 =>
(r1 = 0 ∨ r1 = 1) ∧ Q r1 h2)
theorem W_M_isName (a1 : Int) (h : zH) (Q : Int → zH → Prop) (hP : P_M_isName a1 h Q) : zC true zy_X3_isName 2 [zR 101, zI a1] h (zQ0 Q) := by
  unfold P_M_isName at hP
  refine zC.of (by decide) (Nat.le_of_ble_eq_true rfl) ?_
  show zV true zy_X3_isName 2 0 [zR 101, zI a1] [] h (zQ0 Q)
  refine zV_iload_n dX3_isName_0 rfl ?_
  refine zV_iconst dX3_isName_1 ⟨by decide, by decide⟩ ?_
  refine zV_aload_n dX3_isName_2 rfl ?_
  refine zV_gf dX3_isName_3 sa_101 (by decide) fl_X3_246_3 rfl (ki := 1) rfl ?_
  refine zV_cSk (As := [zI a1, zI 1, zI (zd h 101 1)]) (rest := []) dX3_isName_6 (W_M_in _ _ _ _ _ hP) mi_X3_in ml_X3_238 (by decide) (Nat.le_of_ble_eq_true rfl) rfl rfl rfl (fun r1 h2 hP => ?_)
  exact zV_ireturn dX3_isName_9 rfl rfl (z01 hP.1) ⟨rfl, hP.2⟩
def P_M_weight (a1 : Int) (a2 : Int) (h : zH) (Q : Int → zH → Prop) : Prop :=
P_M_isName a1 h (fun r1 h2 =>
if r1 = 0 then
(P_M_fail (-1001) h2 (fun r3 h4 =>
Q r3 h4))
else
(P_M_in a2 0 1000 h2 (fun r5 h6 =>
if r5 = 0 then
(P_M_fail (-1001) h6 (fun r10 h11 =>
Q r10 h11))
else
((0 ≤ a1 ∧ a1 < 301) ∧
∀ x3_7 : Int, x3_7 = (zd h6 102 a1) →
(0 ≤ a1 ∧ a1 < 301) ∧
∀ h8 : zH, h8 = zw h6 102 a1 a2 →
∀ h9 : zH, h9 = zw h8 101 57 0 →
Q x3_7 h9))))
theorem W_M_weight (a1 : Int) (a2 : Int) (h : zH) (Q : Int → zH → Prop) (hP : P_M_weight a1 a2 h Q) : zC true zy_X3_weight 3 [zR 101, zI a1, zI a2] h (zQ0 Q) := by
  unfold P_M_weight at hP
  refine zC.of (by decide) (Nat.le_of_ble_eq_true rfl) ?_
  show zV true zy_X3_weight 3 0 [zR 101, zI a1, zI a2, zU] [] h (zQ0 Q)
  refine zV_aload_n dX3_weight_0 rfl ?_
  refine zV_iload_n dX3_weight_1 rfl ?_
  refine zV_cVk (As := [zI a1]) (rest := []) dX3_weight_2 sa_101 (W_M_isName _ _ _ hP) mi_X3_isName ml_X3_433 (by decide) (Nat.le_of_ble_eq_true rfl) rfl rfl rfl (fun r1 h2 hP => ?_)
  refine zV_if_eq (tgt := 19) dX3_weight_5 (by decide) (fun c => ?_) (fun c => ?_)
  · have hP := zif_p hP c
    refine zV_aload_n dX3_weight_19 rfl ?_
    refine zV_sipush dX3_weight_20 ⟨by decide, by decide, by decide⟩ ?_
    refine zV_cVk (As := [zI (-1001)]) (rest := []) dX3_weight_23 sa_101 (W_M_fail _ _ _ hP) mi_X3_fail ml_X3_242 (by decide) (Nat.le_of_ble_eq_true rfl) rfl rfl rfl (fun r3 h4 hP => ?_)
    exact zV_ireturn dX3_weight_26 rfl rfl rfl ⟨rfl, hP⟩
  · have hP := zif_n hP c
    refine zV_iload_n dX3_weight_8 rfl ?_
    refine zV_iconst dX3_weight_9 ⟨by decide, by decide⟩ ?_
    refine zV_sipush dX3_weight_10 ⟨by decide, by decide, by decide⟩ ?_
    refine zV_cSk (As := [zI a2, zI 0, zI 1000]) (rest := []) dX3_weight_13 (W_M_in _ _ _ _ _ hP) mi_X3_in ml_X3_238 (by decide) (Nat.le_of_ble_eq_true rfl) rfl rfl rfl (fun r5 h6 hP => ?_)
    refine zV_if_ne (tgt := 27) dX3_weight_16 (by decide) (fun c => ?_) (fun c => ?_)
    · have hP := zif_n hP c
      refine zV_aload_n dX3_weight_27 rfl ?_
      refine zV_sg dX3_weight_28 fm_101_2 sa_101 (by decide) fl_X3_7_3 rfl ?_
      refine zV_iload_n dX3_weight_31 rfl ?_
      obtain ⟨ob, hP⟩ := hP
      refine zV_ia dX3_weight_32 sa_102 ob ?_
      refine zV_top (fun x3_7 e_x3_7 => ?_)
      have hP := hP x3_7 e_x3_7
      refine zV_istore_n (ls' := [zR 101, zI a1, zI a2, zI x3_7]) dX3_weight_33 rfl (Nat.le_of_ble_eq_true rfl) rfl rfl ?_
      refine zV_aload_n dX3_weight_34 rfl ?_
      refine zV_sg dX3_weight_35 fm_101_2 sa_101 (by decide) fl_X3_7_3 rfl ?_
      refine zV_iload_n dX3_weight_38 rfl ?_
      refine zV_iload_n dX3_weight_39 rfl ?_
      obtain ⟨ob, hP⟩ := hP
      refine zV_ias dX3_weight_40 sa_102 ob (fun h8 e_h8 => ?_)
      have hP := hP h8 e_h8
      refine zV_aload_n dX3_weight_41 rfl ?_
      refine zV_iconst dX3_weight_42 ⟨by decide, by decide⟩ ?_
      refine zV_pf dX3_weight_43 sa_101 (by decide) fl_X3_249_3 rfl rfl z0 (ki := 57) rfl (fun h9 e_h9 => ?_)
      have hP := hP h9 e_h9
      refine zV_iload_n dX3_weight_46 rfl ?_
      exact zV_ireturn dX3_weight_47 rfl rfl rfl ⟨rfl, hP⟩
    · have hP := zif_p hP c
      refine zV_aload_n dX3_weight_19 rfl ?_
      refine zV_sipush dX3_weight_20 ⟨by decide, by decide, by decide⟩ ?_
      refine zV_cVk (As := [zI (-1001)]) (rest := []) dX3_weight_23 sa_101 (W_M_fail _ _ _ hP) mi_X3_fail ml_X3_242 (by decide) (Nat.le_of_ble_eq_true rfl) rfl rfl rfl (fun r10 h11 hP => ?_)
      exact zV_ireturn dX3_weight_26 rfl rfl rfl ⟨rfl, hP⟩
def P_M_weighs (a1 : Int) (h : zH) (Q : Int → zH → Prop) : Prop :=
P_M_isName a1 h (fun r1 h2 =>
if r1 = 0 then
(P_M_fail (-1001) h2 (fun r3 h4 =>
Q r3 h4))
else
((if zd h2 137 0 < a1 then True else (0 ≤ a1 ∧ a1 < 602) ∧ True) ∧
Q (if zd h2 137 0 < a1 then 0 else zd h2 147 a1) h2))
theorem W_M_weighs (a1 : Int) (h : zH) (Q : Int → zH → Prop) (hP : P_M_weighs a1 h Q) : zC true zy_X3_weighs 3 [zR 101, zI a1] h (zQ0 Q) := by
  unfold P_M_weighs at hP
  refine zC.of (by decide) (Nat.le_of_ble_eq_true rfl) ?_
  show zV true zy_X3_weighs 3 0 [zR 101, zI a1] [] h (zQ0 Q)
  refine zV_aload_n dX3_weighs_0 rfl ?_
  refine zV_iload_n dX3_weighs_1 rfl ?_
  refine zV_cVk (As := [zI a1]) (rest := []) dX3_weighs_2 sa_101 (W_M_isName _ _ _ hP) mi_X3_isName ml_X3_433 (by decide) (Nat.le_of_ble_eq_true rfl) rfl rfl rfl (fun r1 h2 hP => ?_)
  refine zV_if_ne (tgt := 17) dX3_weighs_5 (by decide) (fun c => ?_) (fun c => ?_)
  · have hP := zif_n hP c
    refine zV_iload_n dX3_weighs_17 rfl ?_
    refine zV_aload_n dX3_weighs_18 rfl ?_
    refine zV_sg dX3_weighs_19 fm_101_61 sa_101 (by decide) fl_X3_116_3 rfl ?_
    refine zV_iconst dX3_weighs_22 ⟨by decide, by decide⟩ ?_
    refine zV_ia dX3_weighs_23 sa_137 (by decide) ?_
    obtain ⟨hO, hP⟩ := hP
    have K : zV true zy_X3_weighs 3 37 [zU, zU] [zJ (if zd h2 137 0 < a1 then 0 else zd h2 147 a1)] h2 (zQ0 Q) := by
      exact zV_lreturn dX3_weighs_37 rfl ⟨rfl, hP⟩
    clear hP
    refine zV_icmp_gt (tgt := 36) dX3_weighs_24 (by decide) (fun c => ?_) (fun c => ?_)
    · try simp only [if_pos c] at K
      have hO := zif_p hO c
      refine zV_lconst (x := 0) dX3_weighs_36 rfl ?_
      refine zV_mask [false, false] rfl ?_
      exact K
    · try simp only [if_neg c] at K
      have hO := zif_n hO c
      refine zV_aload_n dX3_weighs_27 rfl ?_
      refine zV_sg dX3_weighs_28 fm_101_73 sa_101 (by decide) fl_X3_146_3 rfl ?_
      refine zV_iload_n dX3_weighs_31 rfl ?_
      obtain ⟨ob, hO⟩ := hO
      refine zV_la dX3_weighs_32 sa_147 ob ?_
      refine zV_goto (tgt := 37) dX3_weighs_33 (by decide) ?_
      refine zV_mask [false, false] rfl ?_
      exact K
  · have hP := zif_p hP c
    refine zV_aload_n dX3_weighs_8 rfl ?_
    refine zV_sipush dX3_weighs_9 ⟨by decide, by decide, by decide⟩ ?_
    refine zV_cVk (As := [zI (-1001)]) (rest := []) dX3_weighs_12 sa_101 (W_M_fail _ _ _ hP) mi_X3_fail ml_X3_242 (by decide) (Nat.le_of_ble_eq_true rfl) rfl rfl rfl (fun r3 h4 hP => ?_)
    refine zV_i2l dX3_weighs_15 ?_
    exact zV_lreturn dX3_weighs_16 rfl ⟨rfl, hP⟩
def P_M_begin (a1 : Int) (h : zH) (Q : Int → zH → Prop) : Prop :=
P_M_in a1 0 100 h (fun r1 h2 =>
if r1 = 0 then
(P_M_fail (-1001) h2 (fun r6 h7 =>
Q r6 h7))
else
(∀ x2_3 : Int, x2_3 = (zd h2 101 30) →
∀ h4 : zH, h4 = zw h2 101 30 a1 →
∀ h5 : zH, h5 = zw h4 101 57 0 →
Q x2_3 h5))
theorem W_M_begin (a1 : Int) (h : zH) (Q : Int → zH → Prop) (hP : P_M_begin a1 h Q) : zC true zy_X3_begin 2 [zR 101, zI a1] h (zQ0 Q) := by
  unfold P_M_begin at hP
  refine zC.of (by decide) (Nat.le_of_ble_eq_true rfl) ?_
  show zV true zy_X3_begin 2 0 [zR 101, zI a1, zU] [] h (zQ0 Q)
  refine zV_iload_n dX3_begin_0 rfl ?_
  refine zV_iconst dX3_begin_1 ⟨by decide, by decide⟩ ?_
  refine zV_bipush dX3_begin_2 ⟨by decide, by decide, by decide⟩ ?_
  refine zV_cSk (As := [zI a1, zI 0, zI 100]) (rest := []) dX3_begin_4 (W_M_in _ _ _ _ _ hP) mi_X3_in ml_X3_238 (by decide) (Nat.le_of_ble_eq_true rfl) rfl rfl rfl (fun r1 h2 hP => ?_)
  refine zV_if_ne (tgt := 18) dX3_begin_7 (by decide) (fun c => ?_) (fun c => ?_)
  · have hP := zif_n hP c
    refine zV_aload_n dX3_begin_18 rfl ?_
    refine zV_gf dX3_begin_19 sa_101 (by decide) fl_X3_436_3 rfl (ki := 30) rfl ?_
    refine zV_top (fun x2_3 e_x2_3 => ?_)
    have hP := hP x2_3 e_x2_3
    refine zV_istore_n (ls' := [zR 101, zI a1, zI x2_3]) dX3_begin_22 rfl (Nat.le_of_ble_eq_true rfl) rfl rfl ?_
    refine zV_aload_n dX3_begin_23 rfl ?_
    refine zV_iload_n dX3_begin_24 rfl ?_
    refine zV_pf dX3_begin_25 sa_101 (by decide) fl_X3_436_3 rfl rfl trivial (ki := 30) rfl (fun h4 e_h4 => ?_)
    have hP := hP h4 e_h4
    refine zV_aload_n dX3_begin_28 rfl ?_
    refine zV_iconst dX3_begin_29 ⟨by decide, by decide⟩ ?_
    refine zV_pf dX3_begin_30 sa_101 (by decide) fl_X3_249_3 rfl rfl z0 (ki := 57) rfl (fun h5 e_h5 => ?_)
    have hP := hP h5 e_h5
    refine zV_iload_n dX3_begin_33 rfl ?_
    exact zV_ireturn dX3_begin_34 rfl rfl rfl ⟨rfl, hP⟩
  · have hP := zif_p hP c
    refine zV_aload_n dX3_begin_10 rfl ?_
    refine zV_sipush dX3_begin_11 ⟨by decide, by decide, by decide⟩ ?_
    refine zV_cVk (As := [zI (-1001)]) (rest := []) dX3_begin_14 sa_101 (W_M_fail _ _ _ hP) mi_X3_fail ml_X3_242 (by decide) (Nat.le_of_ble_eq_true rfl) rfl rfl rfl (fun r6 h7 hP => ?_)
    exact zV_ireturn dX3_begin_17 rfl rfl rfl ⟨rfl, hP⟩
def P_M_forget (a1 : Int) (h : zH) (Q : Int → zH → Prop) : Prop :=
P_M_in a1 0 800 h (fun r1 h2 =>
if r1 = 0 then
(P_M_fail (-1001) h2 (fun r6 h7 =>
Q r6 h7))
else
(∀ x2_3 : Int, x2_3 = (zd h2 101 31) →
∀ h4 : zH, h4 = zw h2 101 31 a1 →
∀ h5 : zH, h5 = zw h4 101 57 0 →
Q x2_3 h5))
theorem W_M_forget (a1 : Int) (h : zH) (Q : Int → zH → Prop) (hP : P_M_forget a1 h Q) : zC true zy_X3_forget 2 [zR 101, zI a1] h (zQ0 Q) := by
  unfold P_M_forget at hP
  refine zC.of (by decide) (Nat.le_of_ble_eq_true rfl) ?_
  show zV true zy_X3_forget 2 0 [zR 101, zI a1, zU] [] h (zQ0 Q)
  refine zV_iload_n dX3_forget_0 rfl ?_
  refine zV_iconst dX3_forget_1 ⟨by decide, by decide⟩ ?_
  refine zV_sipush dX3_forget_2 ⟨by decide, by decide, by decide⟩ ?_
  refine zV_cSk (As := [zI a1, zI 0, zI 800]) (rest := []) dX3_forget_5 (W_M_in _ _ _ _ _ hP) mi_X3_in ml_X3_238 (by decide) (Nat.le_of_ble_eq_true rfl) rfl rfl rfl (fun r1 h2 hP => ?_)
  refine zV_if_ne (tgt := 19) dX3_forget_8 (by decide) (fun c => ?_) (fun c => ?_)
  · have hP := zif_n hP c
    refine zV_aload_n dX3_forget_19 rfl ?_
    refine zV_gf dX3_forget_20 sa_101 (by decide) fl_X3_439_3 rfl (ki := 31) rfl ?_
    refine zV_top (fun x2_3 e_x2_3 => ?_)
    have hP := hP x2_3 e_x2_3
    refine zV_istore_n (ls' := [zR 101, zI a1, zI x2_3]) dX3_forget_23 rfl (Nat.le_of_ble_eq_true rfl) rfl rfl ?_
    refine zV_aload_n dX3_forget_24 rfl ?_
    refine zV_iload_n dX3_forget_25 rfl ?_
    refine zV_pf dX3_forget_26 sa_101 (by decide) fl_X3_439_3 rfl rfl trivial (ki := 31) rfl (fun h4 e_h4 => ?_)
    have hP := hP h4 e_h4
    refine zV_aload_n dX3_forget_29 rfl ?_
    refine zV_iconst dX3_forget_30 ⟨by decide, by decide⟩ ?_
    refine zV_pf dX3_forget_31 sa_101 (by decide) fl_X3_249_3 rfl rfl z0 (ki := 57) rfl (fun h5 e_h5 => ?_)
    have hP := hP h5 e_h5
    refine zV_iload_n dX3_forget_34 rfl ?_
    exact zV_ireturn dX3_forget_35 rfl rfl rfl ⟨rfl, hP⟩
  · have hP := zif_p hP c
    refine zV_aload_n dX3_forget_11 rfl ?_
    refine zV_sipush dX3_forget_12 ⟨by decide, by decide, by decide⟩ ?_
    refine zV_cVk (As := [zI (-1001)]) (rest := []) dX3_forget_15 sa_101 (W_M_fail _ _ _ hP) mi_X3_fail ml_X3_242 (by decide) (Nat.le_of_ble_eq_true rfl) rfl rfl rfl (fun r6 h7 hP => ?_)
    exact zV_ireturn dX3_forget_18 rfl rfl rfl ⟨rfl, hP⟩
def P_M_areSteps (a1 : Int) (h : zH) (Q : Int → zH → Prop) : Prop :=
P_M_in a1 1 5000 h (fun r1 h2 =>
(r1 = 0 ∨ r1 = 1) ∧ Q r1 h2)
theorem W_M_areSteps (a1 : Int) (h : zH) (Q : Int → zH → Prop) (hP : P_M_areSteps a1 h Q) : zC true zy_X3_areSteps 2 [zI a1] h (zQ0 Q) := by
  unfold P_M_areSteps at hP
  refine zC.of (by decide) (Nat.le_of_ble_eq_true rfl) ?_
  show zV true zy_X3_areSteps 2 0 [zI a1] [] h (zQ0 Q)
  refine zV_iload_n dX3_areSteps_0 rfl ?_
  refine zV_iconst dX3_areSteps_1 ⟨by decide, by decide⟩ ?_
  refine zV_sipush dX3_areSteps_2 ⟨by decide, by decide, by decide⟩ ?_
  refine zV_cSk (As := [zI a1, zI 1, zI 5000]) (rest := []) dX3_areSteps_5 (W_M_in _ _ _ _ _ hP) mi_X3_in ml_X3_238 (by decide) (Nat.le_of_ble_eq_true rfl) rfl rfl rfl (fun r1 h2 hP => ?_)
  exact zV_ireturn dX3_areSteps_8 rfl rfl (z01 hP.1) ⟨rfl, hP.2⟩
def P_M_prepare_L22 (y1 : Int) (Q : Int → zH → Prop) (k48 : zH → Prop) : Nat → Int → zH → Prop
| 0, _, _ => False
| n22 + 1, y2, h =>
if 500 ≤ y2 then
(k48 h)
else
((0 ≤ w32 ((w32 (500 * y1)) + y2) ∧ w32 ((w32 (500 * y1)) + y2) < 1000) ∧
∀ h3 : zH, h3 = zw h 139 (w32 ((w32 (500 * y1)) + y2)) (zbit 1) →
∀ x2_4 : Int, x2_4 = w32 (y2 + 1) →
P_M_prepare_L22 y1 Q k48 n22 x2_4 h3)
theorem W_M_prepare_L22 (y1 : Int) (Q : Int → zH → Prop) (k48 : zH → Prop) (H48 : ∀ (h' : zH), k48 h' → zV true zy_X3_prepare 1 48 [zR 101, zI y1, zU] [] h' (zQ0 Q)) : ∀ (n22 : Nat) (y2 : Int) (h : zH), P_M_prepare_L22 y1 Q k48 n22 y2 h → zV true zy_X3_prepare 1 22 [zR 101, zI y1, zI y2] [] h (zQ0 Q) := by
  intro n22
  induction n22 with
  | zero => intro y2 h hP; exact absurd hP id
  | succ n22 ih =>
    intro y2 h hP
    unfold P_M_prepare_L22 at hP
    refine zV_iload_n dX3_prepare_22 rfl ?_
    refine zV_sipush dX3_prepare_23 ⟨by decide, by decide, by decide⟩ ?_
    refine zV_icmp_ge (tgt := 48) dX3_prepare_26 (by decide) (fun c => ?_) (fun c => ?_)
    · have hP := zif_p hP c
      refine zV_mask [true, true, false] (ls' := [zR 101, zI y1, zU]) rfl ?_
      exact H48 _ hP
    · have hP := zif_n hP c
      refine zV_aload_n dX3_prepare_29 rfl ?_
      refine zV_sg dX3_prepare_30 fm_101_63 sa_101 (by decide) fl_X3_122_3 rfl ?_
      refine zV_sipush dX3_prepare_33 ⟨by decide, by decide, by decide⟩ ?_
      refine zV_iload_n dX3_prepare_36 rfl ?_
      refine zV_imul dX3_prepare_37 ?_
      refine zV_iload_n dX3_prepare_38 rfl ?_
      refine zV_iadd dX3_prepare_39 ?_
      refine zV_iconst dX3_prepare_40 ⟨by decide, by decide⟩ ?_
      obtain ⟨ob, hP⟩ := hP
      refine zV_zas dX3_prepare_41 sa_139 ob (fun h3 e_h3 => ?_)
      have hP := hP h3 e_h3
      refine zV_inc (ls' := fun z => [zR 101, zI y1, zI z]) dX3_prepare_42 (Nat.le_of_ble_eq_true rfl) rfl rfl (fun _ => rfl) (fun x2_4 e_x2_4 => ?_)
      have hP := hP x2_4 e_x2_4
      refine zV_goto (tgt := 22) dX3_prepare_45 (by decide) ?_
      exact ih _ _ hP
def P_M_prepare_L72 (y1 : Int) (Q : Int → zH → Prop) (k130 : zH → Prop) : Nat → Int → zH → Prop
| 0, _, _ => False
| n72 + 1, y2, h =>
if 300 < y2 then
(k130 h)
else
((0 ≤ w32 ((w32 (301 * y1)) + y2) ∧ w32 ((w32 (301 * y1)) + y2) < 602) ∧
∀ h7 : zH, h7 = zw h 143 (w32 ((w32 (301 * y1)) + y2)) 2 →
(0 ≤ w32 ((w32 (301 * y1)) + y2) ∧ w32 ((w32 (301 * y1)) + y2) < 602) ∧
∀ h8 : zH, h8 = zw h7 146 (w32 ((w32 (301 * y1)) + y2)) 0 →
(0 ≤ y2 ∧ y2 < 301) ∧
(0 ≤ w32 ((w32 (301 * y1)) + y2) ∧ w32 ((w32 (301 * y1)) + y2) < 602) ∧
∀ h9 : zH, h9 = zw h8 147 (w32 ((w32 (301 * y1)) + y2)) (zd h8 102 y2) →
∀ x2_10 : Int, x2_10 = w32 (y2 + 1) →
P_M_prepare_L72 y1 Q k130 n72 x2_10 h9)
theorem W_M_prepare_L72 (y1 : Int) (Q : Int → zH → Prop) (k130 : zH → Prop) (H130 : ∀ (h' : zH), k130 h' → zV true zy_X3_prepare 1 130 [zR 101, zI y1, zU] [] h' (zQ0 Q)) : ∀ (n72 : Nat) (y2 : Int) (h : zH), P_M_prepare_L72 y1 Q k130 n72 y2 h → zV true zy_X3_prepare 1 72 [zR 101, zI y1, zI y2] [] h (zQ0 Q) := by
  intro n72
  induction n72 with
  | zero => intro y2 h hP; exact absurd hP id
  | succ n72 ih =>
    intro y2 h hP
    unfold P_M_prepare_L72 at hP
    refine zV_iload_n dX3_prepare_72 rfl ?_
    refine zV_sipush dX3_prepare_73 ⟨by decide, by decide, by decide⟩ ?_
    refine zV_icmp_gt (tgt := 130) dX3_prepare_76 (by decide) (fun c => ?_) (fun c => ?_)
    · have hP := zif_p hP c
      refine zV_mask [true, true, false] (ls' := [zR 101, zI y1, zU]) rfl ?_
      exact H130 _ hP
    · have hP := zif_n hP c
      refine zV_aload_n dX3_prepare_79 rfl ?_
      refine zV_sg dX3_prepare_80 fm_101_69 sa_101 (by decide) fl_X3_134_3 rfl ?_
      refine zV_sipush dX3_prepare_83 ⟨by decide, by decide, by decide⟩ ?_
      refine zV_iload_n dX3_prepare_86 rfl ?_
      refine zV_imul dX3_prepare_87 ?_
      refine zV_iload_n dX3_prepare_88 rfl ?_
      refine zV_iadd dX3_prepare_89 ?_
      refine zV_iconst dX3_prepare_90 ⟨by decide, by decide⟩ ?_
      obtain ⟨ob, hP⟩ := hP
      refine zV_ias dX3_prepare_91 sa_143 ob (fun h7 e_h7 => ?_)
      have hP := hP h7 e_h7
      refine zV_aload_n dX3_prepare_92 rfl ?_
      refine zV_sg dX3_prepare_93 fm_101_72 sa_101 (by decide) fl_X3_143_3 rfl ?_
      refine zV_sipush dX3_prepare_96 ⟨by decide, by decide, by decide⟩ ?_
      refine zV_iload_n dX3_prepare_99 rfl ?_
      refine zV_imul dX3_prepare_100 ?_
      refine zV_iload_n dX3_prepare_101 rfl ?_
      refine zV_iadd dX3_prepare_102 ?_
      refine zV_iconst dX3_prepare_103 ⟨by decide, by decide⟩ ?_
      obtain ⟨ob, hP⟩ := hP
      refine zV_ias dX3_prepare_104 sa_146 ob (fun h8 e_h8 => ?_)
      have hP := hP h8 e_h8
      refine zV_aload_n dX3_prepare_105 rfl ?_
      refine zV_sg dX3_prepare_106 fm_101_73 sa_101 (by decide) fl_X3_146_3 rfl ?_
      refine zV_sipush dX3_prepare_109 ⟨by decide, by decide, by decide⟩ ?_
      refine zV_iload_n dX3_prepare_112 rfl ?_
      refine zV_imul dX3_prepare_113 ?_
      refine zV_iload_n dX3_prepare_114 rfl ?_
      refine zV_iadd dX3_prepare_115 ?_
      refine zV_aload_n dX3_prepare_116 rfl ?_
      refine zV_sg dX3_prepare_117 fm_101_2 sa_101 (by decide) fl_X3_7_3 rfl ?_
      refine zV_iload_n dX3_prepare_120 rfl ?_
      obtain ⟨ob, hP⟩ := hP
      refine zV_ia dX3_prepare_121 sa_102 ob ?_
      refine zV_i2l dX3_prepare_122 ?_
      obtain ⟨ob, hP⟩ := hP
      refine zV_las dX3_prepare_123 sa_147 ob (fun h9 e_h9 => ?_)
      have hP := hP h9 e_h9
      refine zV_inc (ls' := fun z => [zR 101, zI y1, zI z]) dX3_prepare_124 (Nat.le_of_ble_eq_true rfl) rfl rfl (fun _ => rfl) (fun x2_10 e_x2_10 => ?_)
      have hP := hP x2_10 e_x2_10
      refine zV_goto (tgt := 72) dX3_prepare_127 (by decide) ?_
      exact ih _ _ hP
def P_M_prepare_L194 (y1 : Int) (Q : Int → zH → Prop) : Nat → Int → zH → Prop
| 0, _, _ => False
| n194 + 1, y2, h =>
if 10 ≤ y2 then
(Q 0 h)
else
((0 ≤ w32 ((w32 (10 * y1)) + y2) ∧ w32 ((w32 (10 * y1)) + y2) < 20) ∧
∀ h20 : zH, h20 = zw h 163 (w32 ((w32 (10 * y1)) + y2)) 0 →
∀ x2_21 : Int, x2_21 = w32 (y2 + 1) →
P_M_prepare_L194 y1 Q n194 x2_21 h20)
theorem W_M_prepare_L194 (y1 : Int) (Q : Int → zH → Prop) : ∀ (n194 : Nat) (y2 : Int) (h : zH), P_M_prepare_L194 y1 Q n194 y2 h → zV true zy_X3_prepare 1 194 [zR 101, zI y1, zI y2] [] h (zQ0 Q) := by
  intro n194
  induction n194 with
  | zero => intro y2 h hP; exact absurd hP id
  | succ n194 ih =>
    intro y2 h hP
    unfold P_M_prepare_L194 at hP
    refine zV_iload_n dX3_prepare_194 rfl ?_
    refine zV_bipush dX3_prepare_195 ⟨by decide, by decide, by decide⟩ ?_
    refine zV_icmp_ge (tgt := 218) dX3_prepare_197 (by decide) (fun c => ?_) (fun c => ?_)
    · have hP := zif_p hP c
      exact zV_return dX3_prepare_218 rfl ⟨rfl, hP⟩
    · have hP := zif_n hP c
      refine zV_aload_n dX3_prepare_200 rfl ?_
      refine zV_sg dX3_prepare_201 fm_101_90 sa_101 (by decide) fl_X3_195_3 rfl ?_
      refine zV_bipush dX3_prepare_204 ⟨by decide, by decide, by decide⟩ ?_
      refine zV_iload_n dX3_prepare_206 rfl ?_
      refine zV_imul dX3_prepare_207 ?_
      refine zV_iload_n dX3_prepare_208 rfl ?_
      refine zV_iadd dX3_prepare_209 ?_
      refine zV_iconst dX3_prepare_210 ⟨by decide, by decide⟩ ?_
      obtain ⟨ob, hP⟩ := hP
      refine zV_ias dX3_prepare_211 sa_163 ob (fun h20 e_h20 => ?_)
      have hP := hP h20 e_h20
      refine zV_inc (ls' := fun z => [zR 101, zI y1, zI z]) dX3_prepare_212 (Nat.le_of_ble_eq_true rfl) rfl rfl (fun _ => rfl) (fun x2_21 e_x2_21 => ?_)
      have hP := hP x2_21 e_x2_21
      refine zV_goto (tgt := 194) dX3_prepare_215 (by decide) ?_
      exact ih _ _ hP
def P_M_prepare_J70 (y1 : Int) (h : zH) (Q : Int → zH → Prop) : Prop :=
∃ n72, P_M_prepare_L72 y1 Q (fun h11 =>
(0 ≤ y1 ∧ y1 < 2) ∧
∀ h12 : zH, h12 = zw h11 148 y1 64 →
(0 ≤ y1 ∧ y1 < 2) ∧
∀ h13 : zH, h13 = zw h12 150 y1 0 →
(0 ≤ y1 ∧ y1 < 2) ∧
∀ h14 : zH, h14 = zw h13 151 y1 0 →
(0 ≤ w32 (801 * y1) ∧ w32 (801 * y1) < 1602) ∧
∀ h15 : zH, h15 = zw h14 152 (w32 (801 * y1)) 0 →
(0 ≤ y1 ∧ y1 < 2) ∧
∀ h16 : zH, h16 = zw h15 154 y1 0 →
(0 ≤ y1 ∧ y1 < 2) ∧
∀ h17 : zH, h17 = zw h16 155 y1 0 →
(0 ≤ y1 ∧ y1 < 2) ∧
∀ h18 : zH, h18 = zw h17 161 y1 0 →
(0 ≤ y1 ∧ y1 < 2) ∧
∀ h19 : zH, h19 = zw h18 162 y1 1 →
∃ n194, P_M_prepare_L194 y1 Q n194 0 h19) n72 0 h
theorem W_M_prepare_J70 (y1 : Int) (h : zH) (Q : Int → zH → Prop) (hP : P_M_prepare_J70 y1 h Q) : zV true zy_X3_prepare 1 70 [zR 101, zI y1, zU] [] h (zQ0 Q) := by
  unfold P_M_prepare_J70 at hP
  refine zV_iconst dX3_prepare_70 ⟨by decide, by decide⟩ ?_
  refine zV_istore_n (ls' := [zR 101, zI y1, zI 0]) dX3_prepare_71 rfl (Nat.le_of_ble_eq_true rfl) rfl rfl ?_
  obtain ⟨n72, hP⟩ := hP
  refine W_M_prepare_L72 _ _ _ (fun h11 hP => ?_) n72 _ _ hP
  refine zV_aload_n dX3_prepare_130 rfl ?_
  refine zV_sg dX3_prepare_131 fm_101_74 sa_101 (by decide) fl_X3_150_3 rfl ?_
  refine zV_iload_n dX3_prepare_134 rfl ?_
  refine zV_ldc2c (x := 64) dX3_prepare_135 (by decide) q2506 ⟨by decide, by decide⟩ ?_
  obtain ⟨ob, hP⟩ := hP
  refine zV_las dX3_prepare_138 sa_148 ob (fun h12 e_h12 => ?_)
  have hP := hP h12 e_h12
  refine zV_aload_n dX3_prepare_139 rfl ?_
  refine zV_sg dX3_prepare_140 fm_101_76 sa_101 (by decide) fl_X3_156_3 rfl ?_
  refine zV_iload_n dX3_prepare_143 rfl ?_
  refine zV_iconst dX3_prepare_144 ⟨by decide, by decide⟩ ?_
  obtain ⟨ob, hP⟩ := hP
  refine zV_ias dX3_prepare_145 sa_150 ob (fun h13 e_h13 => ?_)
  have hP := hP h13 e_h13
  refine zV_aload_n dX3_prepare_146 rfl ?_
  refine zV_sg dX3_prepare_147 fm_101_77 sa_101 (by decide) fl_X3_159_3 rfl ?_
  refine zV_iload_n dX3_prepare_150 rfl ?_
  refine zV_iconst dX3_prepare_151 ⟨by decide, by decide⟩ ?_
  obtain ⟨ob, hP⟩ := hP
  refine zV_ias dX3_prepare_152 sa_151 ob (fun h14 e_h14 => ?_)
  have hP := hP h14 e_h14
  refine zV_aload_n dX3_prepare_153 rfl ?_
  refine zV_sg dX3_prepare_154 fm_101_78 sa_101 (by decide) fl_X3_162_3 rfl ?_
  refine zV_sipush dX3_prepare_157 ⟨by decide, by decide, by decide⟩ ?_
  refine zV_iload_n dX3_prepare_160 rfl ?_
  refine zV_imul dX3_prepare_161 ?_
  refine zV_iconst dX3_prepare_162 ⟨by decide, by decide⟩ ?_
  obtain ⟨ob, hP⟩ := hP
  refine zV_ias dX3_prepare_163 sa_152 ob (fun h15 e_h15 => ?_)
  have hP := hP h15 e_h15
  refine zV_aload_n dX3_prepare_164 rfl ?_
  refine zV_sg dX3_prepare_165 fm_101_80 sa_101 (by decide) fl_X3_168_3 rfl ?_
  refine zV_iload_n dX3_prepare_168 rfl ?_
  refine zV_iconst dX3_prepare_169 ⟨by decide, by decide⟩ ?_
  obtain ⟨ob, hP⟩ := hP
  refine zV_ias dX3_prepare_170 sa_154 ob (fun h16 e_h16 => ?_)
  have hP := hP h16 e_h16
  refine zV_aload_n dX3_prepare_171 rfl ?_
  refine zV_sg dX3_prepare_172 fm_101_81 sa_101 (by decide) fl_X3_171_3 rfl ?_
  refine zV_iload_n dX3_prepare_175 rfl ?_
  refine zV_iconst dX3_prepare_176 ⟨by decide, by decide⟩ ?_
  obtain ⟨ob, hP⟩ := hP
  refine zV_ias dX3_prepare_177 sa_155 ob (fun h17 e_h17 => ?_)
  have hP := hP h17 e_h17
  refine zV_aload_n dX3_prepare_178 rfl ?_
  refine zV_sg dX3_prepare_179 fm_101_87 sa_101 (by decide) fl_X3_189_3 rfl ?_
  refine zV_iload_n dX3_prepare_182 rfl ?_
  refine zV_iconst dX3_prepare_183 ⟨by decide, by decide⟩ ?_
  obtain ⟨ob, hP⟩ := hP
  refine zV_ias dX3_prepare_184 sa_161 ob (fun h18 e_h18 => ?_)
  have hP := hP h18 e_h18
  refine zV_aload_n dX3_prepare_185 rfl ?_
  refine zV_sg dX3_prepare_186 fm_101_88 sa_101 (by decide) fl_X3_192_3 rfl ?_
  refine zV_iload_n dX3_prepare_189 rfl ?_
  refine zV_iconst dX3_prepare_190 ⟨by decide, by decide⟩ ?_
  obtain ⟨ob, hP⟩ := hP
  refine zV_ias dX3_prepare_191 sa_162 ob (fun h19 e_h19 => ?_)
  have hP := hP h19 e_h19
  refine zV_iconst dX3_prepare_192 ⟨by decide, by decide⟩ ?_
  refine zV_istore_n (ls' := [zR 101, zI y1, zI 0]) dX3_prepare_193 rfl (Nat.le_of_ble_eq_true rfl) rfl rfl ?_
  obtain ⟨n194, hP⟩ := hP
  refine W_M_prepare_L194 _ _ n194 _ _ hP
def P_M_prepare (a1 : Int) (h : zH) (Q : Int → zH → Prop) : Prop :=
(0 ≤ a1 ∧ a1 < 2) ∧
∀ h1 : zH, h1 = zw h 137 a1 (zd h 101 1) →
(0 ≤ a1 ∧ a1 < 2) ∧
∀ h2 : zH, h2 = zw h1 138 a1 (zd h1 101 23) →
∃ n22, P_M_prepare_L22 a1 Q (fun h5 =>
(0 ≤ a1 ∧ a1 < 2) ∧
∀ h6 : zH, h6 = zw h5 141 a1 0 →
if a1 = 1 then
(∀ h22 : zH, h22 = zw h6 101 66 0 →
∀ h23 : zH, h23 = zw h22 101 67 0 →
P_M_prepare_J70 a1 h23 Q)
else
(P_M_prepare_J70 a1 h6 Q)) n22 0 h2
theorem W_M_prepare (a1 : Int) (h : zH) (Q : Int → zH → Prop) (hP : P_M_prepare a1 h Q) : zC true zy_X3_prepare 1 [zR 101, zI a1] h (zQ0 Q) := by
  unfold P_M_prepare at hP
  refine zC.of (by decide) (Nat.le_of_ble_eq_true rfl) ?_
  show zV true zy_X3_prepare 1 0 [zR 101, zI a1, zU] [] h (zQ0 Q)
  refine zV_aload_n dX3_prepare_0 rfl ?_
  refine zV_sg dX3_prepare_1 fm_101_61 sa_101 (by decide) fl_X3_116_3 rfl ?_
  refine zV_iload_n dX3_prepare_4 rfl ?_
  refine zV_aload_n dX3_prepare_5 rfl ?_
  refine zV_gf dX3_prepare_6 sa_101 (by decide) fl_X3_246_3 rfl (ki := 1) rfl ?_
  obtain ⟨ob, hP⟩ := hP
  refine zV_ias dX3_prepare_9 sa_137 ob (fun h1 e_h1 => ?_)
  have hP := hP h1 e_h1
  refine zV_aload_n dX3_prepare_10 rfl ?_
  refine zV_sg dX3_prepare_11 fm_101_62 sa_101 (by decide) fl_X3_119_3 rfl ?_
  refine zV_iload_n dX3_prepare_14 rfl ?_
  refine zV_aload_n dX3_prepare_15 rfl ?_
  refine zV_gf dX3_prepare_16 sa_101 (by decide) fl_X3_273_3 rfl (ki := 23) rfl ?_
  obtain ⟨ob, hP⟩ := hP
  refine zV_ias dX3_prepare_19 sa_138 ob (fun h2 e_h2 => ?_)
  have hP := hP h2 e_h2
  refine zV_iconst dX3_prepare_20 ⟨by decide, by decide⟩ ?_
  refine zV_istore_n (ls' := [zR 101, zI a1, zI 0]) dX3_prepare_21 rfl (Nat.le_of_ble_eq_true rfl) rfl rfl ?_
  obtain ⟨n22, hP⟩ := hP
  refine W_M_prepare_L22 _ _ _ (fun h5 hP => ?_) n22 _ _ hP
  refine zV_aload_n dX3_prepare_48 rfl ?_
  refine zV_sg dX3_prepare_49 fm_101_65 sa_101 (by decide) fl_X3_128_3 rfl ?_
  refine zV_iload_n dX3_prepare_52 rfl ?_
  refine zV_iconst dX3_prepare_53 ⟨by decide, by decide⟩ ?_
  obtain ⟨ob, hP⟩ := hP
  refine zV_ias dX3_prepare_54 sa_141 ob (fun h6 e_h6 => ?_)
  have hP := hP h6 e_h6
  refine zV_iload_n dX3_prepare_55 rfl ?_
  refine zV_iconst dX3_prepare_56 ⟨by decide, by decide⟩ ?_
  refine zV_icmp_ne (tgt := 70) dX3_prepare_57 (by decide) (fun c => ?_) (fun c => ?_)
  · have hP := zif_n hP c
    exact W_M_prepare_J70 _ _ _ hP
  · have hP := zif_p hP c
    refine zV_aload_n dX3_prepare_60 rfl ?_
    refine zV_iconst dX3_prepare_61 ⟨by decide, by decide⟩ ?_
    refine zV_pf dX3_prepare_62 sa_101 (by decide) fl_X3_442_3 rfl rfl trivial (ki := 66) rfl (fun h22 e_h22 => ?_)
    have hP := hP h22 e_h22
    refine zV_aload_n dX3_prepare_65 rfl ?_
    refine zV_iconst dX3_prepare_66 ⟨by decide, by decide⟩ ?_
    refine zV_pf dX3_prepare_67 sa_101 (by decide) fl_X3_467_3 rfl rfl trivial (ki := 67) rfl (fun h23 e_h23 => ?_)
    have hP := hP h23 e_h23
    exact W_M_prepare_J70 _ _ _ hP
def P_M_askAll_L2 (y1 : Int) (Q : Int → zH → Prop) : Nat → Int → zH → Prop
| 0, _, _ => False
| n2 + 1, y2, h =>
if zd h 101 29 ≤ y2 then
((0 ≤ y1 ∧ y1 < 2) ∧
∀ h1 : zH, h1 = zw h 141 y1 (zd h 101 29) →
Q 0 h1)
else
((0 ≤ y2 ∧ y2 < 20) ∧
(0 ≤ w32 ((w32 (20 * y1)) + y2) ∧ w32 ((w32 (20 * y1)) + y2) < 40) ∧
∀ h2 : zH, h2 = zw h 140 (w32 ((w32 (20 * y1)) + y2)) (zd h 122 y2) →
∀ x2_3 : Int, x2_3 = w32 (y2 + 1) →
P_M_askAll_L2 y1 Q n2 x2_3 h2)
theorem W_M_askAll_L2 (y1 : Int) (Q : Int → zH → Prop) : ∀ (n2 : Nat) (y2 : Int) (h : zH), P_M_askAll_L2 y1 Q n2 y2 h → zV true zy_X3_askAll 1 2 [zR 101, zI y1, zI y2] [] h (zQ0 Q) := by
  intro n2
  induction n2 with
  | zero => intro y2 h hP; exact absurd hP id
  | succ n2 ih =>
    intro y2 h hP
    unfold P_M_askAll_L2 at hP
    refine zV_iload_n dX3_askAll_2 rfl ?_
    refine zV_aload_n dX3_askAll_3 rfl ?_
    refine zV_gf dX3_askAll_4 sa_101 (by decide) fl_X3_427_3 rfl (ki := 29) rfl ?_
    refine zV_icmp_ge (tgt := 33) dX3_askAll_7 (by decide) (fun c => ?_) (fun c => ?_)
    · have hP := zif_p hP c
      refine zV_aload_n dX3_askAll_33 rfl ?_
      refine zV_sg dX3_askAll_34 fm_101_65 sa_101 (by decide) fl_X3_128_3 rfl ?_
      refine zV_iload_n dX3_askAll_37 rfl ?_
      refine zV_aload_n dX3_askAll_38 rfl ?_
      refine zV_gf dX3_askAll_39 sa_101 (by decide) fl_X3_427_3 rfl (ki := 29) rfl ?_
      obtain ⟨ob, hP⟩ := hP
      refine zV_ias dX3_askAll_42 sa_141 ob (fun h1 e_h1 => ?_)
      have hP := hP h1 e_h1
      exact zV_return dX3_askAll_43 rfl ⟨rfl, hP⟩
    · have hP := zif_n hP c
      refine zV_aload_n dX3_askAll_10 rfl ?_
      refine zV_sg dX3_askAll_11 fm_101_64 sa_101 (by decide) fl_X3_125_3 rfl ?_
      refine zV_bipush dX3_askAll_14 ⟨by decide, by decide, by decide⟩ ?_
      refine zV_iload_n dX3_askAll_16 rfl ?_
      refine zV_imul dX3_askAll_17 ?_
      refine zV_iload_n dX3_askAll_18 rfl ?_
      refine zV_iadd dX3_askAll_19 ?_
      refine zV_aload_n dX3_askAll_20 rfl ?_
      refine zV_sg dX3_askAll_21 fm_101_28 sa_101 (by decide) fl_X3_71_3 rfl ?_
      refine zV_iload_n dX3_askAll_24 rfl ?_
      obtain ⟨ob, hP⟩ := hP
      refine zV_ia dX3_askAll_25 sa_122 ob ?_
      obtain ⟨ob, hP⟩ := hP
      refine zV_ias dX3_askAll_26 sa_140 ob (fun h2 e_h2 => ?_)
      have hP := hP h2 e_h2
      refine zV_inc (ls' := fun z => [zR 101, zI y1, zI z]) dX3_askAll_27 (Nat.le_of_ble_eq_true rfl) rfl rfl (fun _ => rfl) (fun x2_3 e_x2_3 => ?_)
      have hP := hP x2_3 e_x2_3
      refine zV_goto (tgt := 2) dX3_askAll_30 (by decide) ?_
      exact ih _ _ hP
def P_M_askAll (a1 : Int) (h : zH) (Q : Int → zH → Prop) : Prop :=
∃ n2, P_M_askAll_L2 a1 Q n2 0 h
theorem W_M_askAll (a1 : Int) (h : zH) (Q : Int → zH → Prop) (hP : P_M_askAll a1 h Q) : zC true zy_X3_askAll 1 [zR 101, zI a1] h (zQ0 Q) := by
  unfold P_M_askAll at hP
  refine zC.of (by decide) (Nat.le_of_ble_eq_true rfl) ?_
  show zV true zy_X3_askAll 1 0 [zR 101, zI a1, zU] [] h (zQ0 Q)
  refine zV_iconst dX3_askAll_0 ⟨by decide, by decide⟩ ?_
  refine zV_istore_n (ls' := [zR 101, zI a1, zI 0]) dX3_askAll_1 rfl (Nat.le_of_ble_eq_true rfl) rfl rfl ?_
  obtain ⟨n2, hP⟩ := hP
  refine W_M_askAll_L2 _ _ n2 _ _ hP
def P_M_stateOf (a1 : Int) (a2 : Int) (h : zH) (Q : Int → zH → Prop) : Prop :=
P_M_nameOf a2 h (fun r1 h2 =>
(0 ≤ w32 ((w32 (301 * a1)) + r1) ∧ w32 ((w32 (301 * a1)) + r1) < 602) ∧
∀ x3_3 : Int, x3_3 = (zd h2 143 (w32 ((w32 (301 * a1)) + r1))) →
Q (if x3_3 = 2 then 2 else if a2 ≤ 0 then w32 (1 - x3_3) else x3_3) h2)
theorem W_M_stateOf (a1 : Int) (a2 : Int) (h : zH) (Q : Int → zH → Prop) (hP : P_M_stateOf a1 a2 h Q) : zC true zy_X3_stateOf 2 [zR 101, zI a1, zI a2] h (zQ0 Q) := by
  unfold P_M_stateOf at hP
  refine zC.of (by decide) (Nat.le_of_ble_eq_true rfl) ?_
  show zV true zy_X3_stateOf 2 0 [zR 101, zI a1, zI a2, zU] [] h (zQ0 Q)
  refine zV_aload_n dX3_stateOf_0 rfl ?_
  refine zV_sg dX3_stateOf_1 fm_101_69 sa_101 (by decide) fl_X3_134_3 rfl ?_
  refine zV_sipush dX3_stateOf_4 ⟨by decide, by decide, by decide⟩ ?_
  refine zV_iload_n dX3_stateOf_7 rfl ?_
  refine zV_imul dX3_stateOf_8 ?_
  refine zV_iload_n dX3_stateOf_9 rfl ?_
  refine zV_cSk (As := [zI a2]) (rest := [zI (w32 (301 * a1)), zR 143]) dX3_stateOf_10 (W_M_nameOf _ _ _ hP) mi_X3_nameOf ml_X3_289 (by decide) (Nat.le_of_ble_eq_true rfl) rfl rfl rfl (fun r1 h2 hP => ?_)
  refine zV_iadd dX3_stateOf_13 ?_
  obtain ⟨ob, hP⟩ := hP
  refine zV_ia dX3_stateOf_14 sa_143 ob ?_
  refine zV_top (fun x3_3 e_x3_3 => ?_)
  have hP := hP x3_3 e_x3_3
  refine zV_istore_n (ls' := [zR 101, zI a1, zI a2, zI x3_3]) dX3_stateOf_15 rfl (Nat.le_of_ble_eq_true rfl) rfl rfl ?_
  refine zV_iload_n dX3_stateOf_16 rfl ?_
  refine zV_iconst dX3_stateOf_17 ⟨by decide, by decide⟩ ?_
  have K : zV true zy_X3_stateOf 2 36 [zU, zU, zU, zU] [zI (if x3_3 = 2 then 2 else if a2 ≤ 0 then w32 (1 - x3_3) else x3_3)] h2 (zQ0 Q) := by
    exact zV_ireturn dX3_stateOf_36 rfl rfl rfl ⟨rfl, hP⟩
  clear hP
  refine zV_icmp_ne (tgt := 25) dX3_stateOf_18 (by decide) (fun c => ?_) (fun c => ?_)
  · try simp only [if_neg c] at K
    refine zV_iload_n dX3_stateOf_25 rfl ?_
    refine zV_if_le (tgt := 33) dX3_stateOf_26 (by decide) (fun c => ?_) (fun c => ?_)
    · try simp only [if_pos c] at K
      refine zV_iconst dX3_stateOf_33 ⟨by decide, by decide⟩ ?_
      refine zV_iload_n dX3_stateOf_34 rfl ?_
      refine zV_isub dX3_stateOf_35 ?_
      refine zV_mask [false, false, false, false] rfl ?_
      exact K
    · try simp only [if_neg c] at K
      refine zV_iload_n dX3_stateOf_29 rfl ?_
      refine zV_goto (tgt := 36) dX3_stateOf_30 (by decide) ?_
      refine zV_mask [false, false, false, false] rfl ?_
      exact K
  · try simp only [if_pos c] at K
    refine zV_iconst dX3_stateOf_21 ⟨by decide, by decide⟩ ?_
    refine zV_goto (tgt := 36) dX3_stateOf_22 (by decide) ?_
    refine zV_mask [false, false, false, false] rfl ?_
    exact K
def P_M_look_J88 (y1 : Int) (y2 : Int) (y3 : Int) (y5 : Int) (s0 : Int) (h : zH) (Q : Int → zH → Prop) (k13 : Int → Int → zH → Prop) : Prop :=
∀ x5_8 : Int, x5_8 = w32 (y5 + 1) →
k13 s0 x5_8 h
theorem W_M_look_J88 (y1 : Int) (y2 : Int) (y3 : Int) (y5 : Int) (s0 : Int) (h : zH) (Q : Int → zH → Prop) (k13 : Int → Int → zH → Prop) (H13 : ∀ (v4 v5 : Int) (h' : zH), k13 v4 v5 h' → zV true zy_X3_look 3 13 [zR 101, zI y1, zI y2, zI y3, zI v4, zI v5, zU, zU] [] h' (zQ0 Q)) (hP : P_M_look_J88 y1 y2 y3 y5 s0 h Q k13) : zV true zy_X3_look 3 88 [zR 101, zI y1, zI y2, zI y3, zU, zI y5, zU, zU] [zI s0] h (zQ0 Q) := by
  unfold P_M_look_J88 at hP
  refine zV_istore (ls' := [zR 101, zI y1, zI y2, zI y3, zI s0, zI y5, zU, zU]) dX3_look_88 (Nat.le_of_ble_eq_true rfl) rfl rfl ?_
  refine zV_inc (ls' := fun z => [zR 101, zI y1, zI y2, zI y3, zI s0, zI z, zU, zU]) dX3_look_90 (Nat.le_of_ble_eq_true rfl) rfl rfl (fun _ => rfl) (fun x5_8 e_x5_8 => ?_)
  have hP := hP x5_8 e_x5_8
  refine zV_goto (tgt := 13) dX3_look_93 (by decide) ?_
  exact H13 _ _ _ hP
def P_M_look_J60 (y1 : Int) (y2 : Int) (y3 : Int) (y4 : Int) (y5 : Int) (y7 : Int) (s0 : Int) (h : zH) (Q : Int → zH → Prop) (k13 : Int → Int → zH → Prop) : Prop :=
∀ h7 : zH, h7 = zw h 101 97 s0 →
P_M_look_J88 y1 y2 y3 y5 (if y7 = 1 then 2 else if y7 = 2 then w32 (y4 + 1) else y4) h7 Q k13
theorem W_M_look_J60 (y1 : Int) (y2 : Int) (y3 : Int) (y4 : Int) (y5 : Int) (y7 : Int) (s0 : Int) (h : zH) (Q : Int → zH → Prop) (k13 : Int → Int → zH → Prop) (H13 : ∀ (v4 v5 : Int) (h' : zH), k13 v4 v5 h' → zV true zy_X3_look 3 13 [zR 101, zI y1, zI y2, zI y3, zI v4, zI v5, zU, zU] [] h' (zQ0 Q)) (hP : P_M_look_J60 y1 y2 y3 y4 y5 y7 s0 h Q k13) : zV true zy_X3_look 3 60 [zR 101, zI y1, zI y2, zI y3, zI y4, zI y5, zU, zI y7] [zI s0, zR 101] h (zQ0 Q) := by
  unfold P_M_look_J60 at hP
  refine zV_pf dX3_look_60 sa_101 (by decide) fl_X3_448_3 rfl rfl trivial (ki := 97) rfl (fun h7 e_h7 => ?_)
  have hP := hP h7 e_h7
  refine zV_iload dX3_look_63 rfl ?_
  refine zV_iconst dX3_look_65 ⟨by decide, by decide⟩ ?_
  have K : zV true zy_X3_look 3 88 [zR 101, zI y1, zI y2, zI y3, zU, zI y5, zU, zU] [zI (if y7 = 1 then 2 else if y7 = 2 then w32 (y4 + 1) else y4)] h7 (zQ0 Q) := by
    exact W_M_look_J88 _ _ _ _ _ _ _ _ H13 hP
  clear hP
  refine zV_icmp_ne (tgt := 73) dX3_look_66 (by decide) (fun c => ?_) (fun c => ?_)
  · try simp only [if_neg c] at K
    refine zV_iload dX3_look_73 rfl ?_
    refine zV_iconst dX3_look_75 ⟨by decide, by decide⟩ ?_
    refine zV_icmp_ne (tgt := 86) dX3_look_76 (by decide) (fun c => ?_) (fun c => ?_)
    · try simp only [if_neg c] at K
      refine zV_iload dX3_look_86 rfl ?_
      refine zV_mask [true, true, true, true, false, true, false, false] rfl ?_
      exact K
    · try simp only [if_pos c] at K
      refine zV_iload dX3_look_79 rfl ?_
      refine zV_iconst dX3_look_81 ⟨by decide, by decide⟩ ?_
      refine zV_iadd dX3_look_82 ?_
      refine zV_goto (tgt := 88) dX3_look_83 (by decide) ?_
      refine zV_mask [true, true, true, true, false, true, false, false] rfl ?_
      exact K
  · try simp only [if_pos c] at K
    refine zV_iconst dX3_look_69 ⟨by decide, by decide⟩ ?_
    refine zV_goto (tgt := 88) dX3_look_70 (by decide) ?_
    refine zV_mask [true, true, true, true, false, true, false, false] rfl ?_
    exact K
def P_M_look_L13 (y1 : Int) (y2 : Int) (y3 : Int) (Q : Int → zH → Prop) : Nat → Int → Int → zH → Prop
| 0, _, _, _ => False
| n13 + 1, y4, y5, h =>
if y3 ≤ y5 then
(Q y4 h)
else
(if 2 ≤ y4 then
(Q y4 h)
else
(P_M_itemOf y1 y2 y5 h (fun r3 h4 =>
P_M_stateOf y1 r3 h4 (fun r5 h6 =>
P_M_look_J60 y1 y2 y3 y4 y5 r5 (if r5 = 2 then r3 else zd h6 101 97) h6 Q (P_M_look_L13 y1 y2 y3 Q n13)))))
theorem W_M_look_L13 (y1 : Int) (y2 : Int) (y3 : Int) (Q : Int → zH → Prop) : ∀ (n13 : Nat) (y4 y5 : Int) (h : zH), P_M_look_L13 y1 y2 y3 Q n13 y4 y5 h → zV true zy_X3_look 3 13 [zR 101, zI y1, zI y2, zI y3, zI y4, zI y5, zU, zU] [] h (zQ0 Q) := by
  intro n13
  induction n13 with
  | zero => intro y4 y5 h hP; exact absurd hP id
  | succ n13 ih =>
    intro y4 y5 h hP
    unfold P_M_look_L13 at hP
    refine zV_iload dX3_look_13 rfl ?_
    refine zV_iload_n dX3_look_15 rfl ?_
    refine zV_icmp_ge (tgt := 96) dX3_look_16 (by decide) (fun c => ?_) (fun c => ?_)
    · have hP := zif_p hP c
      refine zV_iload dX3_look_96 rfl ?_
      exact zV_ireturn dX3_look_98 rfl rfl rfl ⟨rfl, hP⟩
    · have hP := zif_n hP c
      refine zV_iload dX3_look_19 rfl ?_
      refine zV_iconst dX3_look_21 ⟨by decide, by decide⟩ ?_
      refine zV_icmp_ge (tgt := 96) dX3_look_22 (by decide) (fun c => ?_) (fun c => ?_)
      · have hP := zif_p hP c
        refine zV_iload dX3_look_96 rfl ?_
        exact zV_ireturn dX3_look_98 rfl rfl rfl ⟨rfl, hP⟩
      · have hP := zif_n hP c
        refine zV_aload_n dX3_look_25 rfl ?_
        refine zV_iload_n dX3_look_26 rfl ?_
        refine zV_iload_n dX3_look_27 rfl ?_
        refine zV_iload dX3_look_28 rfl ?_
        refine zV_cVk (As := [zI y1, zI y2, zI y5]) (rest := []) dX3_look_30 sa_101 (W_M_itemOf _ _ _ _ _ hP) mi_X3_itemOf ml_X3_381 (by decide) (Nat.le_of_ble_eq_true rfl) rfl rfl rfl (fun r3 h4 hP => ?_)
        refine zV_istore (ls' := [zR 101, zI y1, zI y2, zI y3, zI y4, zI y5, zI r3, zU]) dX3_look_33 (Nat.le_of_ble_eq_true rfl) rfl rfl ?_
        refine zV_aload_n dX3_look_35 rfl ?_
        refine zV_iload_n dX3_look_36 rfl ?_
        refine zV_iload dX3_look_37 rfl ?_
        refine zV_cVk (As := [zI y1, zI r3]) (rest := []) dX3_look_39 sa_101 (W_M_stateOf _ _ _ _ hP) mi_X3_stateOf ml_X3_445 (by decide) (Nat.le_of_ble_eq_true rfl) rfl rfl rfl (fun r5 h6 hP => ?_)
        refine zV_istore (ls' := [zR 101, zI y1, zI y2, zI y3, zI y4, zI y5, zI r3, zI r5]) dX3_look_42 (Nat.le_of_ble_eq_true rfl) rfl rfl ?_
        refine zV_aload_n dX3_look_44 rfl ?_
        refine zV_iload dX3_look_45 rfl ?_
        refine zV_iconst dX3_look_47 ⟨by decide, by decide⟩ ?_
        have K : zV true zy_X3_look 3 60 [zR 101, zI y1, zI y2, zI y3, zI y4, zI y5, zU, zI r5] [zI (if r5 = 2 then r3 else zd h6 101 97), zR 101] h6 (zQ0 Q) := by
          exact W_M_look_J60 _ _ _ _ _ _ _ _ _ _ ih hP
        clear hP
        refine zV_icmp_ne (tgt := 56) dX3_look_48 (by decide) (fun c => ?_) (fun c => ?_)
        · try simp only [if_neg c] at K
          refine zV_aload_n dX3_look_56 rfl ?_
          refine zV_gf dX3_look_57 sa_101 (by decide) fl_X3_448_3 rfl (ki := 97) rfl ?_
          refine zV_mask [true, true, true, true, true, true, false, true] rfl ?_
          exact K
        · try simp only [if_pos c] at K
          refine zV_iload dX3_look_51 rfl ?_
          refine zV_goto (tgt := 60) dX3_look_53 (by decide) ?_
          refine zV_mask [true, true, true, true, true, true, false, true] rfl ?_
          exact K
def P_M_look (a1 : Int) (a2 : Int) (h : zH) (Q : Int → zH → Prop) : Prop :=
P_M_sizeOf a1 a2 h (fun r1 h2 =>
∃ n13, P_M_look_L13 a1 a2 r1 Q n13 0 0 h2)
theorem W_M_look (a1 : Int) (a2 : Int) (h : zH) (Q : Int → zH → Prop) (hP : P_M_look a1 a2 h Q) : zC true zy_X3_look 3 [zR 101, zI a1, zI a2] h (zQ0 Q) := by
  unfold P_M_look at hP
  refine zC.of (by decide) (Nat.le_of_ble_eq_true rfl) ?_
  show zV true zy_X3_look 3 0 [zR 101, zI a1, zI a2, zU, zU, zU, zU, zU] [] h (zQ0 Q)
  refine zV_aload_n dX3_look_0 rfl ?_
  refine zV_iload_n dX3_look_1 rfl ?_
  refine zV_iload_n dX3_look_2 rfl ?_
  refine zV_cVk (As := [zI a1, zI a2]) (rest := []) dX3_look_3 sa_101 (W_M_sizeOf _ _ _ _ hP) mi_X3_sizeOf ml_X3_377 (by decide) (Nat.le_of_ble_eq_true rfl) rfl rfl rfl (fun r1 h2 hP => ?_)
  refine zV_istore_n (ls' := [zR 101, zI a1, zI a2, zI r1, zU, zU, zU, zU]) dX3_look_6 rfl (Nat.le_of_ble_eq_true rfl) rfl rfl ?_
  refine zV_iconst dX3_look_7 ⟨by decide, by decide⟩ ?_
  refine zV_istore (ls' := [zR 101, zI a1, zI a2, zI r1, zI 0, zU, zU, zU]) dX3_look_8 (Nat.le_of_ble_eq_true rfl) rfl rfl ?_
  refine zV_iconst dX3_look_10 ⟨by decide, by decide⟩ ?_
  refine zV_istore (ls' := [zR 101, zI a1, zI a2, zI r1, zI 0, zI 0, zU, zU]) dX3_look_11 (Nat.le_of_ble_eq_true rfl) rfl rfl ?_
  obtain ⟨n13, hP⟩ := hP
  refine W_M_look_L13 _ _ _ _ n13 _ _ _ hP
def P_M_goOver_J44 (y3 : Int) (s0 : Int) (h : zH) (Q : Int → zH → Prop) : Prop :=
∀ h3 : zH, h3 = zw h 101 98 s0 →
Q (if y3 = 0 then 0 else 1) h3
theorem W_M_goOver_J44 (y3 : Int) (s0 : Int) (h : zH) (Q : Int → zH → Prop) (hP : P_M_goOver_J44 y3 s0 h Q) : zV true zy_X3_goOver 4 44 [zU, zU, zU, zI y3] [zI s0, zR 101] h (zQ0 Q) := by
  unfold P_M_goOver_J44 at hP
  refine zV_pf dX3_goOver_44 sa_101 (by decide) fl_X3_460_3 rfl rfl trivial (ki := 98) rfl (fun h3 e_h3 => ?_)
  have hP := hP h3 e_h3
  refine zV_iload_n dX3_goOver_47 rfl ?_
  have K : zV true zy_X3_goOver 4 56 [zU, zU, zU, zU] [zI (if y3 = 0 then 0 else 1)] h3 (zQ0 Q) := by
    exact zV_ireturn dX3_goOver_56 rfl rfl (z01 (z01_if z0 z1)) ⟨rfl, hP⟩
  clear hP
  refine zV_if_eq (tgt := 55) dX3_goOver_48 (by decide) (fun c => ?_) (fun c => ?_)
  · try simp only [if_pos c] at K
    refine zV_iconst dX3_goOver_55 ⟨by decide, by decide⟩ ?_
    refine zV_mask [false, false, false, false] rfl ?_
    exact K
  · try simp only [if_neg c] at K
    refine zV_iconst dX3_goOver_51 ⟨by decide, by decide⟩ ?_
    refine zV_goto (tgt := 56) dX3_goOver_52 (by decide) ?_
    refine zV_mask [false, false, false, false] rfl ?_
    exact K
def P_M_goOver_J32 (y2 : Int) (y3 : Int) (h : zH) (Q : Int → zH → Prop) : Prop :=
P_M_goOver_J44 y3 (if y3 = 0 then y2 else (-1005)) h Q
theorem W_M_goOver_J32 (y2 : Int) (y3 : Int) (h : zH) (Q : Int → zH → Prop) (hP : P_M_goOver_J32 y2 y3 h Q) : zV true zy_X3_goOver 4 32 [zR 101, zU, zI y2, zI y3] [] h (zQ0 Q) := by
  unfold P_M_goOver_J32 at hP
  refine zV_aload_n dX3_goOver_32 rfl ?_
  refine zV_iload_n dX3_goOver_33 rfl ?_
  have K : zV true zy_X3_goOver 4 44 [zU, zU, zU, zI y3] [zI (if y3 = 0 then y2 else (-1005)), zR 101] h (zQ0 Q) := by
    exact W_M_goOver_J44 _ _ _ _ hP
  clear hP
  refine zV_if_ne (tgt := 41) dX3_goOver_34 (by decide) (fun c => ?_) (fun c => ?_)
  · try simp only [if_neg c] at K
    refine zV_sipush dX3_goOver_41 ⟨by decide, by decide, by decide⟩ ?_
    refine zV_mask [false, false, false, true] rfl ?_
    exact K
  · try simp only [if_pos c] at K
    refine zV_iload_n dX3_goOver_37 rfl ?_
    refine zV_goto (tgt := 44) dX3_goOver_38 (by decide) ?_
    refine zV_mask [false, false, false, true] rfl ?_
    exact K
def P_M_goOver (a1 : Int) (a2 : Int) (h : zH) (Q : Int → zH → Prop) : Prop :=
P_M_look a1 a2 h (fun r1 h2 =>
if r1 = 1 then
(if 0 ≤ zd h2 101 99 then
(P_M_goOver_J32 a2 r1 h2 Q)
else
(∀ h4 : zH, h4 = zw h2 101 99 a2 →
∀ h5 : zH, h5 = zw h4 101 100 (zd h4 101 97) →
P_M_goOver_J32 a2 r1 h5 Q))
else
(P_M_goOver_J32 a2 r1 h2 Q))
theorem W_M_goOver (a1 : Int) (a2 : Int) (h : zH) (Q : Int → zH → Prop) (hP : P_M_goOver a1 a2 h Q) : zC true zy_X3_goOver 4 [zR 101, zI a1, zI a2] h (zQ0 Q) := by
  unfold P_M_goOver at hP
  refine zC.of (by decide) (Nat.le_of_ble_eq_true rfl) ?_
  show zV true zy_X3_goOver 4 0 [zR 101, zI a1, zI a2, zU] [] h (zQ0 Q)
  refine zV_aload_n dX3_goOver_0 rfl ?_
  refine zV_iload_n dX3_goOver_1 rfl ?_
  refine zV_iload_n dX3_goOver_2 rfl ?_
  refine zV_cVk (As := [zI a1, zI a2]) (rest := []) dX3_goOver_3 sa_101 (W_M_look _ _ _ _ hP) mi_X3_look ml_X3_451 (by decide) (Nat.le_of_ble_eq_true rfl) rfl rfl rfl (fun r1 h2 hP => ?_)
  refine zV_istore_n (ls' := [zR 101, zI a1, zI a2, zI r1]) dX3_goOver_6 rfl (Nat.le_of_ble_eq_true rfl) rfl rfl ?_
  refine zV_iload_n dX3_goOver_7 rfl ?_
  refine zV_iconst dX3_goOver_8 ⟨by decide, by decide⟩ ?_
  refine zV_icmp_ne (tgt := 32) dX3_goOver_9 (by decide) (fun c => ?_) (fun c => ?_)
  · have hP := zif_n hP c
    refine zV_mask [true, false, true, true] (ls' := [zR 101, zU, zI a2, zI r1]) rfl ?_
    exact W_M_goOver_J32 _ _ _ _ hP
  · have hP := zif_p hP c
    refine zV_aload_n dX3_goOver_12 rfl ?_
    refine zV_gf dX3_goOver_13 sa_101 (by decide) fl_X3_454_3 rfl (ki := 99) rfl ?_
    refine zV_if_ge (tgt := 32) dX3_goOver_16 (by decide) (fun c => ?_) (fun c => ?_)
    · have hP := zif_p hP c
      refine zV_mask [true, false, true, true] (ls' := [zR 101, zU, zI a2, zI r1]) rfl ?_
      exact W_M_goOver_J32 _ _ _ _ hP
    · have hP := zif_n hP c
      refine zV_aload_n dX3_goOver_19 rfl ?_
      refine zV_iload_n dX3_goOver_20 rfl ?_
      refine zV_pf dX3_goOver_21 sa_101 (by decide) fl_X3_454_3 rfl rfl trivial (ki := 99) rfl (fun h4 e_h4 => ?_)
      have hP := hP h4 e_h4
      refine zV_aload_n dX3_goOver_24 rfl ?_
      refine zV_aload_n dX3_goOver_25 rfl ?_
      refine zV_gf dX3_goOver_26 sa_101 (by decide) fl_X3_448_3 rfl (ki := 97) rfl ?_
      refine zV_pf dX3_goOver_29 sa_101 (by decide) fl_X3_457_3 rfl rfl trivial (ki := 100) rfl (fun h5 e_h5 => ?_)
      have hP := hP h5 e_h5
      refine zV_mask [true, false, true, true] (ls' := [zR 101, zU, zI a2, zI r1]) rfl ?_
      exact W_M_goOver_J32 _ _ _ _ hP
def P_M_find_J61 (y1 : Int) (y3 : Int) (s0 : Int) (h : zH) (Q : Int → zH → Prop) (k18 : Int → Int → zH → Prop) : Prop :=
∀ x3_3 : Int, x3_3 = w32 (y3 + 1) →
k18 s0 x3_3 h
theorem W_M_find_J61 (y1 : Int) (y3 : Int) (s0 : Int) (h : zH) (Q : Int → zH → Prop) (k18 : Int → Int → zH → Prop) (H18 : ∀ (v2 v3 : Int) (h' : zH), k18 v2 v3 h' → zV true zy_X3_find 5 18 [zR 101, zI y1, zI v2, zI v3] [] h' (zQ0 Q)) (hP : P_M_find_J61 y1 y3 s0 h Q k18) : zV true zy_X3_find 5 61 [zR 101, zI y1, zU, zI y3] [zI s0] h (zQ0 Q) := by
  unfold P_M_find_J61 at hP
  refine zV_istore_n (ls' := [zR 101, zI y1, zI s0, zI y3]) dX3_find_61 rfl (Nat.le_of_ble_eq_true rfl) rfl rfl ?_
  refine zV_inc (ls' := fun z => [zR 101, zI y1, zI s0, zI z]) dX3_find_62 (Nat.le_of_ble_eq_true rfl) rfl rfl (fun _ => rfl) (fun x3_3 e_x3_3 => ?_)
  have hP := hP x3_3 e_x3_3
  refine zV_goto (tgt := 18) dX3_find_65 (by decide) ?_
  exact H18 _ _ _ hP
def P_M_find_J56 (y1 : Int) (y3 : Int) (h : zH) (Q : Int → zH → Prop) (k18 : Int → Int → zH → Prop) : Prop :=
P_M_find_J61 y1 y3 1 h Q k18
theorem W_M_find_J56 (y1 : Int) (y3 : Int) (h : zH) (Q : Int → zH → Prop) (k18 : Int → Int → zH → Prop) (H18 : ∀ (v2 v3 : Int) (h' : zH), k18 v2 v3 h' → zV true zy_X3_find 5 18 [zR 101, zI y1, zI v2, zI v3] [] h' (zQ0 Q)) (hP : P_M_find_J56 y1 y3 h Q k18) : zV true zy_X3_find 5 56 [zR 101, zI y1, zU, zI y3] [] h (zQ0 Q) := by
  unfold P_M_find_J56 at hP
  refine zV_iconst dX3_find_56 ⟨by decide, by decide⟩ ?_
  refine zV_goto (tgt := 61) dX3_find_57 (by decide) ?_
  exact W_M_find_J61 _ _ _ _ _ _ H18 hP
def P_M_find_L18 (y1 : Int) (Q : Int → zH → Prop) (k68 : Int → zH → Prop) : Nat → Int → Int → zH → Prop
| 0, _, _, _ => False
| n18 + 1, y2, y3, h =>
(0 ≤ y1 ∧ y1 < 2) ∧
if zd h 138 y1 ≤ y3 then
(k68 y2 h)
else
(if y2 = 0 then
(k68 y2 h)
else
((0 ≤ w32 ((w32 (500 * y1)) + y3) ∧ w32 ((w32 (500 * y1)) + y3) < 1000) ∧
if zd h 139 (w32 ((w32 (500 * y1)) + y3)) = 0 then
(P_M_find_J56 y1 y3 h Q (P_M_find_L18 y1 Q k68 n18))
else
(P_M_goOver y1 y3 h (fun r4 h5 =>
P_M_find_J61 y1 y3 (if r4 = 0 then 0 else 1) h5 Q (P_M_find_L18 y1 Q k68 n18)))))
theorem W_M_find_L18 (y1 : Int) (Q : Int → zH → Prop) (k68 : Int → zH → Prop) (H68 : ∀ (v2 : Int) (h' : zH), k68 v2 h' → zV true zy_X3_find 5 68 [zR 101, zI y1, zI v2, zU] [] h' (zQ0 Q)) : ∀ (n18 : Nat) (y2 y3 : Int) (h : zH), P_M_find_L18 y1 Q k68 n18 y2 y3 h → zV true zy_X3_find 5 18 [zR 101, zI y1, zI y2, zI y3] [] h (zQ0 Q) := by
  intro n18
  induction n18 with
  | zero => intro y2 y3 h hP; exact absurd hP id
  | succ n18 ih =>
    intro y2 y3 h hP
    unfold P_M_find_L18 at hP
    refine zV_iload_n dX3_find_18 rfl ?_
    refine zV_aload_n dX3_find_19 rfl ?_
    refine zV_sg dX3_find_20 fm_101_62 sa_101 (by decide) fl_X3_119_3 rfl ?_
    refine zV_iload_n dX3_find_23 rfl ?_
    obtain ⟨ob, hP⟩ := hP
    refine zV_ia dX3_find_24 sa_138 ob ?_
    refine zV_icmp_ge (tgt := 68) dX3_find_25 (by decide) (fun c => ?_) (fun c => ?_)
    · have hP := zif_p hP c
      refine zV_mask [true, true, true, false] (ls' := [zR 101, zI y1, zI y2, zU]) rfl ?_
      exact H68 _ _ hP
    · have hP := zif_n hP c
      refine zV_iload_n dX3_find_28 rfl ?_
      refine zV_if_eq (tgt := 68) dX3_find_29 (by decide) (fun c => ?_) (fun c => ?_)
      · have hP := zif_p hP c
        refine zV_mask [true, true, true, false] (ls' := [zR 101, zI y1, zI y2, zU]) rfl ?_
        exact H68 _ _ hP
      · have hP := zif_n hP c
        refine zV_aload_n dX3_find_32 rfl ?_
        refine zV_sg dX3_find_33 fm_101_63 sa_101 (by decide) fl_X3_122_3 rfl ?_
        refine zV_sipush dX3_find_36 ⟨by decide, by decide, by decide⟩ ?_
        refine zV_iload_n dX3_find_39 rfl ?_
        refine zV_imul dX3_find_40 ?_
        refine zV_iload_n dX3_find_41 rfl ?_
        refine zV_iadd dX3_find_42 ?_
        obtain ⟨ob, hP⟩ := hP
        refine zV_za dX3_find_43 sa_139 ob ?_
        refine zV_if_eq (tgt := 56) dX3_find_44 (by decide) (fun c => ?_) (fun c => ?_)
        · have hP := zif_p hP c
          refine zV_mask [true, true, false, true] (ls' := [zR 101, zI y1, zU, zI y3]) rfl ?_
          exact W_M_find_J56 _ _ _ _ _ ih hP
        · have hP := zif_n hP c
          refine zV_aload_n dX3_find_47 rfl ?_
          refine zV_iload_n dX3_find_48 rfl ?_
          refine zV_iload_n dX3_find_49 rfl ?_
          refine zV_cVk (As := [zI y1, zI y3]) (rest := []) dX3_find_50 sa_101 (W_M_goOver _ _ _ _ hP) mi_X3_goOver ml_X3_463 (by decide) (Nat.le_of_ble_eq_true rfl) rfl rfl rfl (fun r4 h5 hP => ?_)
          have K : zV true zy_X3_find 5 61 [zR 101, zI y1, zU, zI y3] [zI (if r4 = 0 then 0 else 1)] h5 (zQ0 Q) := by
            exact W_M_find_J61 _ _ _ _ _ _ ih hP
          clear hP
          refine zV_if_eq (tgt := 60) dX3_find_53 (by decide) (fun c => ?_) (fun c => ?_)
          · try simp only [if_pos c] at K
            refine zV_iconst dX3_find_60 ⟨by decide, by decide⟩ ?_
            refine zV_mask [true, true, false, true] rfl ?_
            exact K
          · try simp only [if_neg c] at K
            refine zV_iconst dX3_find_56 ⟨by decide, by decide⟩ ?_
            refine zV_goto (tgt := 61) dX3_find_57 (by decide) ?_
            refine zV_mask [true, true, false, true] rfl ?_
            exact K
def P_M_find_J90 (y1 : Int) (y2 : Int) (y3 : Int) (h : zH) (Q : Int → zH → Prop) (k111 : Int → zH → Prop) (k70 : Int → Int → zH → Prop) : Prop :=
if y2 = 0 then
(k111 y2 h)
else
(P_M_goOver y1 (w32 (1000 + y3)) h (fun r7 h8 =>
∀ x3_9 : Int, x3_9 = w32 (y3 + 1) →
k70 r7 x3_9 h8))
theorem W_M_find_J90 (y1 : Int) (y2 : Int) (y3 : Int) (h : zH) (Q : Int → zH → Prop) (k111 : Int → zH → Prop) (k70 : Int → Int → zH → Prop) (H111 : ∀ (v2 : Int) (h' : zH), k111 v2 h' → zV true zy_X3_find 5 111 [zR 101, zI y1, zI v2, zU] [] h' (zQ0 Q)) (H70 : ∀ (v2 v3 : Int) (h' : zH), k70 v2 v3 h' → zV true zy_X3_find 5 70 [zR 101, zI y1, zI v2, zI v3] [] h' (zQ0 Q)) (hP : P_M_find_J90 y1 y2 y3 h Q k111 k70) : zV true zy_X3_find 5 90 [zR 101, zI y1, zI y2, zI y3] [] h (zQ0 Q) := by
  unfold P_M_find_J90 at hP
  refine zV_iload_n dX3_find_90 rfl ?_
  refine zV_if_eq (tgt := 111) dX3_find_91 (by decide) (fun c => ?_) (fun c => ?_)
  · have hP := zif_p hP c
    refine zV_mask [true, true, true, false] (ls' := [zR 101, zI y1, zI y2, zU]) rfl ?_
    exact H111 _ _ hP
  · have hP := zif_n hP c
    refine zV_aload_n dX3_find_94 rfl ?_
    refine zV_iload_n dX3_find_95 rfl ?_
    refine zV_sipush dX3_find_96 ⟨by decide, by decide, by decide⟩ ?_
    refine zV_iload_n dX3_find_99 rfl ?_
    refine zV_iadd dX3_find_100 ?_
    refine zV_cVk (As := [zI y1, zI (w32 (1000 + y3))]) (rest := []) dX3_find_101 sa_101 (W_M_goOver _ _ _ _ hP) mi_X3_goOver ml_X3_463 (by decide) (Nat.le_of_ble_eq_true rfl) rfl rfl rfl (fun r7 h8 hP => ?_)
    refine zV_istore_n (ls' := [zR 101, zI y1, zI r7, zI y3]) dX3_find_104 rfl (Nat.le_of_ble_eq_true rfl) rfl rfl ?_
    refine zV_inc (ls' := fun z => [zR 101, zI y1, zI r7, zI z]) dX3_find_105 (Nat.le_of_ble_eq_true rfl) rfl rfl (fun _ => rfl) (fun x3_9 e_x3_9 => ?_)
    have hP := hP x3_9 e_x3_9
    refine zV_goto (tgt := 70) dX3_find_108 (by decide) ?_
    exact H70 _ _ _ hP
def P_M_find_L70 (y1 : Int) (Q : Int → zH → Prop) (k111 : Int → zH → Prop) : Nat → Int → Int → zH → Prop
| 0, _, _, _ => False
| n70 + 1, y2, y3, h =>
if zd h 101 67 ≤ y3 then
(k111 y2 h)
else
(if y1 = 1 then
(P_M_find_J90 y1 y2 y3 h Q k111 (P_M_find_L70 y1 Q k111 n70))
else
(if zd h 101 58 = 0 then
(k111 y2 h)
else
(P_M_find_J90 y1 y2 y3 h Q k111 (P_M_find_L70 y1 Q k111 n70))))
theorem W_M_find_L70 (y1 : Int) (Q : Int → zH → Prop) (k111 : Int → zH → Prop) (H111 : ∀ (v2 : Int) (h' : zH), k111 v2 h' → zV true zy_X3_find 5 111 [zR 101, zI y1, zI v2, zU] [] h' (zQ0 Q)) : ∀ (n70 : Nat) (y2 y3 : Int) (h : zH), P_M_find_L70 y1 Q k111 n70 y2 y3 h → zV true zy_X3_find 5 70 [zR 101, zI y1, zI y2, zI y3] [] h (zQ0 Q) := by
  intro n70
  induction n70 with
  | zero => intro y2 y3 h hP; exact absurd hP id
  | succ n70 ih =>
    intro y2 y3 h hP
    unfold P_M_find_L70 at hP
    refine zV_iload_n dX3_find_70 rfl ?_
    refine zV_aload_n dX3_find_71 rfl ?_
    refine zV_gf dX3_find_72 sa_101 (by decide) fl_X3_467_3 rfl (ki := 67) rfl ?_
    refine zV_icmp_ge (tgt := 111) dX3_find_75 (by decide) (fun c => ?_) (fun c => ?_)
    · have hP := zif_p hP c
      refine zV_mask [true, true, true, false] (ls' := [zR 101, zI y1, zI y2, zU]) rfl ?_
      exact H111 _ _ hP
    · have hP := zif_n hP c
      refine zV_iload_n dX3_find_78 rfl ?_
      refine zV_iconst dX3_find_79 ⟨by decide, by decide⟩ ?_
      refine zV_icmp_eq (tgt := 90) dX3_find_80 (by decide) (fun c => ?_) (fun c => ?_)
      · have hP := zif_p hP c
        exact W_M_find_J90 _ _ _ _ _ _ _ H111 ih hP
      · have hP := zif_n hP c
        refine zV_aload_n dX3_find_83 rfl ?_
        refine zV_gf dX3_find_84 sa_101 (by decide) fl_X3_470_3 rfl (ki := 58) rfl ?_
        refine zV_if_eq (tgt := 111) dX3_find_87 (by decide) (fun c => ?_) (fun c => ?_)
        · have hP := zif_p hP c
          refine zV_mask [true, true, true, false] (ls' := [zR 101, zI y1, zI y2, zU]) rfl ?_
          exact H111 _ _ hP
        · have hP := zif_n hP c
          exact W_M_find_J90 _ _ _ _ _ _ _ H111 ih hP
def P_M_find_J160 (y1 : Int) (y3 : Int) (s0 : Int) (h : zH) (Q : Int → zH → Prop) (k113 : Int → Int → zH → Prop) : Prop :=
∀ x3_11 : Int, x3_11 = w32 (y3 + 1) →
k113 s0 x3_11 h
theorem W_M_find_J160 (y1 : Int) (y3 : Int) (s0 : Int) (h : zH) (Q : Int → zH → Prop) (k113 : Int → Int → zH → Prop) (H113 : ∀ (v2 v3 : Int) (h' : zH), k113 v2 v3 h' → zV true zy_X3_find 5 113 [zR 101, zI y1, zI v2, zI v3] [] h' (zQ0 Q)) (hP : P_M_find_J160 y1 y3 s0 h Q k113) : zV true zy_X3_find 5 160 [zR 101, zI y1, zU, zI y3] [zI s0] h (zQ0 Q) := by
  unfold P_M_find_J160 at hP
  refine zV_istore_n (ls' := [zR 101, zI y1, zI s0, zI y3]) dX3_find_160 rfl (Nat.le_of_ble_eq_true rfl) rfl rfl ?_
  refine zV_inc (ls' := fun z => [zR 101, zI y1, zI s0, zI z]) dX3_find_161 (Nat.le_of_ble_eq_true rfl) rfl rfl (fun _ => rfl) (fun x3_11 e_x3_11 => ?_)
  have hP := hP x3_11 e_x3_11
  refine zV_goto (tgt := 113) dX3_find_164 (by decide) ?_
  exact H113 _ _ _ hP
def P_M_find_J155 (y1 : Int) (y3 : Int) (h : zH) (Q : Int → zH → Prop) (k113 : Int → Int → zH → Prop) : Prop :=
P_M_find_J160 y1 y3 1 h Q k113
theorem W_M_find_J155 (y1 : Int) (y3 : Int) (h : zH) (Q : Int → zH → Prop) (k113 : Int → Int → zH → Prop) (H113 : ∀ (v2 v3 : Int) (h' : zH), k113 v2 v3 h' → zV true zy_X3_find 5 113 [zR 101, zI y1, zI v2, zI v3] [] h' (zQ0 Q)) (hP : P_M_find_J155 y1 y3 h Q k113) : zV true zy_X3_find 5 155 [zR 101, zI y1, zU, zI y3] [] h (zQ0 Q) := by
  unfold P_M_find_J155 at hP
  refine zV_iconst dX3_find_155 ⟨by decide, by decide⟩ ?_
  refine zV_goto (tgt := 160) dX3_find_156 (by decide) ?_
  exact W_M_find_J160 _ _ _ _ _ _ H113 hP
def P_M_find_L113 (y1 : Int) (Q : Int → zH → Prop) : Nat → Int → Int → zH → Prop
| 0, _, _, _ => False
| n113 + 1, y2, y3, h =>
(0 ≤ y1 ∧ y1 < 2) ∧
if zd h 155 y1 ≤ y3 then
(Q 0 h)
else
(if y2 = 0 then
(Q 0 h)
else
((0 ≤ w32 ((w32 (800 * y1)) + y3) ∧ w32 ((w32 (800 * y1)) + y3) < 1600) ∧
if zd h 156 (w32 ((w32 (800 * y1)) + y3)) = 0 then
(P_M_find_J155 y1 y3 h Q (P_M_find_L113 y1 Q n113))
else
(P_M_goOver y1 (w32 (2000 + y3)) h (fun r12 h13 =>
P_M_find_J160 y1 y3 (if r12 = 0 then 0 else 1) h13 Q (P_M_find_L113 y1 Q n113)))))
theorem W_M_find_L113 (y1 : Int) (Q : Int → zH → Prop) : ∀ (n113 : Nat) (y2 y3 : Int) (h : zH), P_M_find_L113 y1 Q n113 y2 y3 h → zV true zy_X3_find 5 113 [zR 101, zI y1, zI y2, zI y3] [] h (zQ0 Q) := by
  intro n113
  induction n113 with
  | zero => intro y2 y3 h hP; exact absurd hP id
  | succ n113 ih =>
    intro y2 y3 h hP
    unfold P_M_find_L113 at hP
    refine zV_iload_n dX3_find_113 rfl ?_
    refine zV_aload_n dX3_find_114 rfl ?_
    refine zV_sg dX3_find_115 fm_101_81 sa_101 (by decide) fl_X3_171_3 rfl ?_
    refine zV_iload_n dX3_find_118 rfl ?_
    obtain ⟨ob, hP⟩ := hP
    refine zV_ia dX3_find_119 sa_155 ob ?_
    refine zV_icmp_ge (tgt := 167) dX3_find_120 (by decide) (fun c => ?_) (fun c => ?_)
    · have hP := zif_p hP c
      exact zV_return dX3_find_167 rfl ⟨rfl, hP⟩
    · have hP := zif_n hP c
      refine zV_iload_n dX3_find_123 rfl ?_
      refine zV_if_eq (tgt := 167) dX3_find_124 (by decide) (fun c => ?_) (fun c => ?_)
      · have hP := zif_p hP c
        exact zV_return dX3_find_167 rfl ⟨rfl, hP⟩
      · have hP := zif_n hP c
        refine zV_aload_n dX3_find_127 rfl ?_
        refine zV_sg dX3_find_128 fm_101_82 sa_101 (by decide) fl_X3_174_3 rfl ?_
        refine zV_sipush dX3_find_131 ⟨by decide, by decide, by decide⟩ ?_
        refine zV_iload_n dX3_find_134 rfl ?_
        refine zV_imul dX3_find_135 ?_
        refine zV_iload_n dX3_find_136 rfl ?_
        refine zV_iadd dX3_find_137 ?_
        obtain ⟨ob, hP⟩ := hP
        refine zV_za dX3_find_138 sa_156 ob ?_
        refine zV_if_eq (tgt := 155) dX3_find_139 (by decide) (fun c => ?_) (fun c => ?_)
        · have hP := zif_p hP c
          refine zV_mask [true, true, false, true] (ls' := [zR 101, zI y1, zU, zI y3]) rfl ?_
          exact W_M_find_J155 _ _ _ _ _ ih hP
        · have hP := zif_n hP c
          refine zV_aload_n dX3_find_142 rfl ?_
          refine zV_iload_n dX3_find_143 rfl ?_
          refine zV_sipush dX3_find_144 ⟨by decide, by decide, by decide⟩ ?_
          refine zV_iload_n dX3_find_147 rfl ?_
          refine zV_iadd dX3_find_148 ?_
          refine zV_cVk (As := [zI y1, zI (w32 (2000 + y3))]) (rest := []) dX3_find_149 sa_101 (W_M_goOver _ _ _ _ hP) mi_X3_goOver ml_X3_463 (by decide) (Nat.le_of_ble_eq_true rfl) rfl rfl rfl (fun r12 h13 hP => ?_)
          have K : zV true zy_X3_find 5 160 [zR 101, zI y1, zU, zI y3] [zI (if r12 = 0 then 0 else 1)] h13 (zQ0 Q) := by
            exact W_M_find_J160 _ _ _ _ _ _ ih hP
          clear hP
          refine zV_if_eq (tgt := 159) dX3_find_152 (by decide) (fun c => ?_) (fun c => ?_)
          · try simp only [if_pos c] at K
            refine zV_iconst dX3_find_159 ⟨by decide, by decide⟩ ?_
            refine zV_mask [true, true, false, true] rfl ?_
            exact K
          · try simp only [if_neg c] at K
            refine zV_iconst dX3_find_155 ⟨by decide, by decide⟩ ?_
            refine zV_goto (tgt := 160) dX3_find_156 (by decide) ?_
            refine zV_mask [true, true, false, true] rfl ?_
            exact K
def P_M_find_J111 (y1 : Int) (y2 : Int) (h : zH) (Q : Int → zH → Prop) : Prop :=
∃ n113, P_M_find_L113 y1 Q n113 y2 0 h
theorem W_M_find_J111 (y1 : Int) (y2 : Int) (h : zH) (Q : Int → zH → Prop) (hP : P_M_find_J111 y1 y2 h Q) : zV true zy_X3_find 5 111 [zR 101, zI y1, zI y2, zU] [] h (zQ0 Q) := by
  unfold P_M_find_J111 at hP
  refine zV_iconst dX3_find_111 ⟨by decide, by decide⟩ ?_
  refine zV_istore_n (ls' := [zR 101, zI y1, zI y2, zI 0]) dX3_find_112 rfl (Nat.le_of_ble_eq_true rfl) rfl rfl ?_
  obtain ⟨n113, hP⟩ := hP
  refine W_M_find_L113 _ _ n113 _ _ _ hP
def P_M_find_J68 (y1 : Int) (y2 : Int) (h : zH) (Q : Int → zH → Prop) : Prop :=
∃ n70, P_M_find_L70 y1 Q (fun u2_111 h10 =>
P_M_find_J111 y1 u2_111 h10 Q) n70 y2 0 h
theorem W_M_find_J68 (y1 : Int) (y2 : Int) (h : zH) (Q : Int → zH → Prop) (hP : P_M_find_J68 y1 y2 h Q) : zV true zy_X3_find 5 68 [zR 101, zI y1, zI y2, zU] [] h (zQ0 Q) := by
  unfold P_M_find_J68 at hP
  refine zV_iconst dX3_find_68 ⟨by decide, by decide⟩ ?_
  refine zV_istore_n (ls' := [zR 101, zI y1, zI y2, zI 0]) dX3_find_69 rfl (Nat.le_of_ble_eq_true rfl) rfl rfl ?_
  obtain ⟨n70, hP⟩ := hP
  refine W_M_find_L70 _ _ _ (fun u2_111 h10 hP => ?_) n70 _ _ _ hP
  exact W_M_find_J111 _ _ _ _ hP
def P_M_find (a1 : Int) (h : zH) (Q : Int → zH → Prop) : Prop :=
∀ h1 : zH, h1 = zw h 101 98 (-1005) →
∀ h2 : zH, h2 = zw h1 101 99 (-1005) →
∃ n18, P_M_find_L18 a1 Q (fun u2_68 h6 =>
P_M_find_J68 a1 u2_68 h6 Q) n18 1 0 h2
theorem W_M_find (a1 : Int) (h : zH) (Q : Int → zH → Prop) (hP : P_M_find a1 h Q) : zC true zy_X3_find 5 [zR 101, zI a1] h (zQ0 Q) := by
  unfold P_M_find at hP
  refine zC.of (by decide) (Nat.le_of_ble_eq_true rfl) ?_
  show zV true zy_X3_find 5 0 [zR 101, zI a1, zU, zU] [] h (zQ0 Q)
  refine zV_aload_n dX3_find_0 rfl ?_
  refine zV_sipush dX3_find_1 ⟨by decide, by decide, by decide⟩ ?_
  refine zV_pf dX3_find_4 sa_101 (by decide) fl_X3_460_3 rfl rfl trivial (ki := 98) rfl (fun h1 e_h1 => ?_)
  have hP := hP h1 e_h1
  refine zV_aload_n dX3_find_7 rfl ?_
  refine zV_sipush dX3_find_8 ⟨by decide, by decide, by decide⟩ ?_
  refine zV_pf dX3_find_11 sa_101 (by decide) fl_X3_454_3 rfl rfl trivial (ki := 99) rfl (fun h2 e_h2 => ?_)
  have hP := hP h2 e_h2
  refine zV_iconst dX3_find_14 ⟨by decide, by decide⟩ ?_
  refine zV_istore_n (ls' := [zR 101, zI a1, zI 1, zU]) dX3_find_15 rfl (Nat.le_of_ble_eq_true rfl) rfl rfl ?_
  refine zV_iconst dX3_find_16 ⟨by decide, by decide⟩ ?_
  refine zV_istore_n (ls' := [zR 101, zI a1, zI 1, zI 0]) dX3_find_17 rfl (Nat.le_of_ble_eq_true rfl) rfl rfl ?_
  obtain ⟨n18, hP⟩ := hP
  refine W_M_find_L18 _ _ _ (fun u2_68 h6 hP => ?_) n18 _ _ _ hP
  exact W_M_find_J68 _ _ _ _ hP
def P_M_takesStep (a1 : Int) (h : zH) (Q : Int → zH → Prop) : Prop :=
if zd h 101 89 = 0 then
(Q 0 h)
else
(∀ h1 : zH, h1 = zw h 101 89 (w32 ((zd h 101 89) - 1)) →
(0 ≤ w32 ((w32 (10 * a1)) + 1) ∧ w32 ((w32 (10 * a1)) + 1) < 20) ∧
(0 ≤ w32 ((w32 (10 * a1)) + 1) ∧ w32 ((w32 (10 * a1)) + 1) < 20) ∧
∀ h2 : zH, h2 = zw h1 163 (w32 ((w32 (10 * a1)) + 1)) (w32 ((zd h1 163 (w32 ((w32 (10 * a1)) + 1))) + 1)) →
Q 1 h2)
theorem W_M_takesStep (a1 : Int) (h : zH) (Q : Int → zH → Prop) (hP : P_M_takesStep a1 h Q) : zC true zy_X3_takesStep 1 [zR 101, zI a1] h (zQ0 Q) := by
  unfold P_M_takesStep at hP
  refine zC.of (by decide) (Nat.le_of_ble_eq_true rfl) ?_
  show zV true zy_X3_takesStep 1 0 [zR 101, zI a1] [] h (zQ0 Q)
  refine zV_aload_n dX3_takesStep_0 rfl ?_
  refine zV_gf dX3_takesStep_1 sa_101 (by decide) fl_X3_490_3 rfl (ki := 89) rfl ?_
  refine zV_if_ne (tgt := 9) dX3_takesStep_4 (by decide) (fun c => ?_) (fun c => ?_)
  · have hP := zif_n hP c
    refine zV_aload_n dX3_takesStep_9 rfl ?_
    refine zV_dup dX3_takesStep_10 (Nat.ne_of_beq_eq_false rfl) ?_
    refine zV_gf dX3_takesStep_11 sa_101 (by decide) fl_X3_490_3 rfl (ki := 89) rfl ?_
    refine zV_iconst dX3_takesStep_14 ⟨by decide, by decide⟩ ?_
    refine zV_isub dX3_takesStep_15 ?_
    refine zV_pf dX3_takesStep_16 sa_101 (by decide) fl_X3_490_3 rfl rfl trivial (ki := 89) rfl (fun h1 e_h1 => ?_)
    have hP := hP h1 e_h1
    refine zV_aload_n dX3_takesStep_19 rfl ?_
    refine zV_sg dX3_takesStep_20 fm_101_90 sa_101 (by decide) fl_X3_195_3 rfl ?_
    refine zV_bipush dX3_takesStep_23 ⟨by decide, by decide, by decide⟩ ?_
    refine zV_iload_n dX3_takesStep_25 rfl ?_
    refine zV_imul dX3_takesStep_26 ?_
    refine zV_iconst dX3_takesStep_27 ⟨by decide, by decide⟩ ?_
    refine zV_iadd dX3_takesStep_28 ?_
    refine zV_dup2 dX3_takesStep_29 (Nat.ne_of_beq_eq_false rfl) (Nat.ne_of_beq_eq_false rfl) ?_
    obtain ⟨ob, hP⟩ := hP
    refine zV_ia dX3_takesStep_30 sa_163 ob ?_
    refine zV_iconst dX3_takesStep_31 ⟨by decide, by decide⟩ ?_
    refine zV_iadd dX3_takesStep_32 ?_
    obtain ⟨ob, hP⟩ := hP
    refine zV_ias dX3_takesStep_33 sa_163 ob (fun h2 e_h2 => ?_)
    have hP := hP h2 e_h2
    refine zV_iconst dX3_takesStep_34 ⟨by decide, by decide⟩ ?_
    exact zV_ireturn dX3_takesStep_35 rfl rfl (z01 z1) ⟨rfl, hP⟩
  · have hP := zif_p hP c
    refine zV_iconst dX3_takesStep_7 ⟨by decide, by decide⟩ ?_
    exact zV_ireturn dX3_takesStep_8 rfl rfl (z01 z0) ⟨rfl, hP⟩
def P_M_clearSources_L2 (Q : Int → zH → Prop) : Nat → Int → zH → Prop
| 0, _, _ => False
| n2 + 1, y1, h =>
if 8 ≤ y1 then
(Q 0 h)
else
((0 ≤ y1 ∧ y1 < 8) ∧
∀ h1 : zH, h1 = zw h 160 y1 0 →
∀ x1_2 : Int, x1_2 = w32 (y1 + 1) →
P_M_clearSources_L2 Q n2 x1_2 h1)
theorem W_M_clearSources_L2 (Q : Int → zH → Prop) : ∀ (n2 : Nat) (y1 : Int) (h : zH), P_M_clearSources_L2 Q n2 y1 h → zV true zy_X3_clearSources 1 2 [zR 101, zI y1] [] h (zQ0 Q) := by
  intro n2
  induction n2 with
  | zero => intro y1 h hP; exact absurd hP id
  | succ n2 ih =>
    intro y1 h hP
    unfold P_M_clearSources_L2 at hP
    refine zV_iload_n dX3_clearSources_2 rfl ?_
    refine zV_bipush dX3_clearSources_3 ⟨by decide, by decide, by decide⟩ ?_
    refine zV_icmp_ge (tgt := 21) dX3_clearSources_5 (by decide) (fun c => ?_) (fun c => ?_)
    · have hP := zif_p hP c
      exact zV_return dX3_clearSources_21 rfl ⟨rfl, hP⟩
    · have hP := zif_n hP c
      refine zV_aload_n dX3_clearSources_8 rfl ?_
      refine zV_sg dX3_clearSources_9 fm_101_86 sa_101 (by decide) fl_X3_186_3 rfl ?_
      refine zV_iload_n dX3_clearSources_12 rfl ?_
      refine zV_lconst (x := 0) dX3_clearSources_13 rfl ?_
      obtain ⟨ob, hP⟩ := hP
      refine zV_las dX3_clearSources_14 sa_160 ob (fun h1 e_h1 => ?_)
      have hP := hP h1 e_h1
      refine zV_inc (ls' := fun z => [zR 101, zI z]) dX3_clearSources_15 (Nat.le_of_ble_eq_true rfl) rfl rfl (fun _ => rfl) (fun x1_2 e_x1_2 => ?_)
      have hP := hP x1_2 e_x1_2
      refine zV_goto (tgt := 2) dX3_clearSources_18 (by decide) ?_
      exact ih _ _ hP
def P_M_clearSources (h : zH) (Q : Int → zH → Prop) : Prop :=
∃ n2, P_M_clearSources_L2 Q n2 0 h
theorem W_M_clearSources (h : zH) (Q : Int → zH → Prop) (hP : P_M_clearSources  h Q) : zC true zy_X3_clearSources 1 [zR 101] h (zQ0 Q) := by
  unfold P_M_clearSources at hP
  refine zC.of (by decide) (Nat.le_of_ble_eq_true rfl) ?_
  show zV true zy_X3_clearSources 1 0 [zR 101, zU] [] h (zQ0 Q)
  refine zV_iconst dX3_clearSources_0 ⟨by decide, by decide⟩ ?_
  refine zV_istore_n (ls' := [zR 101, zI 0]) dX3_clearSources_1 rfl (Nat.le_of_ble_eq_true rfl) rfl rfl ?_
  obtain ⟨n2, hP⟩ := hP
  refine W_M_clearSources_L2 _ n2 _ _ hP
def P_M_addSources_L37 (y1 : Int) (y2 : Int) (Q : Int → zH → Prop) : Nat → Int → zH → Prop
| 0, _, _ => False
| n37 + 1, y3, h =>
if 8 ≤ y3 then
(Q 0 h)
else
((0 ≤ y3 ∧ y3 < 8) ∧
(0 ≤ w32 ((w32 (8 * (w32 ((w32 ((w32 (800 * y1)) + y2)) - 2000)))) + y3) ∧ w32 ((w32 (8 * (w32 ((w32 ((w32 (800 * y1)) + y2)) - 2000)))) + y3) < 12800) ∧
(0 ≤ y3 ∧ y3 < 8) ∧
∀ h1 : zH, h1 = zw h 160 y3 (zlor (zd h 160 y3) (zd h 158 (w32 ((w32 (8 * (w32 ((w32 ((w32 (800 * y1)) + y2)) - 2000)))) + y3)))) →
∀ x3_2 : Int, x3_2 = w32 (y3 + 1) →
P_M_addSources_L37 y1 y2 Q n37 x3_2 h1)
theorem W_M_addSources_L37 (y1 : Int) (y2 : Int) (Q : Int → zH → Prop) : ∀ (n37 : Nat) (y3 : Int) (h : zH), P_M_addSources_L37 y1 y2 Q n37 y3 h → zV true zy_X3_addSources 1 37 [zR 101, zI y1, zI y2, zI y3] [] h (zQ0 Q) := by
  intro n37
  induction n37 with
  | zero => intro y3 h hP; exact absurd hP id
  | succ n37 ih =>
    intro y3 h hP
    unfold P_M_addSources_L37 at hP
    refine zV_iload_n dX3_addSources_37 rfl ?_
    refine zV_bipush dX3_addSources_38 ⟨by decide, by decide, by decide⟩ ?_
    refine zV_icmp_ge (tgt := 79) dX3_addSources_40 (by decide) (fun c => ?_) (fun c => ?_)
    · have hP := zif_p hP c
      exact zV_return dX3_addSources_79 rfl ⟨rfl, hP⟩
    · have hP := zif_n hP c
      refine zV_aload_n dX3_addSources_43 rfl ?_
      refine zV_sg dX3_addSources_44 fm_101_86 sa_101 (by decide) fl_X3_186_3 rfl ?_
      refine zV_iload_n dX3_addSources_47 rfl ?_
      refine zV_dup2 dX3_addSources_48 (Nat.ne_of_beq_eq_false rfl) (Nat.ne_of_beq_eq_false rfl) ?_
      obtain ⟨ob, hP⟩ := hP
      refine zV_la dX3_addSources_49 sa_160 ob ?_
      refine zV_aload_n dX3_addSources_50 rfl ?_
      refine zV_sg dX3_addSources_51 fm_101_84 sa_101 (by decide) fl_X3_180_3 rfl ?_
      refine zV_bipush dX3_addSources_54 ⟨by decide, by decide, by decide⟩ ?_
      refine zV_sipush dX3_addSources_56 ⟨by decide, by decide, by decide⟩ ?_
      refine zV_iload_n dX3_addSources_59 rfl ?_
      refine zV_imul dX3_addSources_60 ?_
      refine zV_iload_n dX3_addSources_61 rfl ?_
      refine zV_iadd dX3_addSources_62 ?_
      refine zV_sipush dX3_addSources_63 ⟨by decide, by decide, by decide⟩ ?_
      refine zV_isub dX3_addSources_66 ?_
      refine zV_imul dX3_addSources_67 ?_
      refine zV_iload_n dX3_addSources_68 rfl ?_
      refine zV_iadd dX3_addSources_69 ?_
      obtain ⟨ob, hP⟩ := hP
      refine zV_la dX3_addSources_70 sa_158 ob ?_
      refine zV_lor dX3_addSources_71 ?_
      obtain ⟨ob, hP⟩ := hP
      refine zV_las dX3_addSources_72 sa_160 ob (fun h1 e_h1 => ?_)
      have hP := hP h1 e_h1
      refine zV_inc (ls' := fun z => [zR 101, zI y1, zI y2, zI z]) dX3_addSources_73 (Nat.le_of_ble_eq_true rfl) rfl rfl (fun _ => rfl) (fun x3_2 e_x3_2 => ?_)
      have hP := hP x3_2 e_x3_2
      refine zV_goto (tgt := 37) dX3_addSources_76 (by decide) ?_
      exact ih _ _ hP
def P_M_addSources (a1 : Int) (a2 : Int) (h : zH) (Q : Int → zH → Prop) : Prop :=
if 1000 ≤ a2 then
(if a2 < 2000 then
(Q 0 h)
else
(∃ n37, P_M_addSources_L37 a1 a2 Q n37 0 h))
else
((0 ≤ w32 (Int.tdiv a2 64) ∧ w32 (Int.tdiv a2 64) < 8) ∧
(0 ≤ w32 (Int.tdiv a2 64) ∧ w32 (Int.tdiv a2 64) < 8) ∧
∀ h3 : zH, h3 = zw h 160 (w32 (Int.tdiv a2 64)) (zlor (zd h 160 (w32 (Int.tdiv a2 64))) (zlshl 1 (Int.tmod a2 64))) →
Q 0 h3)
theorem W_M_addSources (a1 : Int) (a2 : Int) (h : zH) (Q : Int → zH → Prop) (hP : P_M_addSources a1 a2 h Q) : zC true zy_X3_addSources 1 [zR 101, zI a1, zI a2] h (zQ0 Q) := by
  unfold P_M_addSources at hP
  refine zC.of (by decide) (Nat.le_of_ble_eq_true rfl) ?_
  show zV true zy_X3_addSources 1 0 [zR 101, zI a1, zI a2, zU] [] h (zQ0 Q)
  refine zV_iload_n dX3_addSources_0 rfl ?_
  refine zV_sipush dX3_addSources_1 ⟨by decide, by decide, by decide⟩ ?_
  refine zV_icmp_ge (tgt := 28) dX3_addSources_4 (by decide) (fun c => ?_) (fun c => ?_)
  · have hP := zif_p hP c
    refine zV_iload_n dX3_addSources_28 rfl ?_
    refine zV_sipush dX3_addSources_29 ⟨by decide, by decide, by decide⟩ ?_
    refine zV_icmp_lt (tgt := 79) dX3_addSources_32 (by decide) (fun c => ?_) (fun c => ?_)
    · have hP := zif_p hP c
      exact zV_return dX3_addSources_79 rfl ⟨rfl, hP⟩
    · have hP := zif_n hP c
      refine zV_iconst dX3_addSources_35 ⟨by decide, by decide⟩ ?_
      refine zV_istore_n (ls' := [zR 101, zI a1, zI a2, zI 0]) dX3_addSources_36 rfl (Nat.le_of_ble_eq_true rfl) rfl rfl ?_
      obtain ⟨n37, hP⟩ := hP
      refine W_M_addSources_L37 _ _ _ n37 _ _ hP
  · have hP := zif_n hP c
    refine zV_aload_n dX3_addSources_7 rfl ?_
    refine zV_sg dX3_addSources_8 fm_101_86 sa_101 (by decide) fl_X3_186_3 rfl ?_
    refine zV_iload_n dX3_addSources_11 rfl ?_
    refine zV_bipush dX3_addSources_12 ⟨by decide, by decide, by decide⟩ ?_
    refine zV_idiv dX3_addSources_14 (by decide) ?_
    refine zV_dup2 dX3_addSources_15 (Nat.ne_of_beq_eq_false rfl) (Nat.ne_of_beq_eq_false rfl) ?_
    obtain ⟨ob, hP⟩ := hP
    refine zV_la dX3_addSources_16 sa_160 ob ?_
    refine zV_lconst (x := 1) dX3_addSources_17 rfl ?_
    refine zV_iload_n dX3_addSources_18 rfl ?_
    refine zV_bipush dX3_addSources_19 ⟨by decide, by decide, by decide⟩ ?_
    refine zV_irem dX3_addSources_21 (by decide) ?_
    refine zV_lshl dX3_addSources_22 ?_
    refine zV_lor dX3_addSources_23 ?_
    obtain ⟨ob, hP⟩ := hP
    refine zV_las dX3_addSources_24 sa_160 ob (fun h3 e_h3 => ?_)
    have hP := hP h3 e_h3
    refine zV_goto (tgt := 79) dX3_addSources_25 (by decide) ?_
    exact zV_return dX3_addSources_79 rfl ⟨rfl, hP⟩
def P_M_addNameSources_L2 (y1 : Int) (y2 : Int) (Q : Int → zH → Prop) : Nat → Int → zH → Prop
| 0, _, _ => False
| n2 + 1, y3, h =>
if 8 ≤ y3 then
(Q 0 h)
else
((0 ≤ y3 ∧ y3 < 8) ∧
(0 ≤ w32 ((w32 (8 * (w32 ((w32 (301 * y1)) + y2)))) + y3) ∧ w32 ((w32 (8 * (w32 ((w32 (301 * y1)) + y2)))) + y3) < 4816) ∧
(0 ≤ y3 ∧ y3 < 8) ∧
∀ h1 : zH, h1 = zw h 160 y3 (zlor (zd h 160 y3) (zd h 159 (w32 ((w32 (8 * (w32 ((w32 (301 * y1)) + y2)))) + y3)))) →
∀ x3_2 : Int, x3_2 = w32 (y3 + 1) →
P_M_addNameSources_L2 y1 y2 Q n2 x3_2 h1)
theorem W_M_addNameSources_L2 (y1 : Int) (y2 : Int) (Q : Int → zH → Prop) : ∀ (n2 : Nat) (y3 : Int) (h : zH), P_M_addNameSources_L2 y1 y2 Q n2 y3 h → zV true zy_X3_addNameSources 1 2 [zR 101, zI y1, zI y2, zI y3] [] h (zQ0 Q) := by
  intro n2
  induction n2 with
  | zero => intro y3 h hP; exact absurd hP id
  | succ n2 ih =>
    intro y3 h hP
    unfold P_M_addNameSources_L2 at hP
    refine zV_iload_n dX3_addNameSources_2 rfl ?_
    refine zV_bipush dX3_addNameSources_3 ⟨by decide, by decide, by decide⟩ ?_
    refine zV_icmp_ge (tgt := 40) dX3_addNameSources_5 (by decide) (fun c => ?_) (fun c => ?_)
    · have hP := zif_p hP c
      exact zV_return dX3_addNameSources_40 rfl ⟨rfl, hP⟩
    · have hP := zif_n hP c
      refine zV_aload_n dX3_addNameSources_8 rfl ?_
      refine zV_sg dX3_addNameSources_9 fm_101_86 sa_101 (by decide) fl_X3_186_3 rfl ?_
      refine zV_iload_n dX3_addNameSources_12 rfl ?_
      refine zV_dup2 dX3_addNameSources_13 (Nat.ne_of_beq_eq_false rfl) (Nat.ne_of_beq_eq_false rfl) ?_
      obtain ⟨ob, hP⟩ := hP
      refine zV_la dX3_addNameSources_14 sa_160 ob ?_
      refine zV_aload_n dX3_addNameSources_15 rfl ?_
      refine zV_sg dX3_addNameSources_16 fm_101_85 sa_101 (by decide) fl_X3_183_3 rfl ?_
      refine zV_bipush dX3_addNameSources_19 ⟨by decide, by decide, by decide⟩ ?_
      refine zV_sipush dX3_addNameSources_21 ⟨by decide, by decide, by decide⟩ ?_
      refine zV_iload_n dX3_addNameSources_24 rfl ?_
      refine zV_imul dX3_addNameSources_25 ?_
      refine zV_iload_n dX3_addNameSources_26 rfl ?_
      refine zV_iadd dX3_addNameSources_27 ?_
      refine zV_imul dX3_addNameSources_28 ?_
      refine zV_iload_n dX3_addNameSources_29 rfl ?_
      refine zV_iadd dX3_addNameSources_30 ?_
      obtain ⟨ob, hP⟩ := hP
      refine zV_la dX3_addNameSources_31 sa_159 ob ?_
      refine zV_lor dX3_addNameSources_32 ?_
      obtain ⟨ob, hP⟩ := hP
      refine zV_las dX3_addNameSources_33 sa_160 ob (fun h1 e_h1 => ?_)
      have hP := hP h1 e_h1
      refine zV_inc (ls' := fun z => [zR 101, zI y1, zI y2, zI z]) dX3_addNameSources_34 (Nat.le_of_ble_eq_true rfl) rfl rfl (fun _ => rfl) (fun x3_2 e_x3_2 => ?_)
      have hP := hP x3_2 e_x3_2
      refine zV_goto (tgt := 2) dX3_addNameSources_37 (by decide) ?_
      exact ih _ _ hP
def P_M_addNameSources (a1 : Int) (a2 : Int) (h : zH) (Q : Int → zH → Prop) : Prop :=
∃ n2, P_M_addNameSources_L2 a1 a2 Q n2 0 h
theorem W_M_addNameSources (a1 : Int) (a2 : Int) (h : zH) (Q : Int → zH → Prop) (hP : P_M_addNameSources a1 a2 h Q) : zC true zy_X3_addNameSources 1 [zR 101, zI a1, zI a2] h (zQ0 Q) := by
  unfold P_M_addNameSources at hP
  refine zC.of (by decide) (Nat.le_of_ble_eq_true rfl) ?_
  show zV true zy_X3_addNameSources 1 0 [zR 101, zI a1, zI a2, zU] [] h (zQ0 Q)
  refine zV_iconst dX3_addNameSources_0 ⟨by decide, by decide⟩ ?_
  refine zV_istore_n (ls' := [zR 101, zI a1, zI a2, zI 0]) dX3_addNameSources_1 rfl (Nat.le_of_ble_eq_true rfl) rfl rfl ?_
  obtain ⟨n2, hP⟩ := hP
  refine W_M_addNameSources_L2 _ _ _ n2 _ _ hP
def P_M_addLowest_J77 (y1 : Int) (y2 : Int) (y3 : Int) (y4 : Int) (y5 : Int) (h : zH) (Q : Int → zH → Prop) (k11 : Int → zH → Prop) : Prop :=
∀ x5_7 : Int, x5_7 = w32 (y5 + 1) →
k11 x5_7 h
theorem W_M_addLowest_J77 (y1 : Int) (y2 : Int) (y3 : Int) (y4 : Int) (y5 : Int) (h : zH) (Q : Int → zH → Prop) (k11 : Int → zH → Prop) (H11 : ∀ (v5 : Int) (h' : zH), k11 v5 h' → zV true zy_X3_addLowest 2 11 [zR 101, zI y1, zI y2, zI y3, zI y4, zI v5, zU] [] h' (zQ0 Q)) (hP : P_M_addLowest_J77 y1 y2 y3 y4 y5 h Q k11) : zV true zy_X3_addLowest 2 77 [zR 101, zI y1, zI y2, zI y3, zI y4, zI y5, zU] [] h (zQ0 Q) := by
  unfold P_M_addLowest_J77 at hP
  refine zV_inc (ls' := fun z => [zR 101, zI y1, zI y2, zI y3, zI y4, zI z, zU]) dX3_addLowest_77 (Nat.le_of_ble_eq_true rfl) rfl rfl (fun _ => rfl) (fun x5_7 e_x5_7 => ?_)
  have hP := hP x5_7 e_x5_7
  refine zV_goto (tgt := 11) dX3_addLowest_80 (by decide) ?_
  exact H11 _ _ hP
def P_M_addLowest_L11 (y1 : Int) (y2 : Int) (y3 : Int) (y4 : Int) (Q : Int → zH → Prop) : Nat → Int → zH → Prop
| 0, _, _ => False
| n11 + 1, y5, h =>
if y4 ≤ y5 then
(Q 0 h)
else
(P_M_itemOf y1 y2 y5 h (fun r3 h4 =>
P_M_nameOf r3 h4 (fun r5 h6 =>
if r5 = y3 then
(P_M_addLowest_J77 y1 y2 y3 y4 y5 h6 Q (P_M_addLowest_L11 y1 y2 y3 y4 Q n11))
else
((0 ≤ w32 ((w32 (301 * y1)) + r5) ∧ w32 ((w32 (301 * y1)) + r5) < 602) ∧
if zd h6 143 (w32 ((w32 (301 * y1)) + r5)) = 2 then
(P_M_addLowest_J77 y1 y2 y3 y4 y5 h6 Q (P_M_addLowest_L11 y1 y2 y3 y4 Q n11))
else
((0 ≤ w32 ((w32 (301 * y1)) + r5) ∧ w32 ((w32 (301 * y1)) + r5) < 602) ∧
if zd h6 144 (w32 ((w32 (301 * y1)) + r5)) = 0 then
(P_M_addNameSources y1 r5 h6 (fun r8 h9 =>
P_M_addLowest_J77 y1 y2 y3 y4 y5 h9 Q (P_M_addLowest_L11 y1 y2 y3 y4 Q n11)))
else
(P_M_addLowest_J77 y1 y2 y3 y4 y5 h6 Q (P_M_addLowest_L11 y1 y2 y3 y4 Q n11)))))))
theorem W_M_addLowest_L11 (y1 : Int) (y2 : Int) (y3 : Int) (y4 : Int) (Q : Int → zH → Prop) : ∀ (n11 : Nat) (y5 : Int) (h : zH), P_M_addLowest_L11 y1 y2 y3 y4 Q n11 y5 h → zV true zy_X3_addLowest 2 11 [zR 101, zI y1, zI y2, zI y3, zI y4, zI y5, zU] [] h (zQ0 Q) := by
  intro n11
  induction n11 with
  | zero => intro y5 h hP; exact absurd hP id
  | succ n11 ih =>
    intro y5 h hP
    unfold P_M_addLowest_L11 at hP
    refine zV_iload dX3_addLowest_11 rfl ?_
    refine zV_iload dX3_addLowest_13 rfl ?_
    refine zV_icmp_ge (tgt := 83) dX3_addLowest_15 (by decide) (fun c => ?_) (fun c => ?_)
    · have hP := zif_p hP c
      exact zV_return dX3_addLowest_83 rfl ⟨rfl, hP⟩
    · have hP := zif_n hP c
      refine zV_aload_n dX3_addLowest_18 rfl ?_
      refine zV_iload_n dX3_addLowest_19 rfl ?_
      refine zV_iload_n dX3_addLowest_20 rfl ?_
      refine zV_iload dX3_addLowest_21 rfl ?_
      refine zV_cVk (As := [zI y1, zI y2, zI y5]) (rest := []) dX3_addLowest_23 sa_101 (W_M_itemOf _ _ _ _ _ hP) mi_X3_itemOf ml_X3_381 (by decide) (Nat.le_of_ble_eq_true rfl) rfl rfl rfl (fun r3 h4 hP => ?_)
      refine zV_cSk (As := [zI r3]) (rest := []) dX3_addLowest_26 (W_M_nameOf _ _ _ hP) mi_X3_nameOf ml_X3_289 (by decide) (Nat.le_of_ble_eq_true rfl) rfl rfl rfl (fun r5 h6 hP => ?_)
      refine zV_istore (ls' := [zR 101, zI y1, zI y2, zI y3, zI y4, zI y5, zI r5]) dX3_addLowest_29 (Nat.le_of_ble_eq_true rfl) rfl rfl ?_
      refine zV_iload dX3_addLowest_31 rfl ?_
      refine zV_iload_n dX3_addLowest_33 rfl ?_
      refine zV_icmp_eq (tgt := 77) dX3_addLowest_34 (by decide) (fun c => ?_) (fun c => ?_)
      · have hP := zif_p hP c
        refine zV_mask [true, true, true, true, true, true, false] (ls' := [zR 101, zI y1, zI y2, zI y3, zI y4, zI y5, zU]) rfl ?_
        exact W_M_addLowest_J77 _ _ _ _ _ _ _ _ ih hP
      · have hP := zif_n hP c
        refine zV_aload_n dX3_addLowest_37 rfl ?_
        refine zV_sg dX3_addLowest_38 fm_101_69 sa_101 (by decide) fl_X3_134_3 rfl ?_
        refine zV_sipush dX3_addLowest_41 ⟨by decide, by decide, by decide⟩ ?_
        refine zV_iload_n dX3_addLowest_44 rfl ?_
        refine zV_imul dX3_addLowest_45 ?_
        refine zV_iload dX3_addLowest_46 rfl ?_
        refine zV_iadd dX3_addLowest_48 ?_
        obtain ⟨ob, hP⟩ := hP
        refine zV_ia dX3_addLowest_49 sa_143 ob ?_
        refine zV_iconst dX3_addLowest_50 ⟨by decide, by decide⟩ ?_
        refine zV_icmp_eq (tgt := 77) dX3_addLowest_51 (by decide) (fun c => ?_) (fun c => ?_)
        · have hP := zif_p hP c
          refine zV_mask [true, true, true, true, true, true, false] (ls' := [zR 101, zI y1, zI y2, zI y3, zI y4, zI y5, zU]) rfl ?_
          exact W_M_addLowest_J77 _ _ _ _ _ _ _ _ ih hP
        · have hP := zif_n hP c
          refine zV_aload_n dX3_addLowest_54 rfl ?_
          refine zV_sg dX3_addLowest_55 fm_101_70 sa_101 (by decide) fl_X3_137_3 rfl ?_
          refine zV_sipush dX3_addLowest_58 ⟨by decide, by decide, by decide⟩ ?_
          refine zV_iload_n dX3_addLowest_61 rfl ?_
          refine zV_imul dX3_addLowest_62 ?_
          refine zV_iload dX3_addLowest_63 rfl ?_
          refine zV_iadd dX3_addLowest_65 ?_
          obtain ⟨ob, hP⟩ := hP
          refine zV_ia dX3_addLowest_66 sa_144 ob ?_
          refine zV_if_ne (tgt := 77) dX3_addLowest_67 (by decide) (fun c => ?_) (fun c => ?_)
          · have hP := zif_n hP c
            refine zV_mask [true, true, true, true, true, true, false] (ls' := [zR 101, zI y1, zI y2, zI y3, zI y4, zI y5, zU]) rfl ?_
            exact W_M_addLowest_J77 _ _ _ _ _ _ _ _ ih hP
          · have hP := zif_p hP c
            refine zV_aload_n dX3_addLowest_70 rfl ?_
            refine zV_iload_n dX3_addLowest_71 rfl ?_
            refine zV_iload dX3_addLowest_72 rfl ?_
            refine zV_cVv (As := [zI y1, zI r5]) (rest := []) dX3_addLowest_74 sa_101 (W_M_addNameSources _ _ _ _ hP) mi_X3_addNameSources ml_X3_473 (by decide) (Nat.le_of_ble_eq_true rfl) rfl rfl (fun r8 h9 hP => ?_)
            refine zV_mask [true, true, true, true, true, true, false] (ls' := [zR 101, zI y1, zI y2, zI y3, zI y4, zI y5, zU]) rfl ?_
            exact W_M_addLowest_J77 _ _ _ _ _ _ _ _ ih hP
def P_M_addLowest (a1 : Int) (a2 : Int) (a3 : Int) (h : zH) (Q : Int → zH → Prop) : Prop :=
P_M_sizeOf a1 a2 h (fun r1 h2 =>
∃ n11, P_M_addLowest_L11 a1 a2 a3 r1 Q n11 0 h2)
theorem W_M_addLowest (a1 : Int) (a2 : Int) (a3 : Int) (h : zH) (Q : Int → zH → Prop) (hP : P_M_addLowest a1 a2 a3 h Q) : zC true zy_X3_addLowest 2 [zR 101, zI a1, zI a2, zI a3] h (zQ0 Q) := by
  unfold P_M_addLowest at hP
  refine zC.of (by decide) (Nat.le_of_ble_eq_true rfl) ?_
  show zV true zy_X3_addLowest 2 0 [zR 101, zI a1, zI a2, zI a3, zU, zU, zU] [] h (zQ0 Q)
  refine zV_aload_n dX3_addLowest_0 rfl ?_
  refine zV_iload_n dX3_addLowest_1 rfl ?_
  refine zV_iload_n dX3_addLowest_2 rfl ?_
  refine zV_cVk (As := [zI a1, zI a2]) (rest := []) dX3_addLowest_3 sa_101 (W_M_sizeOf _ _ _ _ hP) mi_X3_sizeOf ml_X3_377 (by decide) (Nat.le_of_ble_eq_true rfl) rfl rfl rfl (fun r1 h2 hP => ?_)
  refine zV_istore (ls' := [zR 101, zI a1, zI a2, zI a3, zI r1, zU, zU]) dX3_addLowest_6 (Nat.le_of_ble_eq_true rfl) rfl rfl ?_
  refine zV_iconst dX3_addLowest_8 ⟨by decide, by decide⟩ ?_
  refine zV_istore (ls' := [zR 101, zI a1, zI a2, zI a3, zI r1, zI 0, zU]) dX3_addLowest_9 (Nat.le_of_ble_eq_true rfl) rfl rfl ?_
  obtain ⟨n11, hP⟩ := hP
  refine W_M_addLowest_L11 _ _ _ _ _ n11 _ _ hP
def P_M_become_J100 (y1 : Int) (y2 : Int) (y3 : Int) (y4 : Int) (s0 : Int) (s1 : Int) (h : zH) (Q : Int → zH → Prop) : Prop :=
(0 ≤ s1 ∧ s1 < 602) ∧
∀ h3 : zH, h3 = zw h 143 s1 s0 →
(0 ≤ y1 ∧ y1 < 2) ∧
(0 ≤ w32 ((w32 (301 * y1)) + y4) ∧ w32 ((w32 (301 * y1)) + y4) < 602) ∧
∀ h4 : zH, h4 = zw h3 144 (w32 ((w32 (301 * y1)) + y4)) (zd h3 151 y1) →
(0 ≤ w32 ((w32 (301 * y1)) + y4) ∧ w32 ((w32 (301 * y1)) + y4) < 602) ∧
∀ h5 : zH, h5 = zw h4 145 (w32 ((w32 (301 * y1)) + y4)) y3 →
(0 ≤ y1 ∧ y1 < 2) ∧
(0 ≤ w32 ((w32 (300 * y1)) + (zd h5 150 y1)) ∧ w32 ((w32 (300 * y1)) + (zd h5 150 y1)) < 600) ∧
∀ h6 : zH, h6 = zw h5 149 (w32 ((w32 (300 * y1)) + (zd h5 150 y1))) y2 →
(0 ≤ y1 ∧ y1 < 2) ∧
(0 ≤ y1 ∧ y1 < 2) ∧
∀ h7 : zH, h7 = zw h6 150 y1 (w32 ((zd h6 150 y1) + 1)) →
Q 0 h7
theorem W_M_become_J100 (y1 : Int) (y2 : Int) (y3 : Int) (y4 : Int) (s0 : Int) (s1 : Int) (h : zH) (Q : Int → zH → Prop) (hP : P_M_become_J100 y1 y2 y3 y4 s0 s1 h Q) : zV true zy_X3_become 3 100 [zR 101, zI y1, zI y2, zI y3, zI y4, zU] [zI s0, zI s1, zR 143] h (zQ0 Q) := by
  unfold P_M_become_J100 at hP
  obtain ⟨ob, hP⟩ := hP
  refine zV_ias dX3_become_100 sa_143 ob (fun h3 e_h3 => ?_)
  have hP := hP h3 e_h3
  refine zV_aload_n dX3_become_101 rfl ?_
  refine zV_sg dX3_become_102 fm_101_70 sa_101 (by decide) fl_X3_137_3 rfl ?_
  refine zV_sipush dX3_become_105 ⟨by decide, by decide, by decide⟩ ?_
  refine zV_iload_n dX3_become_108 rfl ?_
  refine zV_imul dX3_become_109 ?_
  refine zV_iload dX3_become_110 rfl ?_
  refine zV_iadd dX3_become_112 ?_
  refine zV_aload_n dX3_become_113 rfl ?_
  refine zV_sg dX3_become_114 fm_101_77 sa_101 (by decide) fl_X3_159_3 rfl ?_
  refine zV_iload_n dX3_become_117 rfl ?_
  obtain ⟨ob, hP⟩ := hP
  refine zV_ia dX3_become_118 sa_151 ob ?_
  obtain ⟨ob, hP⟩ := hP
  refine zV_ias dX3_become_119 sa_144 ob (fun h4 e_h4 => ?_)
  have hP := hP h4 e_h4
  refine zV_aload_n dX3_become_120 rfl ?_
  refine zV_sg dX3_become_121 fm_101_71 sa_101 (by decide) fl_X3_140_3 rfl ?_
  refine zV_sipush dX3_become_124 ⟨by decide, by decide, by decide⟩ ?_
  refine zV_iload_n dX3_become_127 rfl ?_
  refine zV_imul dX3_become_128 ?_
  refine zV_iload dX3_become_129 rfl ?_
  refine zV_iadd dX3_become_131 ?_
  refine zV_iload_n dX3_become_132 rfl ?_
  obtain ⟨ob, hP⟩ := hP
  refine zV_ias dX3_become_133 sa_145 ob (fun h5 e_h5 => ?_)
  have hP := hP h5 e_h5
  refine zV_aload_n dX3_become_134 rfl ?_
  refine zV_sg dX3_become_135 fm_101_75 sa_101 (by decide) fl_X3_153_3 rfl ?_
  refine zV_sipush dX3_become_138 ⟨by decide, by decide, by decide⟩ ?_
  refine zV_iload_n dX3_become_141 rfl ?_
  refine zV_imul dX3_become_142 ?_
  refine zV_aload_n dX3_become_143 rfl ?_
  refine zV_sg dX3_become_144 fm_101_76 sa_101 (by decide) fl_X3_156_3 rfl ?_
  refine zV_iload_n dX3_become_147 rfl ?_
  obtain ⟨ob, hP⟩ := hP
  refine zV_ia dX3_become_148 sa_150 ob ?_
  refine zV_iadd dX3_become_149 ?_
  refine zV_iload_n dX3_become_150 rfl ?_
  obtain ⟨ob, hP⟩ := hP
  refine zV_ias dX3_become_151 sa_149 ob (fun h6 e_h6 => ?_)
  have hP := hP h6 e_h6
  refine zV_aload_n dX3_become_152 rfl ?_
  refine zV_sg dX3_become_153 fm_101_76 sa_101 (by decide) fl_X3_156_3 rfl ?_
  refine zV_iload_n dX3_become_156 rfl ?_
  refine zV_dup2 dX3_become_157 (Nat.ne_of_beq_eq_false rfl) (Nat.ne_of_beq_eq_false rfl) ?_
  obtain ⟨ob, hP⟩ := hP
  refine zV_ia dX3_become_158 sa_150 ob ?_
  refine zV_iconst dX3_become_159 ⟨by decide, by decide⟩ ?_
  refine zV_iadd dX3_become_160 ?_
  obtain ⟨ob, hP⟩ := hP
  refine zV_ias dX3_become_161 sa_150 ob (fun h7 e_h7 => ?_)
  have hP := hP h7 e_h7
  exact zV_return dX3_become_162 rfl ⟨rfl, hP⟩
def P_M_become_J79 (y1 : Int) (y2 : Int) (y3 : Int) (y4 : Int) (h : zH) (Q : Int → zH → Prop) : Prop :=
P_M_become_J100 y1 y2 y3 y4 (if y2 ≤ 0 then 0 else 1) (w32 ((w32 (301 * y1)) + y4)) h Q
theorem W_M_become_J79 (y1 : Int) (y2 : Int) (y3 : Int) (y4 : Int) (h : zH) (Q : Int → zH → Prop) (hP : P_M_become_J79 y1 y2 y3 y4 h Q) : zV true zy_X3_become 3 79 [zR 101, zI y1, zI y2, zI y3, zI y4, zU] [] h (zQ0 Q) := by
  unfold P_M_become_J79 at hP
  refine zV_aload_n dX3_become_79 rfl ?_
  refine zV_sg dX3_become_80 fm_101_69 sa_101 (by decide) fl_X3_134_3 rfl ?_
  refine zV_sipush dX3_become_83 ⟨by decide, by decide, by decide⟩ ?_
  refine zV_iload_n dX3_become_86 rfl ?_
  refine zV_imul dX3_become_87 ?_
  refine zV_iload dX3_become_88 rfl ?_
  refine zV_iadd dX3_become_90 ?_
  refine zV_iload_n dX3_become_91 rfl ?_
  have K : zV true zy_X3_become 3 100 [zR 101, zI y1, zI y2, zI y3, zI y4, zU] [zI (if y2 ≤ 0 then 0 else 1), zI (w32 ((w32 (301 * y1)) + y4)), zR 143] h (zQ0 Q) := by
    exact W_M_become_J100 _ _ _ _ _ _ _ _ hP
  clear hP
  refine zV_if_le (tgt := 99) dX3_become_92 (by decide) (fun c => ?_) (fun c => ?_)
  · try simp only [if_pos c] at K
    refine zV_iconst dX3_become_99 ⟨by decide, by decide⟩ ?_
    refine zV_mask [true, true, true, true, true, false] rfl ?_
    exact K
  · try simp only [if_neg c] at K
    refine zV_iconst dX3_become_95 ⟨by decide, by decide⟩ ?_
    refine zV_goto (tgt := 100) dX3_become_96 (by decide) ?_
    refine zV_mask [true, true, true, true, true, false] rfl ?_
    exact K
def P_M_become_L40 (y1 : Int) (y2 : Int) (y3 : Int) (y4 : Int) (Q : Int → zH → Prop) (k79 : zH → Prop) : Nat → Int → zH → Prop
| 0, _, _ => False
| n40 + 1, y5, h =>
if 8 ≤ y5 then
(k79 h)
else
((0 ≤ y5 ∧ y5 < 8) ∧
(0 ≤ w32 ((w32 (8 * (w32 ((w32 (301 * y1)) + y4)))) + y5) ∧ w32 ((w32 (8 * (w32 ((w32 (301 * y1)) + y4)))) + y5) < 4816) ∧
∀ h14 : zH, h14 = zw h 159 (w32 ((w32 (8 * (w32 ((w32 (301 * y1)) + y4)))) + y5)) (zd h 160 y5) →
∀ x5_15 : Int, x5_15 = w32 (y5 + 1) →
P_M_become_L40 y1 y2 y3 y4 Q k79 n40 x5_15 h14)
theorem W_M_become_L40 (y1 : Int) (y2 : Int) (y3 : Int) (y4 : Int) (Q : Int → zH → Prop) (k79 : zH → Prop) (H79 : ∀ (h' : zH), k79 h' → zV true zy_X3_become 3 79 [zR 101, zI y1, zI y2, zI y3, zI y4, zU] [] h' (zQ0 Q)) : ∀ (n40 : Nat) (y5 : Int) (h : zH), P_M_become_L40 y1 y2 y3 y4 Q k79 n40 y5 h → zV true zy_X3_become 3 40 [zR 101, zI y1, zI y2, zI y3, zI y4, zI y5] [] h (zQ0 Q) := by
  intro n40
  induction n40 with
  | zero => intro y5 h hP; exact absurd hP id
  | succ n40 ih =>
    intro y5 h hP
    unfold P_M_become_L40 at hP
    refine zV_iload dX3_become_40 rfl ?_
    refine zV_bipush dX3_become_42 ⟨by decide, by decide, by decide⟩ ?_
    refine zV_icmp_ge (tgt := 79) dX3_become_44 (by decide) (fun c => ?_) (fun c => ?_)
    · have hP := zif_p hP c
      refine zV_mask [true, true, true, true, true, false] (ls' := [zR 101, zI y1, zI y2, zI y3, zI y4, zU]) rfl ?_
      exact H79 _ hP
    · have hP := zif_n hP c
      refine zV_aload_n dX3_become_47 rfl ?_
      refine zV_sg dX3_become_48 fm_101_85 sa_101 (by decide) fl_X3_183_3 rfl ?_
      refine zV_bipush dX3_become_51 ⟨by decide, by decide, by decide⟩ ?_
      refine zV_sipush dX3_become_53 ⟨by decide, by decide, by decide⟩ ?_
      refine zV_iload_n dX3_become_56 rfl ?_
      refine zV_imul dX3_become_57 ?_
      refine zV_iload dX3_become_58 rfl ?_
      refine zV_iadd dX3_become_60 ?_
      refine zV_imul dX3_become_61 ?_
      refine zV_iload dX3_become_62 rfl ?_
      refine zV_iadd dX3_become_64 ?_
      refine zV_aload_n dX3_become_65 rfl ?_
      refine zV_sg dX3_become_66 fm_101_86 sa_101 (by decide) fl_X3_186_3 rfl ?_
      refine zV_iload dX3_become_69 rfl ?_
      obtain ⟨ob, hP⟩ := hP
      refine zV_la dX3_become_71 sa_160 ob ?_
      obtain ⟨ob, hP⟩ := hP
      refine zV_las dX3_become_72 sa_159 ob (fun h14 e_h14 => ?_)
      have hP := hP h14 e_h14
      refine zV_inc (ls' := fun z => [zR 101, zI y1, zI y2, zI y3, zI y4, zI z]) dX3_become_73 (Nat.le_of_ble_eq_true rfl) rfl rfl (fun _ => rfl) (fun x5_15 e_x5_15 => ?_)
      have hP := hP x5_15 e_x5_15
      refine zV_goto (tgt := 40) dX3_become_76 (by decide) ?_
      exact ih _ _ hP
def P_M_become (a1 : Int) (a2 : Int) (a3 : Int) (h : zH) (Q : Int → zH → Prop) : Prop :=
P_M_nameOf a2 h (fun r1 h2 =>
(0 ≤ a1 ∧ a1 < 2) ∧
if zd h2 151 a1 = 0 then
(if a3 < 0 then
(P_M_become_J79 a1 a2 a3 r1 h2 Q)
else
(P_M_clearSources h2 (fun r8 h9 =>
P_M_addSources a1 a3 h9 (fun r10 h11 =>
P_M_addLowest a1 a3 r1 h11 (fun r12 h13 =>
∃ n40, P_M_become_L40 a1 a2 a3 r1 Q (fun h16 =>
P_M_become_J79 a1 a2 a3 r1 h16 Q) n40 0 h13)))))
else
(P_M_become_J79 a1 a2 a3 r1 h2 Q))
theorem W_M_become (a1 : Int) (a2 : Int) (a3 : Int) (h : zH) (Q : Int → zH → Prop) (hP : P_M_become a1 a2 a3 h Q) : zC true zy_X3_become 3 [zR 101, zI a1, zI a2, zI a3] h (zQ0 Q) := by
  unfold P_M_become at hP
  refine zC.of (by decide) (Nat.le_of_ble_eq_true rfl) ?_
  show zV true zy_X3_become 3 0 [zR 101, zI a1, zI a2, zI a3, zU, zU] [] h (zQ0 Q)
  refine zV_iload_n dX3_become_0 rfl ?_
  refine zV_cSk (As := [zI a2]) (rest := []) dX3_become_1 (W_M_nameOf _ _ _ hP) mi_X3_nameOf ml_X3_289 (by decide) (Nat.le_of_ble_eq_true rfl) rfl rfl rfl (fun r1 h2 hP => ?_)
  refine zV_istore (ls' := [zR 101, zI a1, zI a2, zI a3, zI r1, zU]) dX3_become_4 (Nat.le_of_ble_eq_true rfl) rfl rfl ?_
  refine zV_aload_n dX3_become_6 rfl ?_
  refine zV_sg dX3_become_7 fm_101_77 sa_101 (by decide) fl_X3_159_3 rfl ?_
  refine zV_iload_n dX3_become_10 rfl ?_
  obtain ⟨ob, hP⟩ := hP
  refine zV_ia dX3_become_11 sa_151 ob ?_
  refine zV_if_ne (tgt := 79) dX3_become_12 (by decide) (fun c => ?_) (fun c => ?_)
  · have hP := zif_n hP c
    exact W_M_become_J79 _ _ _ _ _ _ hP
  · have hP := zif_p hP c
    refine zV_iload_n dX3_become_15 rfl ?_
    refine zV_if_lt (tgt := 79) dX3_become_16 (by decide) (fun c => ?_) (fun c => ?_)
    · have hP := zif_p hP c
      exact W_M_become_J79 _ _ _ _ _ _ hP
    · have hP := zif_n hP c
      refine zV_aload_n dX3_become_19 rfl ?_
      refine zV_cVv (As := []) (rest := []) dX3_become_20 sa_101 (W_M_clearSources _ _ hP) mi_X3_clearSources ml_X3_476 (by decide) (Nat.le_of_ble_eq_true rfl) rfl rfl (fun r8 h9 hP => ?_)
      refine zV_aload_n dX3_become_23 rfl ?_
      refine zV_iload_n dX3_become_24 rfl ?_
      refine zV_iload_n dX3_become_25 rfl ?_
      refine zV_cVv (As := [zI a1, zI a3]) (rest := []) dX3_become_26 sa_101 (W_M_addSources _ _ _ _ hP) mi_X3_addSources ml_X3_479 (by decide) (Nat.le_of_ble_eq_true rfl) rfl rfl (fun r10 h11 hP => ?_)
      refine zV_aload_n dX3_become_29 rfl ?_
      refine zV_iload_n dX3_become_30 rfl ?_
      refine zV_iload_n dX3_become_31 rfl ?_
      refine zV_iload dX3_become_32 rfl ?_
      refine zV_cVv (As := [zI a1, zI a3, zI r1]) (rest := []) dX3_become_34 sa_101 (W_M_addLowest _ _ _ _ _ hP) mi_X3_addLowest ml_X3_482 (by decide) (Nat.le_of_ble_eq_true rfl) rfl rfl (fun r12 h13 hP => ?_)
      refine zV_iconst dX3_become_37 ⟨by decide, by decide⟩ ?_
      refine zV_istore (ls' := [zR 101, zI a1, zI a2, zI a3, zI r1, zI 0]) dX3_become_38 (Nat.le_of_ble_eq_true rfl) rfl rfl ?_
      obtain ⟨n40, hP⟩ := hP
      refine W_M_become_L40 _ _ _ _ _ _ (fun h16 hP => ?_) n40 _ _ hP
      exact W_M_become_J79 _ _ _ _ _ _ hP
def P_M_hasRoom (a1 : Int) (a2 : Int) (h : zH) (Q : Int → zH → Prop) : Prop :=
(0 ≤ a1 ∧ a1 < 2) ∧
(if 800 ≤ zd h 154 a1 then True else (0 ≤ a1 ∧ a1 < 2) ∧ (0 ≤ w32 ((w32 (801 * a1)) + (zd h 154 a1)) ∧ w32 ((w32 (801 * a1)) + (zd h 154 a1)) < 1602) ∧ True) ∧
Q (if 800 ≤ zd h 154 a1 then 0 else if 8000 < w32 ((zd h 152 (w32 ((w32 (801 * a1)) + (zd h 154 a1)))) + a2) then 0 else 1) h
theorem W_M_hasRoom (a1 : Int) (a2 : Int) (h : zH) (Q : Int → zH → Prop) (hP : P_M_hasRoom a1 a2 h Q) : zC true zy_X3_hasRoom 1 [zR 101, zI a1, zI a2] h (zQ0 Q) := by
  unfold P_M_hasRoom at hP
  refine zC.of (by decide) (Nat.le_of_ble_eq_true rfl) ?_
  show zV true zy_X3_hasRoom 1 0 [zR 101, zI a1, zI a2] [] h (zQ0 Q)
  refine zV_aload_n dX3_hasRoom_0 rfl ?_
  refine zV_sg dX3_hasRoom_1 fm_101_80 sa_101 (by decide) fl_X3_168_3 rfl ?_
  refine zV_iload_n dX3_hasRoom_4 rfl ?_
  obtain ⟨ob, hP⟩ := hP
  refine zV_ia dX3_hasRoom_5 sa_154 ob ?_
  refine zV_sipush dX3_hasRoom_6 ⟨by decide, by decide, by decide⟩ ?_
  obtain ⟨hO, hP⟩ := hP
  have K : zV true zy_X3_hasRoom 1 42 [zU, zU, zU] [zI (if 800 ≤ zd h 154 a1 then 0 else if 8000 < w32 ((zd h 152 (w32 ((w32 (801 * a1)) + (zd h 154 a1)))) + a2) then 0 else 1)] h (zQ0 Q) := by
    exact zV_ireturn dX3_hasRoom_42 rfl rfl (z01 (z01_if z0 (z01_if z0 z1))) ⟨rfl, hP⟩
  clear hP
  refine zV_icmp_ge (tgt := 41) dX3_hasRoom_9 (by decide) (fun c => ?_) (fun c => ?_)
  · try simp only [if_pos c] at K
    have hO := zif_p hO c
    refine zV_iconst dX3_hasRoom_41 ⟨by decide, by decide⟩ ?_
    refine zV_mask [false, false, false] rfl ?_
    exact K
  · try simp only [if_neg c] at K
    have hO := zif_n hO c
    refine zV_aload_n dX3_hasRoom_12 rfl ?_
    refine zV_sg dX3_hasRoom_13 fm_101_78 sa_101 (by decide) fl_X3_162_3 rfl ?_
    refine zV_sipush dX3_hasRoom_16 ⟨by decide, by decide, by decide⟩ ?_
    refine zV_iload_n dX3_hasRoom_19 rfl ?_
    refine zV_imul dX3_hasRoom_20 ?_
    refine zV_aload_n dX3_hasRoom_21 rfl ?_
    refine zV_sg dX3_hasRoom_22 fm_101_80 sa_101 (by decide) fl_X3_168_3 rfl ?_
    refine zV_iload_n dX3_hasRoom_25 rfl ?_
    obtain ⟨ob, hO⟩ := hO
    refine zV_ia dX3_hasRoom_26 sa_154 ob ?_
    refine zV_iadd dX3_hasRoom_27 ?_
    obtain ⟨ob, hO⟩ := hO
    refine zV_ia dX3_hasRoom_28 sa_152 ob ?_
    refine zV_iload_n dX3_hasRoom_29 rfl ?_
    refine zV_iadd dX3_hasRoom_30 ?_
    refine zV_sipush dX3_hasRoom_31 ⟨by decide, by decide, by decide⟩ ?_
    refine zV_icmp_gt (tgt := 41) dX3_hasRoom_34 (by decide) (fun c => ?_) (fun c => ?_)
    · try simp only [if_pos c] at K
      refine zV_iconst dX3_hasRoom_41 ⟨by decide, by decide⟩ ?_
      refine zV_mask [false, false, false] rfl ?_
      exact K
    · try simp only [if_neg c] at K
      refine zV_iconst dX3_hasRoom_37 ⟨by decide, by decide⟩ ?_
      refine zV_goto (tgt := 42) dX3_hasRoom_38 (by decide) ?_
      refine zV_mask [false, false, false] rfl ?_
      exact K
def P_M_record_L24 (y1 : Int) (y2 : Int) (y3 : Int) (y4 : Int) (Q : Int → zH → Prop) (k59 : zH → Prop) : Nat → Int → zH → Prop
| 0, _, _ => False
| n24 + 1, y5, h =>
if y2 ≤ y5 then
(k59 h)
else
((0 ≤ y5 ∧ y5 < 320) ∧
(0 ≤ w32 ((w32 ((w32 (8050 * y1)) + y4)) + y5) ∧ w32 ((w32 ((w32 (8050 * y1)) + y4)) + y5) < 16100) ∧
∀ h3 : zH, h3 = zw h 153 (w32 ((w32 ((w32 (8050 * y1)) + y4)) + y5)) (zd h 167 y5) →
∀ x5_4 : Int, x5_4 = w32 (y5 + 1) →
P_M_record_L24 y1 y2 y3 y4 Q k59 n24 x5_4 h3)
theorem W_M_record_L24 (y1 : Int) (y2 : Int) (y3 : Int) (y4 : Int) (Q : Int → zH → Prop) (k59 : zH → Prop) (H59 : ∀ (h' : zH), k59 h' → zV true zy_X3_record 1 59 [zR 101, zI y1, zI y2, zI y3, zI y4, zU] [] h' (zQ0 Q)) : ∀ (n24 : Nat) (y5 : Int) (h : zH), P_M_record_L24 y1 y2 y3 y4 Q k59 n24 y5 h → zV true zy_X3_record 1 24 [zR 101, zI y1, zI y2, zI y3, zI y4, zI y5] [] h (zQ0 Q) := by
  intro n24
  induction n24 with
  | zero => intro y5 h hP; exact absurd hP id
  | succ n24 ih =>
    intro y5 h hP
    unfold P_M_record_L24 at hP
    refine zV_iload dX3_record_24 rfl ?_
    refine zV_iload_n dX3_record_26 rfl ?_
    refine zV_icmp_ge (tgt := 59) dX3_record_27 (by decide) (fun c => ?_) (fun c => ?_)
    · have hP := zif_p hP c
      refine zV_mask [true, true, true, true, true, false] (ls' := [zR 101, zI y1, zI y2, zI y3, zI y4, zU]) rfl ?_
      exact H59 _ hP
    · have hP := zif_n hP c
      refine zV_aload_n dX3_record_30 rfl ?_
      refine zV_sg dX3_record_31 fm_101_79 sa_101 (by decide) fl_X3_165_3 rfl ?_
      refine zV_sipush dX3_record_34 ⟨by decide, by decide, by decide⟩ ?_
      refine zV_iload_n dX3_record_37 rfl ?_
      refine zV_imul dX3_record_38 ?_
      refine zV_iload dX3_record_39 rfl ?_
      refine zV_iadd dX3_record_41 ?_
      refine zV_iload dX3_record_42 rfl ?_
      refine zV_iadd dX3_record_44 ?_
      refine zV_aload_n dX3_record_45 rfl ?_
      refine zV_sg dX3_record_46 fm_101_101 sa_101 (by decide) fl_X3_207_3 rfl ?_
      refine zV_iload dX3_record_49 rfl ?_
      obtain ⟨ob, hP⟩ := hP
      refine zV_ia dX3_record_51 sa_167 ob ?_
      obtain ⟨ob, hP⟩ := hP
      refine zV_ias dX3_record_52 sa_153 ob (fun h3 e_h3 => ?_)
      have hP := hP h3 e_h3
      refine zV_inc (ls' := fun z => [zR 101, zI y1, zI y2, zI y3, zI y4, zI z]) dX3_record_53 (Nat.le_of_ble_eq_true rfl) rfl rfl (fun _ => rfl) (fun x5_4 e_x5_4 => ?_)
      have hP := hP x5_4 e_x5_4
      refine zV_goto (tgt := 24) dX3_record_56 (by decide) ?_
      exact ih _ _ hP
def P_M_record_L80 (y1 : Int) (y3 : Int) (Q : Int → zH → Prop) : Nat → Int → zH → Prop
| 0, _, _ => False
| n80 + 1, y5, h =>
if 8 ≤ y5 then
((0 ≤ y1 ∧ y1 < 2) ∧
(0 ≤ y1 ∧ y1 < 2) ∧
∀ h7 : zH, h7 = zw h 154 y1 (w32 ((zd h 154 y1) + 1)) →
Q 0 h7)
else
((0 ≤ y5 ∧ y5 < 8) ∧
(0 ≤ w32 ((w32 (8 * (w32 ((w32 (800 * y1)) + y3)))) + y5) ∧ w32 ((w32 (8 * (w32 ((w32 (800 * y1)) + y3)))) + y5) < 12800) ∧
∀ h8 : zH, h8 = zw h 158 (w32 ((w32 (8 * (w32 ((w32 (800 * y1)) + y3)))) + y5)) (zd h 160 y5) →
∀ x5_9 : Int, x5_9 = w32 (y5 + 1) →
P_M_record_L80 y1 y3 Q n80 x5_9 h8)
theorem W_M_record_L80 (y1 : Int) (y3 : Int) (Q : Int → zH → Prop) : ∀ (n80 : Nat) (y5 : Int) (h : zH), P_M_record_L80 y1 y3 Q n80 y5 h → zV true zy_X3_record 1 80 [zR 101, zI y1, zU, zI y3, zU, zI y5] [] h (zQ0 Q) := by
  intro n80
  induction n80 with
  | zero => intro y5 h hP; exact absurd hP id
  | succ n80 ih =>
    intro y5 h hP
    unfold P_M_record_L80 at hP
    refine zV_iload dX3_record_80 rfl ?_
    refine zV_bipush dX3_record_82 ⟨by decide, by decide, by decide⟩ ?_
    refine zV_icmp_ge (tgt := 118) dX3_record_84 (by decide) (fun c => ?_) (fun c => ?_)
    · have hP := zif_p hP c
      refine zV_aload_n dX3_record_118 rfl ?_
      refine zV_sg dX3_record_119 fm_101_80 sa_101 (by decide) fl_X3_168_3 rfl ?_
      refine zV_iload_n dX3_record_122 rfl ?_
      refine zV_dup2 dX3_record_123 (Nat.ne_of_beq_eq_false rfl) (Nat.ne_of_beq_eq_false rfl) ?_
      obtain ⟨ob, hP⟩ := hP
      refine zV_ia dX3_record_124 sa_154 ob ?_
      refine zV_iconst dX3_record_125 ⟨by decide, by decide⟩ ?_
      refine zV_iadd dX3_record_126 ?_
      obtain ⟨ob, hP⟩ := hP
      refine zV_ias dX3_record_127 sa_154 ob (fun h7 e_h7 => ?_)
      have hP := hP h7 e_h7
      exact zV_return dX3_record_128 rfl ⟨rfl, hP⟩
    · have hP := zif_n hP c
      refine zV_aload_n dX3_record_87 rfl ?_
      refine zV_sg dX3_record_88 fm_101_84 sa_101 (by decide) fl_X3_180_3 rfl ?_
      refine zV_bipush dX3_record_91 ⟨by decide, by decide, by decide⟩ ?_
      refine zV_sipush dX3_record_93 ⟨by decide, by decide, by decide⟩ ?_
      refine zV_iload_n dX3_record_96 rfl ?_
      refine zV_imul dX3_record_97 ?_
      refine zV_iload_n dX3_record_98 rfl ?_
      refine zV_iadd dX3_record_99 ?_
      refine zV_imul dX3_record_100 ?_
      refine zV_iload dX3_record_101 rfl ?_
      refine zV_iadd dX3_record_103 ?_
      refine zV_aload_n dX3_record_104 rfl ?_
      refine zV_sg dX3_record_105 fm_101_86 sa_101 (by decide) fl_X3_186_3 rfl ?_
      refine zV_iload dX3_record_108 rfl ?_
      obtain ⟨ob, hP⟩ := hP
      refine zV_la dX3_record_110 sa_160 ob ?_
      obtain ⟨ob, hP⟩ := hP
      refine zV_las dX3_record_111 sa_158 ob (fun h8 e_h8 => ?_)
      have hP := hP h8 e_h8
      refine zV_inc (ls' := fun z => [zR 101, zI y1, zU, zI y3, zU, zI z]) dX3_record_112 (Nat.le_of_ble_eq_true rfl) rfl rfl (fun _ => rfl) (fun x5_9 e_x5_9 => ?_)
      have hP := hP x5_9 e_x5_9
      refine zV_goto (tgt := 80) dX3_record_115 (by decide) ?_
      exact ih _ _ hP
def P_M_record (a1 : Int) (a2 : Int) (h : zH) (Q : Int → zH → Prop) : Prop :=
(0 ≤ a1 ∧ a1 < 2) ∧
∀ x3_1 : Int, x3_1 = (zd h 154 a1) →
(0 ≤ w32 ((w32 (801 * a1)) + x3_1) ∧ w32 ((w32 (801 * a1)) + x3_1) < 1602) ∧
∀ x4_2 : Int, x4_2 = (zd h 152 (w32 ((w32 (801 * a1)) + x3_1))) →
∃ n24, P_M_record_L24 a1 a2 x3_1 x4_2 Q (fun h5 =>
(0 ≤ w32 ((w32 ((w32 (801 * a1)) + x3_1)) + 1) ∧ w32 ((w32 ((w32 (801 * a1)) + x3_1)) + 1) < 1602) ∧
∀ h6 : zH, h6 = zw h5 152 (w32 ((w32 ((w32 (801 * a1)) + x3_1)) + 1)) (w32 (x4_2 + a2)) →
∃ n80, P_M_record_L80 a1 x3_1 Q n80 0 h6) n24 0 h
theorem W_M_record (a1 : Int) (a2 : Int) (h : zH) (Q : Int → zH → Prop) (hP : P_M_record a1 a2 h Q) : zC true zy_X3_record 1 [zR 101, zI a1, zI a2] h (zQ0 Q) := by
  unfold P_M_record at hP
  refine zC.of (by decide) (Nat.le_of_ble_eq_true rfl) ?_
  show zV true zy_X3_record 1 0 [zR 101, zI a1, zI a2, zU, zU, zU] [] h (zQ0 Q)
  refine zV_aload_n dX3_record_0 rfl ?_
  refine zV_sg dX3_record_1 fm_101_80 sa_101 (by decide) fl_X3_168_3 rfl ?_
  refine zV_iload_n dX3_record_4 rfl ?_
  obtain ⟨ob, hP⟩ := hP
  refine zV_ia dX3_record_5 sa_154 ob ?_
  refine zV_top (fun x3_1 e_x3_1 => ?_)
  have hP := hP x3_1 e_x3_1
  refine zV_istore_n (ls' := [zR 101, zI a1, zI a2, zI x3_1, zU, zU]) dX3_record_6 rfl (Nat.le_of_ble_eq_true rfl) rfl rfl ?_
  refine zV_aload_n dX3_record_7 rfl ?_
  refine zV_sg dX3_record_8 fm_101_78 sa_101 (by decide) fl_X3_162_3 rfl ?_
  refine zV_sipush dX3_record_11 ⟨by decide, by decide, by decide⟩ ?_
  refine zV_iload_n dX3_record_14 rfl ?_
  refine zV_imul dX3_record_15 ?_
  refine zV_iload_n dX3_record_16 rfl ?_
  refine zV_iadd dX3_record_17 ?_
  obtain ⟨ob, hP⟩ := hP
  refine zV_ia dX3_record_18 sa_152 ob ?_
  refine zV_top (fun x4_2 e_x4_2 => ?_)
  have hP := hP x4_2 e_x4_2
  refine zV_istore (ls' := [zR 101, zI a1, zI a2, zI x3_1, zI x4_2, zU]) dX3_record_19 (Nat.le_of_ble_eq_true rfl) rfl rfl ?_
  refine zV_iconst dX3_record_21 ⟨by decide, by decide⟩ ?_
  refine zV_istore (ls' := [zR 101, zI a1, zI a2, zI x3_1, zI x4_2, zI 0]) dX3_record_22 (Nat.le_of_ble_eq_true rfl) rfl rfl ?_
  obtain ⟨n24, hP⟩ := hP
  refine W_M_record_L24 _ _ _ _ _ _ (fun h5 hP => ?_) n24 _ _ hP
  refine zV_aload_n dX3_record_59 rfl ?_
  refine zV_sg dX3_record_60 fm_101_78 sa_101 (by decide) fl_X3_162_3 rfl ?_
  refine zV_sipush dX3_record_63 ⟨by decide, by decide, by decide⟩ ?_
  refine zV_iload_n dX3_record_66 rfl ?_
  refine zV_imul dX3_record_67 ?_
  refine zV_iload_n dX3_record_68 rfl ?_
  refine zV_iadd dX3_record_69 ?_
  refine zV_iconst dX3_record_70 ⟨by decide, by decide⟩ ?_
  refine zV_iadd dX3_record_71 ?_
  refine zV_iload dX3_record_72 rfl ?_
  refine zV_iload_n dX3_record_74 rfl ?_
  refine zV_iadd dX3_record_75 ?_
  obtain ⟨ob, hP⟩ := hP
  refine zV_ias dX3_record_76 sa_152 ob (fun h6 e_h6 => ?_)
  have hP := hP h6 e_h6
  refine zV_iconst dX3_record_77 ⟨by decide, by decide⟩ ?_
  refine zV_istore (ls' := [zR 101, zI a1, zI a2, zI x3_1, zI x4_2, zI 0]) dX3_record_78 (Nat.le_of_ble_eq_true rfl) rfl rfl ?_
  obtain ⟨n80, hP⟩ := hP
  refine zV_mask [true, true, false, true, false, true] (ls' := [zR 101, zI a1, zU, zI x3_1, zU, zI 0]) rfl ?_
  refine W_M_record_L80 _ _ _ n80 _ _ hP
def P_M_keepCore_J61 (y2 : Int) (h : zH) (Q : Int → zH → Prop) (k13 : Int → zH → Prop) : Prop :=
∀ x2_2 : Int, x2_2 = w32 (y2 + 1) →
k13 x2_2 h
theorem W_M_keepCore_J61 (y2 : Int) (h : zH) (Q : Int → zH → Prop) (k13 : Int → zH → Prop) (H13 : ∀ (v2 : Int) (h' : zH), k13 v2 h' → zV true zy_X3_keepCore 1 13 [zR 101, zU, zI v2] [] h' (zQ0 Q)) (hP : P_M_keepCore_J61 y2 h Q k13) : zV true zy_X3_keepCore 1 61 [zR 101, zU, zI y2] [] h (zQ0 Q) := by
  unfold P_M_keepCore_J61 at hP
  refine zV_inc (ls' := fun z => [zR 101, zU, zI z]) dX3_keepCore_61 (Nat.le_of_ble_eq_true rfl) rfl rfl (fun _ => rfl) (fun x2_2 e_x2_2 => ?_)
  have hP := hP x2_2 e_x2_2
  refine zV_goto (tgt := 13) dX3_keepCore_64 (by decide) ?_
  exact H13 _ _ hP
def P_M_keepCore_L13 (Q : Int → zH → Prop) : Nat → Int → zH → Prop
| 0, _, _ => False
| n13 + 1, y2, h =>
if 500 ≤ y2 then
(Q 0 h)
else
((0 ≤ w32 (Int.tdiv y2 64) ∧ w32 (Int.tdiv y2 64) < 8) ∧
if zcmp (zland (zlshr (zd h 160 (w32 (Int.tdiv y2 64))) (Int.tmod y2 64)) 1) 1 = 0 then
((0 ≤ zd h 101 94 ∧ zd h 101 94 < 500) ∧
∀ h3 : zH, h3 = zw h 165 (zd h 101 94) y2 →
∀ h4 : zH, h4 = zw h3 101 94 (w32 ((zd h3 101 94) + 1)) →
P_M_keepCore_J61 y2 h4 Q (P_M_keepCore_L13 Q n13))
else
(P_M_keepCore_J61 y2 h Q (P_M_keepCore_L13 Q n13)))
theorem W_M_keepCore_L13 (Q : Int → zH → Prop) : ∀ (n13 : Nat) (y2 : Int) (h : zH), P_M_keepCore_L13 Q n13 y2 h → zV true zy_X3_keepCore 1 13 [zR 101, zU, zI y2] [] h (zQ0 Q) := by
  intro n13
  induction n13 with
  | zero => intro y2 h hP; exact absurd hP id
  | succ n13 ih =>
    intro y2 h hP
    unfold P_M_keepCore_L13 at hP
    refine zV_iload_n dX3_keepCore_13 rfl ?_
    refine zV_sipush dX3_keepCore_14 ⟨by decide, by decide, by decide⟩ ?_
    refine zV_icmp_ge (tgt := 67) dX3_keepCore_17 (by decide) (fun c => ?_) (fun c => ?_)
    · have hP := zif_p hP c
      exact zV_return dX3_keepCore_67 rfl ⟨rfl, hP⟩
    · have hP := zif_n hP c
      refine zV_aload_n dX3_keepCore_20 rfl ?_
      refine zV_sg dX3_keepCore_21 fm_101_86 sa_101 (by decide) fl_X3_186_3 rfl ?_
      refine zV_iload_n dX3_keepCore_24 rfl ?_
      refine zV_bipush dX3_keepCore_25 ⟨by decide, by decide, by decide⟩ ?_
      refine zV_idiv dX3_keepCore_27 (by decide) ?_
      obtain ⟨ob, hP⟩ := hP
      refine zV_la dX3_keepCore_28 sa_160 ob ?_
      refine zV_iload_n dX3_keepCore_29 rfl ?_
      refine zV_bipush dX3_keepCore_30 ⟨by decide, by decide, by decide⟩ ?_
      refine zV_irem dX3_keepCore_32 (by decide) ?_
      refine zV_lshr dX3_keepCore_33 ?_
      refine zV_lconst (x := 1) dX3_keepCore_34 rfl ?_
      refine zV_land dX3_keepCore_35 ?_
      refine zV_lconst (x := 1) dX3_keepCore_36 rfl ?_
      refine zV_lcmp dX3_keepCore_37 ?_
      refine zV_if_ne (tgt := 61) dX3_keepCore_38 (by decide) (fun c => ?_) (fun c => ?_)
      · have hP := zif_n hP c
        exact W_M_keepCore_J61 _ _ _ _ ih hP
      · have hP := zif_p hP c
        refine zV_aload_n dX3_keepCore_41 rfl ?_
        refine zV_sg dX3_keepCore_42 fm_101_93 sa_101 (by decide) fl_X3_201_3 rfl ?_
        refine zV_aload_n dX3_keepCore_45 rfl ?_
        refine zV_gf dX3_keepCore_46 sa_101 (by decide) fl_X3_514_3 rfl (ki := 94) rfl ?_
        refine zV_iload_n dX3_keepCore_49 rfl ?_
        obtain ⟨ob, hP⟩ := hP
        refine zV_ias dX3_keepCore_50 sa_165 ob (fun h3 e_h3 => ?_)
        have hP := hP h3 e_h3
        refine zV_aload_n dX3_keepCore_51 rfl ?_
        refine zV_dup dX3_keepCore_52 (Nat.ne_of_beq_eq_false rfl) ?_
        refine zV_gf dX3_keepCore_53 sa_101 (by decide) fl_X3_514_3 rfl (ki := 94) rfl ?_
        refine zV_iconst dX3_keepCore_56 ⟨by decide, by decide⟩ ?_
        refine zV_iadd dX3_keepCore_57 ?_
        refine zV_pf dX3_keepCore_58 sa_101 (by decide) fl_X3_514_3 rfl rfl trivial (ki := 94) rfl (fun h4 e_h4 => ?_)
        have hP := hP h4 e_h4
        exact W_M_keepCore_J61 _ _ _ _ ih hP
def P_M_keepCore (a1 : Int) (h : zH) (Q : Int → zH → Prop) : Prop :=
if a1 = 1 then
(Q 0 h)
else
(∀ h1 : zH, h1 = zw h 101 94 0 →
∃ n13, P_M_keepCore_L13 Q n13 0 h1)
theorem W_M_keepCore (a1 : Int) (h : zH) (Q : Int → zH → Prop) (hP : P_M_keepCore a1 h Q) : zC true zy_X3_keepCore 1 [zR 101, zI a1] h (zQ0 Q) := by
  unfold P_M_keepCore at hP
  refine zC.of (by decide) (Nat.le_of_ble_eq_true rfl) ?_
  show zV true zy_X3_keepCore 1 0 [zR 101, zI a1, zU] [] h (zQ0 Q)
  refine zV_iload_n dX3_keepCore_0 rfl ?_
  refine zV_iconst dX3_keepCore_1 ⟨by decide, by decide⟩ ?_
  refine zV_icmp_ne (tgt := 6) dX3_keepCore_2 (by decide) (fun c => ?_) (fun c => ?_)
  · have hP := zif_n hP c
    refine zV_aload_n dX3_keepCore_6 rfl ?_
    refine zV_iconst dX3_keepCore_7 ⟨by decide, by decide⟩ ?_
    refine zV_pf dX3_keepCore_8 sa_101 (by decide) fl_X3_514_3 rfl rfl trivial (ki := 94) rfl (fun h1 e_h1 => ?_)
    have hP := hP h1 e_h1
    refine zV_iconst dX3_keepCore_11 ⟨by decide, by decide⟩ ?_
    refine zV_istore_n (ls' := [zR 101, zI a1, zI 0]) dX3_keepCore_12 rfl (Nat.le_of_ble_eq_true rfl) rfl rfl ?_
    obtain ⟨n13, hP⟩ := hP
    refine zV_mask [true, false, true] (ls' := [zR 101, zU, zI 0]) rfl ?_
    refine W_M_keepCore_L13 _ n13 _ _ hP
  · have hP := zif_p hP c
    exact zV_return dX3_keepCore_5 rfl ⟨rfl, hP⟩
def P_M_tellQuarrel (a1 : Int) (a2 : Int) (a3 : Int) (a4 : Int) (a5 : Int) (h : zH) (Q : Int → zH → Prop) : Prop :=
∀ h1 : zH, h1 = zw h 101 91 1 →
∀ h2 : zH, h2 = zw h1 164 0 a1 →
∀ h3 : zH, h3 = zw h2 164 1 a2 →
∀ h4 : zH, h4 = zw h3 164 2 a3 →
∀ h5 : zH, h5 = zw h4 164 3 a4 →
∀ h6 : zH, h6 = zw h5 164 4 a5 →
Q 0 h6
theorem W_M_tellQuarrel (a1 : Int) (a2 : Int) (a3 : Int) (a4 : Int) (a5 : Int) (h : zH) (Q : Int → zH → Prop) (hP : P_M_tellQuarrel a1 a2 a3 a4 a5 h Q) : zC true zy_X3_tellQuarrel 1 [zR 101, zI a1, zI a2, zI a3, zI a4, zI a5] h (zQ0 Q) := by
  unfold P_M_tellQuarrel at hP
  refine zC.of (by decide) (Nat.le_of_ble_eq_true rfl) ?_
  show zV true zy_X3_tellQuarrel 1 0 [zR 101, zI a1, zI a2, zI a3, zI a4, zI a5] [] h (zQ0 Q)
  refine zV_aload_n dX3_tellQuarrel_0 rfl ?_
  refine zV_iconst dX3_tellQuarrel_1 ⟨by decide, by decide⟩ ?_
  refine zV_pf dX3_tellQuarrel_2 sa_101 (by decide) fl_X3_533_3 rfl rfl z1 (ki := 91) rfl (fun h1 e_h1 => ?_)
  have hP := hP h1 e_h1
  refine zV_aload_n dX3_tellQuarrel_5 rfl ?_
  refine zV_sg dX3_tellQuarrel_6 fm_101_92 sa_101 (by decide) fl_X3_198_3 rfl ?_
  refine zV_iconst dX3_tellQuarrel_9 ⟨by decide, by decide⟩ ?_
  refine zV_iload_n dX3_tellQuarrel_10 rfl ?_
  refine zV_ias dX3_tellQuarrel_11 sa_164 (by decide) (fun h2 e_h2 => ?_)
  have hP := hP h2 e_h2
  refine zV_aload_n dX3_tellQuarrel_12 rfl ?_
  refine zV_sg dX3_tellQuarrel_13 fm_101_92 sa_101 (by decide) fl_X3_198_3 rfl ?_
  refine zV_iconst dX3_tellQuarrel_16 ⟨by decide, by decide⟩ ?_
  refine zV_iload_n dX3_tellQuarrel_17 rfl ?_
  refine zV_ias dX3_tellQuarrel_18 sa_164 (by decide) (fun h3 e_h3 => ?_)
  have hP := hP h3 e_h3
  refine zV_aload_n dX3_tellQuarrel_19 rfl ?_
  refine zV_sg dX3_tellQuarrel_20 fm_101_92 sa_101 (by decide) fl_X3_198_3 rfl ?_
  refine zV_iconst dX3_tellQuarrel_23 ⟨by decide, by decide⟩ ?_
  refine zV_iload_n dX3_tellQuarrel_24 rfl ?_
  refine zV_ias dX3_tellQuarrel_25 sa_164 (by decide) (fun h4 e_h4 => ?_)
  have hP := hP h4 e_h4
  refine zV_aload_n dX3_tellQuarrel_26 rfl ?_
  refine zV_sg dX3_tellQuarrel_27 fm_101_92 sa_101 (by decide) fl_X3_198_3 rfl ?_
  refine zV_iconst dX3_tellQuarrel_30 ⟨by decide, by decide⟩ ?_
  refine zV_iload dX3_tellQuarrel_31 rfl ?_
  refine zV_ias dX3_tellQuarrel_33 sa_164 (by decide) (fun h5 e_h5 => ?_)
  have hP := hP h5 e_h5
  refine zV_aload_n dX3_tellQuarrel_34 rfl ?_
  refine zV_sg dX3_tellQuarrel_35 fm_101_92 sa_101 (by decide) fl_X3_198_3 rfl ?_
  refine zV_iconst dX3_tellQuarrel_38 ⟨by decide, by decide⟩ ?_
  refine zV_iload dX3_tellQuarrel_39 rfl ?_
  refine zV_ias dX3_tellQuarrel_41 sa_164 (by decide) (fun h6 e_h6 => ?_)
  have hP := hP h6 e_h6
  exact zV_return dX3_tellQuarrel_42 rfl ⟨rfl, hP⟩
def P_M_endLow (a1 : Int) (h : zH) (Q : Int → zH → Prop) : Prop :=
P_M_hasRoom a1 0 h (fun r1 h2 =>
if r1 = 0 then
(Q (-1003) h2)
else
(P_M_clearSources h2 (fun r3 h4 =>
P_M_addSources a1 (zd h4 101 98) h4 (fun r5 h6 =>
P_M_addLowest a1 (zd h6 101 98) 0 h6 (fun r7 h8 =>
P_M_record a1 0 h8 (fun r9 h10 =>
P_M_keepCore a1 h10 (fun r11 h12 =>
if a1 = 0 then
(∀ h13 : zH, h13 = zw h12 101 96 0 →
P_M_tellQuarrel (zd h13 101 98) 0 0 0 0 h13 (fun r14 h15 =>
Q 0 h15))
else
(Q 0 h12))))))))
theorem W_M_endLow (a1 : Int) (h : zH) (Q : Int → zH → Prop) (hP : P_M_endLow a1 h Q) : zC true zy_X3_endLow 3 [zR 101, zI a1] h (zQ0 Q) := by
  unfold P_M_endLow at hP
  refine zC.of (by decide) (Nat.le_of_ble_eq_true rfl) ?_
  show zV true zy_X3_endLow 3 0 [zR 101, zI a1] [] h (zQ0 Q)
  refine zV_aload_n dX3_endLow_0 rfl ?_
  refine zV_iload_n dX3_endLow_1 rfl ?_
  refine zV_iconst dX3_endLow_2 ⟨by decide, by decide⟩ ?_
  refine zV_cVk (As := [zI a1, zI 0]) (rest := []) dX3_endLow_3 sa_101 (W_M_hasRoom _ _ _ _ hP) mi_X3_hasRoom ml_X3_517 (by decide) (Nat.le_of_ble_eq_true rfl) rfl rfl rfl (fun r1 h2 hP => ?_)
  refine zV_if_ne (tgt := 13) dX3_endLow_6 (by decide) (fun c => ?_) (fun c => ?_)
  · have hP := zif_n hP c
    refine zV_aload_n dX3_endLow_13 rfl ?_
    refine zV_cVv (As := []) (rest := []) dX3_endLow_14 sa_101 (W_M_clearSources _ _ hP) mi_X3_clearSources ml_X3_476 (by decide) (Nat.le_of_ble_eq_true rfl) rfl rfl (fun r3 h4 hP => ?_)
    refine zV_aload_n dX3_endLow_17 rfl ?_
    refine zV_iload_n dX3_endLow_18 rfl ?_
    refine zV_aload_n dX3_endLow_19 rfl ?_
    refine zV_gf dX3_endLow_20 sa_101 (by decide) fl_X3_460_3 rfl (ki := 98) rfl ?_
    refine zV_cVv (As := [zI a1, zI (zd h4 101 98)]) (rest := []) dX3_endLow_23 sa_101 (W_M_addSources _ _ _ _ hP) mi_X3_addSources ml_X3_479 (by decide) (Nat.le_of_ble_eq_true rfl) rfl rfl (fun r5 h6 hP => ?_)
    refine zV_aload_n dX3_endLow_26 rfl ?_
    refine zV_iload_n dX3_endLow_27 rfl ?_
    refine zV_aload_n dX3_endLow_28 rfl ?_
    refine zV_gf dX3_endLow_29 sa_101 (by decide) fl_X3_460_3 rfl (ki := 98) rfl ?_
    refine zV_iconst dX3_endLow_32 ⟨by decide, by decide⟩ ?_
    refine zV_cVv (As := [zI a1, zI (zd h6 101 98), zI 0]) (rest := []) dX3_endLow_33 sa_101 (W_M_addLowest _ _ _ _ _ hP) mi_X3_addLowest ml_X3_482 (by decide) (Nat.le_of_ble_eq_true rfl) rfl rfl (fun r7 h8 hP => ?_)
    refine zV_aload_n dX3_endLow_36 rfl ?_
    refine zV_iload_n dX3_endLow_37 rfl ?_
    refine zV_iconst dX3_endLow_38 ⟨by decide, by decide⟩ ?_
    refine zV_cVv (As := [zI a1, zI 0]) (rest := []) dX3_endLow_39 sa_101 (W_M_record _ _ _ _ hP) mi_X3_record ml_X3_520 (by decide) (Nat.le_of_ble_eq_true rfl) rfl rfl (fun r9 h10 hP => ?_)
    refine zV_aload_n dX3_endLow_42 rfl ?_
    refine zV_iload_n dX3_endLow_43 rfl ?_
    refine zV_cVv (As := [zI a1]) (rest := []) dX3_endLow_44 sa_101 (W_M_keepCore _ _ _ hP) mi_X3_keepCore ml_X3_523 (by decide) (Nat.le_of_ble_eq_true rfl) rfl rfl (fun r11 h12 hP => ?_)
    refine zV_iload_n dX3_endLow_47 rfl ?_
    refine zV_if_ne (tgt := 68) dX3_endLow_48 (by decide) (fun c => ?_) (fun c => ?_)
    · have hP := zif_n hP c
      refine zV_iconst dX3_endLow_68 ⟨by decide, by decide⟩ ?_
      exact zV_ireturn dX3_endLow_69 rfl rfl rfl ⟨rfl, hP⟩
    · have hP := zif_p hP c
      refine zV_aload_n dX3_endLow_51 rfl ?_
      refine zV_iconst dX3_endLow_52 ⟨by decide, by decide⟩ ?_
      refine zV_pf dX3_endLow_53 sa_101 (by decide) fl_X3_526_3 rfl rfl trivial (ki := 96) rfl (fun h13 e_h13 => ?_)
      have hP := hP h13 e_h13
      refine zV_aload_n dX3_endLow_56 rfl ?_
      refine zV_aload_n dX3_endLow_57 rfl ?_
      refine zV_gf dX3_endLow_58 sa_101 (by decide) fl_X3_460_3 rfl (ki := 98) rfl ?_
      refine zV_iconst dX3_endLow_61 ⟨by decide, by decide⟩ ?_
      refine zV_iconst dX3_endLow_62 ⟨by decide, by decide⟩ ?_
      refine zV_iconst dX3_endLow_63 ⟨by decide, by decide⟩ ?_
      refine zV_iconst dX3_endLow_64 ⟨by decide, by decide⟩ ?_
      refine zV_cVv (As := [zI (zd h13 101 98), zI 0, zI 0, zI 0, zI 0]) (rest := []) dX3_endLow_65 sa_101 (W_M_tellQuarrel _ _ _ _ _ _ _ hP) mi_X3_tellQuarrel ml_X3_529 (by decide) (Nat.le_of_ble_eq_true rfl) rfl rfl (fun r14 h15 hP => ?_)
      refine zV_iconst dX3_endLow_68 ⟨by decide, by decide⟩ ?_
      exact zV_ireturn dX3_endLow_69 rfl rfl rfl ⟨rfl, hP⟩
  · have hP := zif_p hP c
    refine zV_sipush dX3_endLow_9 ⟨by decide, by decide, by decide⟩ ?_
    exact zV_ireturn dX3_endLow_12 rfl rfl rfl ⟨rfl, hP⟩
def P_M_clearMarks_L2 (Q : Int → zH → Prop) : Nat → Int → zH → Prop
| 0, _, _ => False
| n2 + 1, y1, h =>
if 300 < y1 then
(Q 0 h)
else
((0 ≤ y1 ∧ y1 < 301) ∧
∀ h1 : zH, h1 = zw h 168 y1 (zbit 0) →
(0 ≤ y1 ∧ y1 < 301) ∧
∀ h2 : zH, h2 = zw h1 169 y1 (zbit 0) →
∀ x1_3 : Int, x1_3 = w32 (y1 + 1) →
P_M_clearMarks_L2 Q n2 x1_3 h2)
theorem W_M_clearMarks_L2 (Q : Int → zH → Prop) : ∀ (n2 : Nat) (y1 : Int) (h : zH), P_M_clearMarks_L2 Q n2 y1 h → zV true zy_X3_clearMarks 1 2 [zR 101, zI y1] [] h (zQ0 Q) := by
  intro n2
  induction n2 with
  | zero => intro y1 h hP; exact absurd hP id
  | succ n2 ih =>
    intro y1 h hP
    unfold P_M_clearMarks_L2 at hP
    refine zV_iload_n dX3_clearMarks_2 rfl ?_
    refine zV_sipush dX3_clearMarks_3 ⟨by decide, by decide, by decide⟩ ?_
    refine zV_icmp_gt (tgt := 29) dX3_clearMarks_6 (by decide) (fun c => ?_) (fun c => ?_)
    · have hP := zif_p hP c
      exact zV_return dX3_clearMarks_29 rfl ⟨rfl, hP⟩
    · have hP := zif_n hP c
      refine zV_aload_n dX3_clearMarks_9 rfl ?_
      refine zV_sg dX3_clearMarks_10 fm_101_102 sa_101 (by decide) fl_X3_210_3 rfl ?_
      refine zV_iload_n dX3_clearMarks_13 rfl ?_
      refine zV_iconst dX3_clearMarks_14 ⟨by decide, by decide⟩ ?_
      obtain ⟨ob, hP⟩ := hP
      refine zV_zas dX3_clearMarks_15 sa_168 ob (fun h1 e_h1 => ?_)
      have hP := hP h1 e_h1
      refine zV_aload_n dX3_clearMarks_16 rfl ?_
      refine zV_sg dX3_clearMarks_17 fm_101_103 sa_101 (by decide) fl_X3_213_3 rfl ?_
      refine zV_iload_n dX3_clearMarks_20 rfl ?_
      refine zV_iconst dX3_clearMarks_21 ⟨by decide, by decide⟩ ?_
      obtain ⟨ob, hP⟩ := hP
      refine zV_zas dX3_clearMarks_22 sa_169 ob (fun h2 e_h2 => ?_)
      have hP := hP h2 e_h2
      refine zV_inc (ls' := fun z => [zR 101, zI z]) dX3_clearMarks_23 (Nat.le_of_ble_eq_true rfl) rfl rfl (fun _ => rfl) (fun x1_3 e_x1_3 => ?_)
      have hP := hP x1_3 e_x1_3
      refine zV_goto (tgt := 2) dX3_clearMarks_26 (by decide) ?_
      exact ih _ _ hP
def P_M_clearMarks (h : zH) (Q : Int → zH → Prop) : Prop :=
∃ n2, P_M_clearMarks_L2 Q n2 0 h
theorem W_M_clearMarks (h : zH) (Q : Int → zH → Prop) (hP : P_M_clearMarks  h Q) : zC true zy_X3_clearMarks 1 [zR 101] h (zQ0 Q) := by
  unfold P_M_clearMarks at hP
  refine zC.of (by decide) (Nat.le_of_ble_eq_true rfl) ?_
  show zV true zy_X3_clearMarks 1 0 [zR 101, zU] [] h (zQ0 Q)
  refine zV_iconst dX3_clearMarks_0 ⟨by decide, by decide⟩ ?_
  refine zV_istore_n (ls' := [zR 101, zI 0]) dX3_clearMarks_1 rfl (Nat.le_of_ble_eq_true rfl) rfl rfl ?_
  obtain ⟨n2, hP⟩ := hP
  refine W_M_clearMarks_L2 _ n2 _ _ hP
def P_M_useRow_J135 (y1 : Int) (y2 : Int) (y3 : Int) (y4 : Int) (y5 : Int) (h : zH) (Q : Int → zH → Prop) (k31 : Int → zH → Prop) : Prop :=
∀ x5_9 : Int, x5_9 = w32 (y5 + 1) →
k31 x5_9 h
theorem W_M_useRow_J135 (y1 : Int) (y2 : Int) (y3 : Int) (y4 : Int) (y5 : Int) (h : zH) (Q : Int → zH → Prop) (k31 : Int → zH → Prop) (H31 : ∀ (v5 : Int) (h' : zH), k31 v5 h' → zV true zy_X3_useRow 2 31 [zR 101, zI y1, zI y2, zI y3, zI y4, zI v5, zU] [] h' (zQ0 Q)) (hP : P_M_useRow_J135 y1 y2 y3 y4 y5 h Q k31) : zV true zy_X3_useRow 2 135 [zR 101, zI y1, zI y2, zI y3, zI y4, zI y5, zU] [] h (zQ0 Q) := by
  unfold P_M_useRow_J135 at hP
  refine zV_inc (ls' := fun z => [zR 101, zI y1, zI y2, zI y3, zI y4, zI z, zU]) dX3_useRow_135 (Nat.le_of_ble_eq_true rfl) rfl rfl (fun _ => rfl) (fun x5_9 e_x5_9 => ?_)
  have hP := hP x5_9 e_x5_9
  refine zV_goto (tgt := 31) dX3_useRow_138 (by decide) ?_
  exact H31 _ _ hP
def P_M_useRow_J131 (y1 : Int) (y2 : Int) (y3 : Int) (y4 : Int) (y5 : Int) (s0 : Int) (s1 : Int) (h : zH) (Q : Int → zH → Prop) (k31 : Int → zH → Prop) : Prop :=
∀ h12 : zH, h12 = zw h 101 104 (w32 (s1 + s0)) →
P_M_useRow_J135 y1 y2 y3 y4 y5 h12 Q k31
theorem W_M_useRow_J131 (y1 : Int) (y2 : Int) (y3 : Int) (y4 : Int) (y5 : Int) (s0 : Int) (s1 : Int) (h : zH) (Q : Int → zH → Prop) (k31 : Int → zH → Prop) (H31 : ∀ (v5 : Int) (h' : zH), k31 v5 h' → zV true zy_X3_useRow 2 31 [zR 101, zI y1, zI y2, zI y3, zI y4, zI v5, zU] [] h' (zQ0 Q)) (hP : P_M_useRow_J131 y1 y2 y3 y4 y5 s0 s1 h Q k31) : zV true zy_X3_useRow 2 131 [zR 101, zI y1, zI y2, zI y3, zI y4, zI y5, zU] [zI s0, zI s1, zR 101] h (zQ0 Q) := by
  unfold P_M_useRow_J131 at hP
  refine zV_iadd dX3_useRow_131 ?_
  refine zV_pf dX3_useRow_132 sa_101 (by decide) fl_X3_545_3 rfl rfl trivial (ki := 104) rfl (fun h12 e_h12 => ?_)
  have hP := hP h12 e_h12
  exact W_M_useRow_J135 _ _ _ _ _ _ _ _ H31 hP
def P_M_useRow_L31 (y1 : Int) (y2 : Int) (y3 : Int) (y4 : Int) (Q : Int → zH → Prop) : Nat → Int → zH → Prop
| 0, _, _ => False
| n31 + 1, y5, h =>
if y4 ≤ y5 then
(Q 0 h)
else
(P_M_itemOf y1 y2 y5 h (fun r5 h6 =>
P_M_nameOf r5 h6 (fun r7 h8 =>
if r7 = y3 then
(P_M_useRow_J135 y1 y2 y3 y4 y5 h8 Q (P_M_useRow_L31 y1 y2 y3 y4 Q n31))
else
((0 ≤ w32 ((w32 (301 * y1)) + r7) ∧ w32 ((w32 (301 * y1)) + r7) < 602) ∧
if zd h8 144 (w32 ((w32 (301 * y1)) + r7)) ≤ 0 then
(P_M_useRow_J135 y1 y2 y3 y4 y5 h8 Q (P_M_useRow_L31 y1 y2 y3 y4 Q n31))
else
((0 ≤ r7 ∧ r7 < 301) ∧
if zd h8 168 r7 = 0 then
((0 ≤ r7 ∧ r7 < 301) ∧
∀ h10 : zH, h10 = zw h8 168 r7 (zbit 1) →
(0 ≤ r7 ∧ r7 < 301) ∧
∀ h11 : zH, h11 = zw h10 169 r7 (zbit 1) →
(0 ≤ w32 ((w32 (301 * y1)) + r7) ∧ w32 ((w32 (301 * y1)) + r7) < 602) ∧
(0 ≤ y1 ∧ y1 < 2) ∧
P_M_useRow_J131 y1 y2 y3 y4 y5 (if zd h11 144 (w32 ((w32 (301 * y1)) + r7)) = zd h11 151 y1 then 1 else 0) (zd h11 101 104) h11 Q (P_M_useRow_L31 y1 y2 y3 y4 Q n31))
else
(P_M_useRow_J135 y1 y2 y3 y4 y5 h8 Q (P_M_useRow_L31 y1 y2 y3 y4 Q n31)))))))
theorem W_M_useRow_L31 (y1 : Int) (y2 : Int) (y3 : Int) (y4 : Int) (Q : Int → zH → Prop) : ∀ (n31 : Nat) (y5 : Int) (h : zH), P_M_useRow_L31 y1 y2 y3 y4 Q n31 y5 h → zV true zy_X3_useRow 2 31 [zR 101, zI y1, zI y2, zI y3, zI y4, zI y5, zU] [] h (zQ0 Q) := by
  intro n31
  induction n31 with
  | zero => intro y5 h hP; exact absurd hP id
  | succ n31 ih =>
    intro y5 h hP
    unfold P_M_useRow_L31 at hP
    refine zV_iload dX3_useRow_31 rfl ?_
    refine zV_iload dX3_useRow_33 rfl ?_
    refine zV_icmp_ge (tgt := 141) dX3_useRow_35 (by decide) (fun c => ?_) (fun c => ?_)
    · have hP := zif_p hP c
      exact zV_return dX3_useRow_141 rfl ⟨rfl, hP⟩
    · have hP := zif_n hP c
      refine zV_aload_n dX3_useRow_38 rfl ?_
      refine zV_iload_n dX3_useRow_39 rfl ?_
      refine zV_iload_n dX3_useRow_40 rfl ?_
      refine zV_iload dX3_useRow_41 rfl ?_
      refine zV_cVk (As := [zI y1, zI y2, zI y5]) (rest := []) dX3_useRow_43 sa_101 (W_M_itemOf _ _ _ _ _ hP) mi_X3_itemOf ml_X3_381 (by decide) (Nat.le_of_ble_eq_true rfl) rfl rfl rfl (fun r5 h6 hP => ?_)
      refine zV_cSk (As := [zI r5]) (rest := []) dX3_useRow_46 (W_M_nameOf _ _ _ hP) mi_X3_nameOf ml_X3_289 (by decide) (Nat.le_of_ble_eq_true rfl) rfl rfl rfl (fun r7 h8 hP => ?_)
      refine zV_istore (ls' := [zR 101, zI y1, zI y2, zI y3, zI y4, zI y5, zI r7]) dX3_useRow_49 (Nat.le_of_ble_eq_true rfl) rfl rfl ?_
      refine zV_iload dX3_useRow_51 rfl ?_
      refine zV_iload_n dX3_useRow_53 rfl ?_
      refine zV_icmp_eq (tgt := 135) dX3_useRow_54 (by decide) (fun c => ?_) (fun c => ?_)
      · have hP := zif_p hP c
        refine zV_mask [true, true, true, true, true, true, false] (ls' := [zR 101, zI y1, zI y2, zI y3, zI y4, zI y5, zU]) rfl ?_
        exact W_M_useRow_J135 _ _ _ _ _ _ _ _ ih hP
      · have hP := zif_n hP c
        refine zV_aload_n dX3_useRow_57 rfl ?_
        refine zV_sg dX3_useRow_58 fm_101_70 sa_101 (by decide) fl_X3_137_3 rfl ?_
        refine zV_sipush dX3_useRow_61 ⟨by decide, by decide, by decide⟩ ?_
        refine zV_iload_n dX3_useRow_64 rfl ?_
        refine zV_imul dX3_useRow_65 ?_
        refine zV_iload dX3_useRow_66 rfl ?_
        refine zV_iadd dX3_useRow_68 ?_
        obtain ⟨ob, hP⟩ := hP
        refine zV_ia dX3_useRow_69 sa_144 ob ?_
        refine zV_if_le (tgt := 135) dX3_useRow_70 (by decide) (fun c => ?_) (fun c => ?_)
        · have hP := zif_p hP c
          refine zV_mask [true, true, true, true, true, true, false] (ls' := [zR 101, zI y1, zI y2, zI y3, zI y4, zI y5, zU]) rfl ?_
          exact W_M_useRow_J135 _ _ _ _ _ _ _ _ ih hP
        · have hP := zif_n hP c
          refine zV_aload_n dX3_useRow_73 rfl ?_
          refine zV_sg dX3_useRow_74 fm_101_102 sa_101 (by decide) fl_X3_210_3 rfl ?_
          refine zV_iload dX3_useRow_77 rfl ?_
          obtain ⟨ob, hP⟩ := hP
          refine zV_za dX3_useRow_79 sa_168 ob ?_
          refine zV_if_ne (tgt := 135) dX3_useRow_80 (by decide) (fun c => ?_) (fun c => ?_)
          · have hP := zif_n hP c
            refine zV_mask [true, true, true, true, true, true, false] (ls' := [zR 101, zI y1, zI y2, zI y3, zI y4, zI y5, zU]) rfl ?_
            exact W_M_useRow_J135 _ _ _ _ _ _ _ _ ih hP
          · have hP := zif_p hP c
            refine zV_aload_n dX3_useRow_83 rfl ?_
            refine zV_sg dX3_useRow_84 fm_101_102 sa_101 (by decide) fl_X3_210_3 rfl ?_
            refine zV_iload dX3_useRow_87 rfl ?_
            refine zV_iconst dX3_useRow_89 ⟨by decide, by decide⟩ ?_
            obtain ⟨ob, hP⟩ := hP
            refine zV_zas dX3_useRow_90 sa_168 ob (fun h10 e_h10 => ?_)
            have hP := hP h10 e_h10
            refine zV_aload_n dX3_useRow_91 rfl ?_
            refine zV_sg dX3_useRow_92 fm_101_103 sa_101 (by decide) fl_X3_213_3 rfl ?_
            refine zV_iload dX3_useRow_95 rfl ?_
            refine zV_iconst dX3_useRow_97 ⟨by decide, by decide⟩ ?_
            obtain ⟨ob, hP⟩ := hP
            refine zV_zas dX3_useRow_98 sa_169 ob (fun h11 e_h11 => ?_)
            have hP := hP h11 e_h11
            refine zV_aload_n dX3_useRow_99 rfl ?_
            refine zV_dup dX3_useRow_100 (Nat.ne_of_beq_eq_false rfl) ?_
            refine zV_gf dX3_useRow_101 sa_101 (by decide) fl_X3_545_3 rfl (ki := 104) rfl ?_
            refine zV_aload_n dX3_useRow_104 rfl ?_
            refine zV_sg dX3_useRow_105 fm_101_70 sa_101 (by decide) fl_X3_137_3 rfl ?_
            refine zV_sipush dX3_useRow_108 ⟨by decide, by decide, by decide⟩ ?_
            refine zV_iload_n dX3_useRow_111 rfl ?_
            refine zV_imul dX3_useRow_112 ?_
            refine zV_iload dX3_useRow_113 rfl ?_
            refine zV_iadd dX3_useRow_115 ?_
            obtain ⟨ob, hP⟩ := hP
            refine zV_ia dX3_useRow_116 sa_144 ob ?_
            refine zV_aload_n dX3_useRow_117 rfl ?_
            refine zV_sg dX3_useRow_118 fm_101_77 sa_101 (by decide) fl_X3_159_3 rfl ?_
            refine zV_iload_n dX3_useRow_121 rfl ?_
            obtain ⟨ob, hP⟩ := hP
            refine zV_ia dX3_useRow_122 sa_151 ob ?_
            have K : zV true zy_X3_useRow 2 131 [zR 101, zI y1, zI y2, zI y3, zI y4, zI y5, zU] [zI (if zd h11 144 (w32 ((w32 (301 * y1)) + r7)) = zd h11 151 y1 then 1 else 0), zI (zd h11 101 104), zR 101] h11 (zQ0 Q) := by
              exact W_M_useRow_J131 _ _ _ _ _ _ _ _ _ _ ih hP
            clear hP
            refine zV_icmp_ne (tgt := 130) dX3_useRow_123 (by decide) (fun c => ?_) (fun c => ?_)
            · try simp only [if_neg c] at K
              refine zV_iconst dX3_useRow_130 ⟨by decide, by decide⟩ ?_
              refine zV_mask [true, true, true, true, true, true, false] rfl ?_
              exact K
            · try simp only [if_pos c] at K
              refine zV_iconst dX3_useRow_126 ⟨by decide, by decide⟩ ?_
              refine zV_goto (tgt := 131) dX3_useRow_127 (by decide) ?_
              refine zV_mask [true, true, true, true, true, true, false] rfl ?_
              exact K
def P_M_useRow (a1 : Int) (a2 : Int) (a3 : Int) (h : zH) (Q : Int → zH → Prop) : Prop :=
(0 ≤ zd h 101 106 ∧ zd h 101 106 < 320) ∧
∀ h1 : zH, h1 = zw h 170 (zd h 101 106) a2 →
∀ h2 : zH, h2 = zw h1 101 106 (w32 ((zd h1 101 106) + 1)) →
P_M_sizeOf a1 a2 h2 (fun r3 h4 =>
∃ n31, P_M_useRow_L31 a1 a2 a3 r3 Q n31 0 h4)
theorem W_M_useRow (a1 : Int) (a2 : Int) (a3 : Int) (h : zH) (Q : Int → zH → Prop) (hP : P_M_useRow a1 a2 a3 h Q) : zC true zy_X3_useRow 2 [zR 101, zI a1, zI a2, zI a3] h (zQ0 Q) := by
  unfold P_M_useRow at hP
  refine zC.of (by decide) (Nat.le_of_ble_eq_true rfl) ?_
  show zV true zy_X3_useRow 2 0 [zR 101, zI a1, zI a2, zI a3, zU, zU, zU] [] h (zQ0 Q)
  refine zV_aload_n dX3_useRow_0 rfl ?_
  refine zV_sg dX3_useRow_1 fm_101_105 sa_101 (by decide) fl_X3_216_3 rfl ?_
  refine zV_aload_n dX3_useRow_4 rfl ?_
  refine zV_gf dX3_useRow_5 sa_101 (by decide) fl_X3_542_3 rfl (ki := 106) rfl ?_
  refine zV_iload_n dX3_useRow_8 rfl ?_
  obtain ⟨ob, hP⟩ := hP
  refine zV_ias dX3_useRow_9 sa_170 ob (fun h1 e_h1 => ?_)
  have hP := hP h1 e_h1
  refine zV_aload_n dX3_useRow_10 rfl ?_
  refine zV_dup dX3_useRow_11 (Nat.ne_of_beq_eq_false rfl) ?_
  refine zV_gf dX3_useRow_12 sa_101 (by decide) fl_X3_542_3 rfl (ki := 106) rfl ?_
  refine zV_iconst dX3_useRow_15 ⟨by decide, by decide⟩ ?_
  refine zV_iadd dX3_useRow_16 ?_
  refine zV_pf dX3_useRow_17 sa_101 (by decide) fl_X3_542_3 rfl rfl trivial (ki := 106) rfl (fun h2 e_h2 => ?_)
  have hP := hP h2 e_h2
  refine zV_aload_n dX3_useRow_20 rfl ?_
  refine zV_iload_n dX3_useRow_21 rfl ?_
  refine zV_iload_n dX3_useRow_22 rfl ?_
  refine zV_cVk (As := [zI a1, zI a2]) (rest := []) dX3_useRow_23 sa_101 (W_M_sizeOf _ _ _ _ hP) mi_X3_sizeOf ml_X3_377 (by decide) (Nat.le_of_ble_eq_true rfl) rfl rfl rfl (fun r3 h4 hP => ?_)
  refine zV_istore (ls' := [zR 101, zI a1, zI a2, zI a3, zI r3, zU, zU]) dX3_useRow_26 (Nat.le_of_ble_eq_true rfl) rfl rfl ?_
  refine zV_iconst dX3_useRow_28 ⟨by decide, by decide⟩ ?_
  refine zV_istore (ls' := [zR 101, zI a1, zI a2, zI a3, zI r3, zI 0, zU]) dX3_useRow_29 (Nat.le_of_ble_eq_true rfl) rfl rfl ?_
  obtain ⟨n31, hP⟩ := hP
  refine W_M_useRow_L31 _ _ _ _ _ n31 _ _ hP
def P_M_lastOne_J120 (y1 : Int) (y2 : Int) (y3 : Int) (h : zH) (Q : Int → zH → Prop) (k11 : Int → Int → zH → Prop) : Prop :=
∀ x3_5 : Int, x3_5 = w32 (y3 + (-1)) →
k11 y2 x3_5 h
theorem W_M_lastOne_J120 (y1 : Int) (y2 : Int) (y3 : Int) (h : zH) (Q : Int → zH → Prop) (k11 : Int → Int → zH → Prop) (H11 : ∀ (v2 v3 : Int) (h' : zH), k11 v2 v3 h' → zV true zy_X3_lastOne 3 11 [zR 101, zI y1, zI v2, zI v3, zU, zU] [] h' (zQ0 Q)) (hP : P_M_lastOne_J120 y1 y2 y3 h Q k11) : zV true zy_X3_lastOne 3 120 [zR 101, zI y1, zI y2, zI y3, zU, zU] [] h (zQ0 Q) := by
  unfold P_M_lastOne_J120 at hP
  refine zV_inc (ls' := fun z => [zR 101, zI y1, zI y2, zI z, zU, zU]) dX3_lastOne_120 (Nat.le_of_ble_eq_true rfl) rfl rfl (fun _ => rfl) (fun x3_5 e_x3_5 => ?_)
  have hP := hP x3_5 e_x3_5
  refine zV_goto (tgt := 11) dX3_lastOne_123 (by decide) ?_
  exact H11 _ _ _ hP
def P_M_lastOne_L11 (y1 : Int) (Q : Int → zH → Prop) : Nat → Int → Int → zH → Prop
| 0, _, _, _ => False
| n11 + 1, y2, y3, h =>
if y2 = 0 then
((0 ≤ w32 ((w32 (300 * y1)) + y3) ∧ w32 ((w32 (300 * y1)) + y3) < 600) ∧
∀ x4_2 : Int, x4_2 = (zd h 149 (w32 ((w32 (300 * y1)) + y3))) →
P_M_nameOf x4_2 h (fun r3 h4 =>
(0 ≤ r3 ∧ r3 < 301) ∧
if zd h4 168 r3 = 0 then
(P_M_lastOne_J120 y1 y2 y3 h4 Q (P_M_lastOne_L11 y1 Q n11))
else
((0 ≤ w32 ((w32 (301 * y1)) + r3) ∧ w32 ((w32 (301 * y1)) + r3) < 602) ∧
(0 ≤ y1 ∧ y1 < 2) ∧
if zd h4 144 (w32 ((w32 (301 * y1)) + r3)) = zd h4 151 y1 then
(if zd h4 101 104 = 1 then
(P_M_lastOne_J120 y1 x4_2 y3 h4 Q (P_M_lastOne_L11 y1 Q n11))
else
((0 ≤ r3 ∧ r3 < 301) ∧
∀ h6 : zH, h6 = zw h4 168 r3 (zbit 0) →
∀ h7 : zH, h7 = zw h6 101 104 (w32 ((zd h6 101 104) - 1)) →
(0 ≤ w32 ((w32 (301 * y1)) + r3) ∧ w32 ((w32 (301 * y1)) + r3) < 602) ∧
P_M_useRow y1 (zd h7 145 (w32 ((w32 (301 * y1)) + r3))) r3 h7 (fun r8 h9 =>
P_M_lastOne_J120 y1 y2 y3 h9 Q (P_M_lastOne_L11 y1 Q n11))))
else
(P_M_lastOne_J120 y1 y2 y3 h4 Q (P_M_lastOne_L11 y1 Q n11)))))
else
(Q y2 h)
theorem W_M_lastOne_L11 (y1 : Int) (Q : Int → zH → Prop) : ∀ (n11 : Nat) (y2 y3 : Int) (h : zH), P_M_lastOne_L11 y1 Q n11 y2 y3 h → zV true zy_X3_lastOne 3 11 [zR 101, zI y1, zI y2, zI y3, zU, zU] [] h (zQ0 Q) := by
  intro n11
  induction n11 with
  | zero => intro y2 y3 h hP; exact absurd hP id
  | succ n11 ih =>
    intro y2 y3 h hP
    unfold P_M_lastOne_L11 at hP
    refine zV_iload_n dX3_lastOne_11 rfl ?_
    refine zV_if_ne (tgt := 126) dX3_lastOne_12 (by decide) (fun c => ?_) (fun c => ?_)
    · have hP := zif_n hP c
      refine zV_iload_n dX3_lastOne_126 rfl ?_
      exact zV_ireturn dX3_lastOne_127 rfl rfl rfl ⟨rfl, hP⟩
    · have hP := zif_p hP c
      refine zV_aload_n dX3_lastOne_15 rfl ?_
      refine zV_sg dX3_lastOne_16 fm_101_75 sa_101 (by decide) fl_X3_153_3 rfl ?_
      refine zV_sipush dX3_lastOne_19 ⟨by decide, by decide, by decide⟩ ?_
      refine zV_iload_n dX3_lastOne_22 rfl ?_
      refine zV_imul dX3_lastOne_23 ?_
      refine zV_iload_n dX3_lastOne_24 rfl ?_
      refine zV_iadd dX3_lastOne_25 ?_
      obtain ⟨ob, hP⟩ := hP
      refine zV_ia dX3_lastOne_26 sa_149 ob ?_
      refine zV_top (fun x4_2 e_x4_2 => ?_)
      have hP := hP x4_2 e_x4_2
      refine zV_istore (ls' := [zR 101, zI y1, zI y2, zI y3, zI x4_2, zU]) dX3_lastOne_27 (Nat.le_of_ble_eq_true rfl) rfl rfl ?_
      refine zV_iload dX3_lastOne_29 rfl ?_
      refine zV_cSk (As := [zI x4_2]) (rest := []) dX3_lastOne_31 (W_M_nameOf _ _ _ hP) mi_X3_nameOf ml_X3_289 (by decide) (Nat.le_of_ble_eq_true rfl) rfl rfl rfl (fun r3 h4 hP => ?_)
      refine zV_istore (ls' := [zR 101, zI y1, zI y2, zI y3, zI x4_2, zI r3]) dX3_lastOne_34 (Nat.le_of_ble_eq_true rfl) rfl rfl ?_
      refine zV_aload_n dX3_lastOne_36 rfl ?_
      refine zV_sg dX3_lastOne_37 fm_101_102 sa_101 (by decide) fl_X3_210_3 rfl ?_
      refine zV_iload dX3_lastOne_40 rfl ?_
      obtain ⟨ob, hP⟩ := hP
      refine zV_za dX3_lastOne_42 sa_168 ob ?_
      refine zV_if_eq (tgt := 120) dX3_lastOne_43 (by decide) (fun c => ?_) (fun c => ?_)
      · have hP := zif_p hP c
        refine zV_mask [true, true, true, true, false, false] (ls' := [zR 101, zI y1, zI y2, zI y3, zU, zU]) rfl ?_
        exact W_M_lastOne_J120 _ _ _ _ _ _ ih hP
      · have hP := zif_n hP c
        refine zV_aload_n dX3_lastOne_46 rfl ?_
        refine zV_sg dX3_lastOne_47 fm_101_70 sa_101 (by decide) fl_X3_137_3 rfl ?_
        refine zV_sipush dX3_lastOne_50 ⟨by decide, by decide, by decide⟩ ?_
        refine zV_iload_n dX3_lastOne_53 rfl ?_
        refine zV_imul dX3_lastOne_54 ?_
        refine zV_iload dX3_lastOne_55 rfl ?_
        refine zV_iadd dX3_lastOne_57 ?_
        obtain ⟨ob, hP⟩ := hP
        refine zV_ia dX3_lastOne_58 sa_144 ob ?_
        refine zV_aload_n dX3_lastOne_59 rfl ?_
        refine zV_sg dX3_lastOne_60 fm_101_77 sa_101 (by decide) fl_X3_159_3 rfl ?_
        refine zV_iload_n dX3_lastOne_63 rfl ?_
        obtain ⟨ob, hP⟩ := hP
        refine zV_ia dX3_lastOne_64 sa_151 ob ?_
        refine zV_icmp_ne (tgt := 120) dX3_lastOne_65 (by decide) (fun c => ?_) (fun c => ?_)
        · have hP := zif_n hP c
          refine zV_mask [true, true, true, true, false, false] (ls' := [zR 101, zI y1, zI y2, zI y3, zU, zU]) rfl ?_
          exact W_M_lastOne_J120 _ _ _ _ _ _ ih hP
        · have hP := zif_p hP c
          refine zV_aload_n dX3_lastOne_68 rfl ?_
          refine zV_gf dX3_lastOne_69 sa_101 (by decide) fl_X3_545_3 rfl (ki := 104) rfl ?_
          refine zV_iconst dX3_lastOne_72 ⟨by decide, by decide⟩ ?_
          refine zV_icmp_ne (tgt := 82) dX3_lastOne_73 (by decide) (fun c => ?_) (fun c => ?_)
          · have hP := zif_n hP c
            refine zV_aload_n dX3_lastOne_82 rfl ?_
            refine zV_sg dX3_lastOne_83 fm_101_102 sa_101 (by decide) fl_X3_210_3 rfl ?_
            refine zV_iload dX3_lastOne_86 rfl ?_
            refine zV_iconst dX3_lastOne_88 ⟨by decide, by decide⟩ ?_
            obtain ⟨ob, hP⟩ := hP
            refine zV_zas dX3_lastOne_89 sa_168 ob (fun h6 e_h6 => ?_)
            have hP := hP h6 e_h6
            refine zV_aload_n dX3_lastOne_90 rfl ?_
            refine zV_dup dX3_lastOne_91 (Nat.ne_of_beq_eq_false rfl) ?_
            refine zV_gf dX3_lastOne_92 sa_101 (by decide) fl_X3_545_3 rfl (ki := 104) rfl ?_
            refine zV_iconst dX3_lastOne_95 ⟨by decide, by decide⟩ ?_
            refine zV_isub dX3_lastOne_96 ?_
            refine zV_pf dX3_lastOne_97 sa_101 (by decide) fl_X3_545_3 rfl rfl trivial (ki := 104) rfl (fun h7 e_h7 => ?_)
            have hP := hP h7 e_h7
            refine zV_aload_n dX3_lastOne_100 rfl ?_
            refine zV_iload_n dX3_lastOne_101 rfl ?_
            refine zV_aload_n dX3_lastOne_102 rfl ?_
            refine zV_sg dX3_lastOne_103 fm_101_71 sa_101 (by decide) fl_X3_140_3 rfl ?_
            refine zV_sipush dX3_lastOne_106 ⟨by decide, by decide, by decide⟩ ?_
            refine zV_iload_n dX3_lastOne_109 rfl ?_
            refine zV_imul dX3_lastOne_110 ?_
            refine zV_iload dX3_lastOne_111 rfl ?_
            refine zV_iadd dX3_lastOne_113 ?_
            obtain ⟨ob, hP⟩ := hP
            refine zV_ia dX3_lastOne_114 sa_145 ob ?_
            refine zV_iload dX3_lastOne_115 rfl ?_
            refine zV_cVv (As := [zI y1, zI (zd h7 145 (w32 ((w32 (301 * y1)) + r3))), zI r3]) (rest := []) dX3_lastOne_117 sa_101 (W_M_useRow _ _ _ _ _ hP) mi_X3_useRow ml_X3_548 (by decide) (Nat.le_of_ble_eq_true rfl) rfl rfl (fun r8 h9 hP => ?_)
            refine zV_mask [true, true, true, true, false, false] (ls' := [zR 101, zI y1, zI y2, zI y3, zU, zU]) rfl ?_
            exact W_M_lastOne_J120 _ _ _ _ _ _ ih hP
          · have hP := zif_p hP c
            refine zV_iload dX3_lastOne_76 rfl ?_
            refine zV_istore_n (ls' := [zR 101, zI y1, zI x4_2, zI y3, zI x4_2, zI r3]) dX3_lastOne_78 rfl (Nat.le_of_ble_eq_true rfl) rfl rfl ?_
            refine zV_goto (tgt := 120) dX3_lastOne_79 (by decide) ?_
            refine zV_mask [true, true, true, true, false, false] (ls' := [zR 101, zI y1, zI x4_2, zI y3, zU, zU]) rfl ?_
            exact W_M_lastOne_J120 _ _ _ _ _ _ ih hP
def P_M_lastOne (a1 : Int) (h : zH) (Q : Int → zH → Prop) : Prop :=
(0 ≤ a1 ∧ a1 < 2) ∧
∀ x3_1 : Int, x3_1 = (w32 ((zd h 150 a1) - 1)) →
∃ n11, P_M_lastOne_L11 a1 Q n11 0 x3_1 h
theorem W_M_lastOne (a1 : Int) (h : zH) (Q : Int → zH → Prop) (hP : P_M_lastOne a1 h Q) : zC true zy_X3_lastOne 3 [zR 101, zI a1] h (zQ0 Q) := by
  unfold P_M_lastOne at hP
  refine zC.of (by decide) (Nat.le_of_ble_eq_true rfl) ?_
  show zV true zy_X3_lastOne 3 0 [zR 101, zI a1, zU, zU, zU, zU] [] h (zQ0 Q)
  refine zV_iconst dX3_lastOne_0 ⟨by decide, by decide⟩ ?_
  refine zV_istore_n (ls' := [zR 101, zI a1, zI 0, zU, zU, zU]) dX3_lastOne_1 rfl (Nat.le_of_ble_eq_true rfl) rfl rfl ?_
  refine zV_aload_n dX3_lastOne_2 rfl ?_
  refine zV_sg dX3_lastOne_3 fm_101_76 sa_101 (by decide) fl_X3_156_3 rfl ?_
  refine zV_iload_n dX3_lastOne_6 rfl ?_
  obtain ⟨ob, hP⟩ := hP
  refine zV_ia dX3_lastOne_7 sa_150 ob ?_
  refine zV_iconst dX3_lastOne_8 ⟨by decide, by decide⟩ ?_
  refine zV_isub dX3_lastOne_9 ?_
  refine zV_top (fun x3_1 e_x3_1 => ?_)
  have hP := hP x3_1 e_x3_1
  refine zV_istore_n (ls' := [zR 101, zI a1, zI 0, zI x3_1, zU, zU]) dX3_lastOne_10 rfl (Nat.le_of_ble_eq_true rfl) rfl rfl ?_
  obtain ⟨n11, hP⟩ := hP
  refine W_M_lastOne_L11 _ _ n11 _ _ _ hP
def P_M_raise_J83 (y1 : Int) (y2 : Int) (y3 : Int) (y4 : Int) (h : zH) (Q : Int → zH → Prop) (k7 : Int → Int → Int → zH → Prop) : Prop :=
∀ x4_1 : Int, x4_1 = w32 (y4 + 1) →
k7 y2 y3 x4_1 h
theorem W_M_raise_J83 (y1 : Int) (y2 : Int) (y3 : Int) (y4 : Int) (h : zH) (Q : Int → zH → Prop) (k7 : Int → Int → Int → zH → Prop) (H7 : ∀ (v2 v3 v4 : Int) (h' : zH), k7 v2 v3 v4 h' → zV true zy_X3_raise 1 7 [zR 101, zI y1, zI v2, zI v3, zI v4] [] h' (zQ0 Q)) (hP : P_M_raise_J83 y1 y2 y3 y4 h Q k7) : zV true zy_X3_raise 1 83 [zR 101, zI y1, zI y2, zI y3, zI y4] [] h (zQ0 Q) := by
  unfold P_M_raise_J83 at hP
  refine zV_inc (ls' := fun z => [zR 101, zI y1, zI y2, zI y3, zI z]) dX3_raise_83 (Nat.le_of_ble_eq_true rfl) rfl rfl (fun _ => rfl) (fun x4_1 e_x4_1 => ?_)
  have hP := hP x4_1 e_x4_1
  refine zV_goto (tgt := 7) dX3_raise_86 (by decide) ?_
  exact H7 _ _ _ _ hP
def P_M_raise_J82 (y1 : Int) (y2 : Int) (y4 : Int) (s0 : Int) (h : zH) (Q : Int → zH → Prop) (k7 : Int → Int → Int → zH → Prop) : Prop :=
P_M_raise_J83 y1 y2 s0 y4 h Q k7
theorem W_M_raise_J82 (y1 : Int) (y2 : Int) (y4 : Int) (s0 : Int) (h : zH) (Q : Int → zH → Prop) (k7 : Int → Int → Int → zH → Prop) (H7 : ∀ (v2 v3 v4 : Int) (h' : zH), k7 v2 v3 v4 h' → zV true zy_X3_raise 1 7 [zR 101, zI y1, zI v2, zI v3, zI v4] [] h' (zQ0 Q)) (hP : P_M_raise_J82 y1 y2 y4 s0 h Q k7) : zV true zy_X3_raise 1 82 [zR 101, zI y1, zI y2, zU, zI y4] [zI s0] h (zQ0 Q) := by
  unfold P_M_raise_J82 at hP
  refine zV_istore_n (ls' := [zR 101, zI y1, zI y2, zI s0, zI y4]) dX3_raise_82 rfl (Nat.le_of_ble_eq_true rfl) rfl rfl ?_
  exact W_M_raise_J83 _ _ _ _ _ _ _ H7 hP
def P_M_raise_L7 (y1 : Int) (Q : Int → zH → Prop) (k89 : Int → Int → zH → Prop) : Nat → Int → Int → Int → zH → Prop
| 0, _, _, _, _ => False
| n7 + 1, y2, y3, y4, h =>
(0 ≤ y1 ∧ y1 < 2) ∧
if zd h 137 y1 < y4 then
(k89 y2 y3 h)
else
((0 ≤ y4 ∧ y4 < 301) ∧
if zd h 169 y4 = 0 then
(P_M_raise_J83 y1 y2 y3 y4 h Q (P_M_raise_L7 y1 Q k89 n7))
else
((0 ≤ w32 ((w32 (301 * y1)) + y4) ∧ w32 ((w32 (301 * y1)) + y4) < 602) ∧
(0 ≤ y1 ∧ y1 < 2) ∧
(0 ≤ w32 ((w32 (301 * y1)) + y4) ∧ w32 ((w32 (301 * y1)) + y4) < 602) ∧
∀ h2 : zH, h2 = zw h 147 (w32 ((w32 (301 * y1)) + y4)) (w64 ((zd h 147 (w32 ((w32 (301 * y1)) + y4))) + (zd h 148 y1))) →
∀ x2_3 : Int, x2_3 = w32 (y2 + 1) →
(if y3 = 0 then (0 ≤ w32 ((w32 (301 * y1)) + y4) ∧ w32 ((w32 (301 * y1)) + y4) < 602) ∧ True else True) ∧
P_M_raise_J82 y1 x2_3 y4 (if y3 = 0 then if zcmp (zd h2 147 (w32 ((w32 (301 * y1)) + y4))) 1000000000000 ≤ 0 then 0 else 1 else 1) h2 Q (P_M_raise_L7 y1 Q k89 n7)))
theorem W_M_raise_L7 (y1 : Int) (Q : Int → zH → Prop) (k89 : Int → Int → zH → Prop) (H89 : ∀ (v2 v3 : Int) (h' : zH), k89 v2 v3 h' → zV true zy_X3_raise 1 89 [zR 101, zI y1, zI v2, zI v3, zU] [] h' (zQ0 Q)) : ∀ (n7 : Nat) (y2 y3 y4 : Int) (h : zH), P_M_raise_L7 y1 Q k89 n7 y2 y3 y4 h → zV true zy_X3_raise 1 7 [zR 101, zI y1, zI y2, zI y3, zI y4] [] h (zQ0 Q) := by
  intro n7
  induction n7 with
  | zero => intro y2 y3 y4 h hP; exact absurd hP id
  | succ n7 ih =>
    intro y2 y3 y4 h hP
    unfold P_M_raise_L7 at hP
    refine zV_iload dX3_raise_7 rfl ?_
    refine zV_aload_n dX3_raise_9 rfl ?_
    refine zV_sg dX3_raise_10 fm_101_61 sa_101 (by decide) fl_X3_116_3 rfl ?_
    refine zV_iload_n dX3_raise_13 rfl ?_
    obtain ⟨ob, hP⟩ := hP
    refine zV_ia dX3_raise_14 sa_137 ob ?_
    refine zV_icmp_gt (tgt := 89) dX3_raise_15 (by decide) (fun c => ?_) (fun c => ?_)
    · have hP := zif_p hP c
      refine zV_mask [true, true, true, true, false] (ls' := [zR 101, zI y1, zI y2, zI y3, zU]) rfl ?_
      exact H89 _ _ _ hP
    · have hP := zif_n hP c
      refine zV_aload_n dX3_raise_18 rfl ?_
      refine zV_sg dX3_raise_19 fm_101_103 sa_101 (by decide) fl_X3_213_3 rfl ?_
      refine zV_iload dX3_raise_22 rfl ?_
      obtain ⟨ob, hP⟩ := hP
      refine zV_za dX3_raise_24 sa_169 ob ?_
      refine zV_if_eq (tgt := 83) dX3_raise_25 (by decide) (fun c => ?_) (fun c => ?_)
      · have hP := zif_p hP c
        exact W_M_raise_J83 _ _ _ _ _ _ _ ih hP
      · have hP := zif_n hP c
        refine zV_aload_n dX3_raise_28 rfl ?_
        refine zV_sg dX3_raise_29 fm_101_73 sa_101 (by decide) fl_X3_146_3 rfl ?_
        refine zV_sipush dX3_raise_32 ⟨by decide, by decide, by decide⟩ ?_
        refine zV_iload_n dX3_raise_35 rfl ?_
        refine zV_imul dX3_raise_36 ?_
        refine zV_iload dX3_raise_37 rfl ?_
        refine zV_iadd dX3_raise_39 ?_
        refine zV_dup2 dX3_raise_40 (Nat.ne_of_beq_eq_false rfl) (Nat.ne_of_beq_eq_false rfl) ?_
        obtain ⟨ob, hP⟩ := hP
        refine zV_la dX3_raise_41 sa_147 ob ?_
        refine zV_aload_n dX3_raise_42 rfl ?_
        refine zV_sg dX3_raise_43 fm_101_74 sa_101 (by decide) fl_X3_150_3 rfl ?_
        refine zV_iload_n dX3_raise_46 rfl ?_
        obtain ⟨ob, hP⟩ := hP
        refine zV_la dX3_raise_47 sa_148 ob ?_
        refine zV_ladd dX3_raise_48 ?_
        obtain ⟨ob, hP⟩ := hP
        refine zV_las dX3_raise_49 sa_147 ob (fun h2 e_h2 => ?_)
        have hP := hP h2 e_h2
        refine zV_inc (ls' := fun z => [zR 101, zI y1, zI z, zI y3, zI y4]) dX3_raise_50 (Nat.le_of_ble_eq_true rfl) rfl rfl (fun _ => rfl) (fun x2_3 e_x2_3 => ?_)
        have hP := hP x2_3 e_x2_3
        refine zV_iload_n dX3_raise_53 rfl ?_
        obtain ⟨hO, hP⟩ := hP
        have K : zV true zy_X3_raise 1 82 [zR 101, zI y1, zI x2_3, zU, zI y4] [zI (if y3 = 0 then if zcmp (zd h2 147 (w32 ((w32 (301 * y1)) + y4))) 1000000000000 ≤ 0 then 0 else 1 else 1)] h2 (zQ0 Q) := by
          exact W_M_raise_J82 _ _ _ _ _ _ _ ih hP
        clear hP
        refine zV_if_ne (tgt := 77) dX3_raise_54 (by decide) (fun c => ?_) (fun c => ?_)
        · try simp only [if_neg c] at K
          have hO := zif_n hO c
          refine zV_iconst dX3_raise_77 ⟨by decide, by decide⟩ ?_
          refine zV_goto (tgt := 82) dX3_raise_78 (by decide) ?_
          refine zV_mask [true, true, true, false, true] rfl ?_
          exact K
        · try simp only [if_pos c] at K
          have hO := zif_p hO c
          refine zV_aload_n dX3_raise_57 rfl ?_
          refine zV_sg dX3_raise_58 fm_101_73 sa_101 (by decide) fl_X3_146_3 rfl ?_
          refine zV_sipush dX3_raise_61 ⟨by decide, by decide, by decide⟩ ?_
          refine zV_iload_n dX3_raise_64 rfl ?_
          refine zV_imul dX3_raise_65 ?_
          refine zV_iload dX3_raise_66 rfl ?_
          refine zV_iadd dX3_raise_68 ?_
          obtain ⟨ob, hO⟩ := hO
          refine zV_la dX3_raise_69 sa_147 ob ?_
          refine zV_ldc2c (x := 1000000000000) dX3_raise_70 (by decide) q2599 ⟨by decide, by decide⟩ ?_
          refine zV_lcmp dX3_raise_73 ?_
          refine zV_if_le (tgt := 81) dX3_raise_74 (by decide) (fun c => ?_) (fun c => ?_)
          · try simp only [if_pos c] at K
            refine zV_iconst dX3_raise_81 ⟨by decide, by decide⟩ ?_
            refine zV_mask [true, true, true, false, true] rfl ?_
            exact K
          · try simp only [if_neg c] at K
            refine zV_iconst dX3_raise_77 ⟨by decide, by decide⟩ ?_
            refine zV_goto (tgt := 82) dX3_raise_78 (by decide) ?_
            refine zV_mask [true, true, true, false, true] rfl ?_
            exact K
def P_M_raise_L115 (y1 : Int) (y2 : Int) (Q : Int → zH → Prop) (k162 : zH → Prop) : Nat → Int → zH → Prop
| 0, _, _ => False
| n115 + 1, y4, h =>
(0 ≤ y1 ∧ y1 < 2) ∧
if zd h 137 y1 < y4 then
(k162 h)
else
((0 ≤ w32 ((w32 (301 * y1)) + y4) ∧ w32 ((w32 (301 * y1)) + y4) < 602) ∧
(0 ≤ w32 ((w32 (301 * y1)) + y4) ∧ w32 ((w32 (301 * y1)) + y4) < 602) ∧
∀ h6 : zH, h6 = zw h 147 (w32 ((w32 (301 * y1)) + y4)) (w64 (Int.tdiv (zd h 147 (w32 ((w32 (301 * y1)) + y4))) 1048576)) →
∀ x4_7 : Int, x4_7 = w32 (y4 + 1) →
P_M_raise_L115 y1 y2 Q k162 n115 x4_7 h6)
theorem W_M_raise_L115 (y1 : Int) (y2 : Int) (Q : Int → zH → Prop) (k162 : zH → Prop) (H162 : ∀ (h' : zH), k162 h' → zV true zy_X3_raise 1 162 [zR 101, zI y1, zI y2, zU, zU] [] h' (zQ0 Q)) : ∀ (n115 : Nat) (y4 : Int) (h : zH), P_M_raise_L115 y1 y2 Q k162 n115 y4 h → zV true zy_X3_raise 1 115 [zR 101, zI y1, zI y2, zU, zI y4] [] h (zQ0 Q) := by
  intro n115
  induction n115 with
  | zero => intro y4 h hP; exact absurd hP id
  | succ n115 ih =>
    intro y4 h hP
    unfold P_M_raise_L115 at hP
    refine zV_iload dX3_raise_115 rfl ?_
    refine zV_aload_n dX3_raise_117 rfl ?_
    refine zV_sg dX3_raise_118 fm_101_61 sa_101 (by decide) fl_X3_116_3 rfl ?_
    refine zV_iload_n dX3_raise_121 rfl ?_
    obtain ⟨ob, hP⟩ := hP
    refine zV_ia dX3_raise_122 sa_137 ob ?_
    refine zV_icmp_gt (tgt := 162) dX3_raise_123 (by decide) (fun c => ?_) (fun c => ?_)
    · have hP := zif_p hP c
      refine zV_mask [true, true, true, true, false] (ls' := [zR 101, zI y1, zI y2, zU, zU]) rfl ?_
      exact H162 _ hP
    · have hP := zif_n hP c
      refine zV_aload_n dX3_raise_126 rfl ?_
      refine zV_sg dX3_raise_127 fm_101_73 sa_101 (by decide) fl_X3_146_3 rfl ?_
      refine zV_sipush dX3_raise_130 ⟨by decide, by decide, by decide⟩ ?_
      refine zV_iload_n dX3_raise_133 rfl ?_
      refine zV_imul dX3_raise_134 ?_
      refine zV_iload dX3_raise_135 rfl ?_
      refine zV_iadd dX3_raise_137 ?_
      refine zV_aload_n dX3_raise_138 rfl ?_
      refine zV_sg dX3_raise_139 fm_101_73 sa_101 (by decide) fl_X3_146_3 rfl ?_
      refine zV_sipush dX3_raise_142 ⟨by decide, by decide, by decide⟩ ?_
      refine zV_iload_n dX3_raise_145 rfl ?_
      refine zV_imul dX3_raise_146 ?_
      refine zV_iload dX3_raise_147 rfl ?_
      refine zV_iadd dX3_raise_149 ?_
      obtain ⟨ob, hP⟩ := hP
      refine zV_la dX3_raise_150 sa_147 ob ?_
      refine zV_ldc2c (x := 1048576) dX3_raise_151 (by decide) q2601 ⟨by decide, by decide⟩ ?_
      refine zV_ldiv dX3_raise_154 (by decide) ?_
      obtain ⟨ob, hP⟩ := hP
      refine zV_las dX3_raise_155 sa_147 ob (fun h6 e_h6 => ?_)
      have hP := hP h6 e_h6
      refine zV_inc (ls' := fun z => [zR 101, zI y1, zI y2, zU, zI z]) dX3_raise_156 (Nat.le_of_ble_eq_true rfl) rfl rfl (fun _ => rfl) (fun x4_7 e_x4_7 => ?_)
      have hP := hP x4_7 e_x4_7
      refine zV_goto (tgt := 115) dX3_raise_159 (by decide) ?_
      exact ih _ _ hP
def P_M_raise (a1 : Int) (h : zH) (Q : Int → zH → Prop) : Prop :=
∃ n7, P_M_raise_L7 a1 Q (fun u2_89 u3_89 h4 =>
(0 ≤ a1 ∧ a1 < 2) ∧
(0 ≤ a1 ∧ a1 < 2) ∧
(0 ≤ a1 ∧ a1 < 2) ∧
∀ h5 : zH, h5 = zw h4 148 a1 (w64 ((zd h4 148 a1) + (w64 (Int.tdiv (zd h4 148 a1) 8)))) →
if u3_89 = 0 then
(Q u2_89 h5)
else
(∃ n115, P_M_raise_L115 a1 u2_89 Q (fun h8 =>
(0 ≤ a1 ∧ a1 < 2) ∧
(0 ≤ a1 ∧ a1 < 2) ∧
∀ h9 : zH, h9 = zw h8 148 a1 (w64 (Int.tdiv (zd h8 148 a1) 1048576)) →
(0 ≤ a1 ∧ a1 < 2) ∧
(if 0 ≤ zcmp (zd h9 148 a1) 1 then (0 ≤ a1 ∧ a1 < 2) ∧ True else True) ∧
(0 ≤ a1 ∧ a1 < 2) ∧
∀ h10 : zH, h10 = zw h9 148 a1 (if 0 ≤ zcmp (zd h9 148 a1) 1 then zd h9 148 a1 else 1) →
Q u2_89 h10) n115 1 h5)) n7 0 0 1 h
theorem W_M_raise (a1 : Int) (h : zH) (Q : Int → zH → Prop) (hP : P_M_raise a1 h Q) : zC true zy_X3_raise 1 [zR 101, zI a1] h (zQ0 Q) := by
  unfold P_M_raise at hP
  refine zC.of (by decide) (Nat.le_of_ble_eq_true rfl) ?_
  show zV true zy_X3_raise 1 0 [zR 101, zI a1, zU, zU, zU] [] h (zQ0 Q)
  refine zV_iconst dX3_raise_0 ⟨by decide, by decide⟩ ?_
  refine zV_istore_n (ls' := [zR 101, zI a1, zI 0, zU, zU]) dX3_raise_1 rfl (Nat.le_of_ble_eq_true rfl) rfl rfl ?_
  refine zV_iconst dX3_raise_2 ⟨by decide, by decide⟩ ?_
  refine zV_istore_n (ls' := [zR 101, zI a1, zI 0, zI 0, zU]) dX3_raise_3 rfl (Nat.le_of_ble_eq_true rfl) rfl rfl ?_
  refine zV_iconst dX3_raise_4 ⟨by decide, by decide⟩ ?_
  refine zV_istore (ls' := [zR 101, zI a1, zI 0, zI 0, zI 1]) dX3_raise_5 (Nat.le_of_ble_eq_true rfl) rfl rfl ?_
  obtain ⟨n7, hP⟩ := hP
  refine W_M_raise_L7 _ _ _ (fun u2_89 u3_89 h4 hP => ?_) n7 _ _ _ _ hP
  refine zV_aload_n dX3_raise_89 rfl ?_
  refine zV_sg dX3_raise_90 fm_101_74 sa_101 (by decide) fl_X3_150_3 rfl ?_
  refine zV_iload_n dX3_raise_93 rfl ?_
  refine zV_dup2 dX3_raise_94 (Nat.ne_of_beq_eq_false rfl) (Nat.ne_of_beq_eq_false rfl) ?_
  obtain ⟨ob, hP⟩ := hP
  refine zV_la dX3_raise_95 sa_148 ob ?_
  refine zV_aload_n dX3_raise_96 rfl ?_
  refine zV_sg dX3_raise_97 fm_101_74 sa_101 (by decide) fl_X3_150_3 rfl ?_
  refine zV_iload_n dX3_raise_100 rfl ?_
  obtain ⟨ob, hP⟩ := hP
  refine zV_la dX3_raise_101 sa_148 ob ?_
  refine zV_ldc2c (x := 8) dX3_raise_102 (by decide) q2600 ⟨by decide, by decide⟩ ?_
  refine zV_ldiv dX3_raise_105 (by decide) ?_
  refine zV_ladd dX3_raise_106 ?_
  obtain ⟨ob, hP⟩ := hP
  refine zV_las dX3_raise_107 sa_148 ob (fun h5 e_h5 => ?_)
  have hP := hP h5 e_h5
  refine zV_iload_n dX3_raise_108 rfl ?_
  refine zV_if_eq (tgt := 205) dX3_raise_109 (by decide) (fun c => ?_) (fun c => ?_)
  · have hP := zif_p hP c
    refine zV_iload_n dX3_raise_205 rfl ?_
    exact zV_ireturn dX3_raise_206 rfl rfl rfl ⟨rfl, hP⟩
  · have hP := zif_n hP c
    refine zV_iconst dX3_raise_112 ⟨by decide, by decide⟩ ?_
    refine zV_istore (ls' := [zR 101, zI a1, zI u2_89, zI u3_89, zI 1]) dX3_raise_113 (Nat.le_of_ble_eq_true rfl) rfl rfl ?_
    obtain ⟨n115, hP⟩ := hP
    refine zV_mask [true, true, true, false, true] (ls' := [zR 101, zI a1, zI u2_89, zU, zI 1]) rfl ?_
    refine W_M_raise_L115 _ _ _ _ (fun h8 hP => ?_) n115 _ _ hP
    refine zV_aload_n dX3_raise_162 rfl ?_
    refine zV_sg dX3_raise_163 fm_101_74 sa_101 (by decide) fl_X3_150_3 rfl ?_
    refine zV_iload_n dX3_raise_166 rfl ?_
    refine zV_aload_n dX3_raise_167 rfl ?_
    refine zV_sg dX3_raise_168 fm_101_74 sa_101 (by decide) fl_X3_150_3 rfl ?_
    refine zV_iload_n dX3_raise_171 rfl ?_
    obtain ⟨ob, hP⟩ := hP
    refine zV_la dX3_raise_172 sa_148 ob ?_
    refine zV_ldc2c (x := 1048576) dX3_raise_173 (by decide) q2601 ⟨by decide, by decide⟩ ?_
    refine zV_ldiv dX3_raise_176 (by decide) ?_
    obtain ⟨ob, hP⟩ := hP
    refine zV_las dX3_raise_177 sa_148 ob (fun h9 e_h9 => ?_)
    have hP := hP h9 e_h9
    refine zV_aload_n dX3_raise_178 rfl ?_
    refine zV_sg dX3_raise_179 fm_101_74 sa_101 (by decide) fl_X3_150_3 rfl ?_
    refine zV_iload_n dX3_raise_182 rfl ?_
    refine zV_aload_n dX3_raise_183 rfl ?_
    refine zV_sg dX3_raise_184 fm_101_74 sa_101 (by decide) fl_X3_150_3 rfl ?_
    refine zV_iload_n dX3_raise_187 rfl ?_
    obtain ⟨ob, hP⟩ := hP
    refine zV_la dX3_raise_188 sa_148 ob ?_
    refine zV_lconst (x := 1) dX3_raise_189 rfl ?_
    refine zV_lcmp dX3_raise_190 ?_
    obtain ⟨hO, hP⟩ := hP
    have K : zV true zy_X3_raise 1 204 [zU, zU, zI u2_89, zU, zU] [zJ (if 0 ≤ zcmp (zd h9 148 a1) 1 then zd h9 148 a1 else 1), zI a1, zR 148] h9 (zQ0 Q) := by
      obtain ⟨ob, hP⟩ := hP
      refine zV_las dX3_raise_204 sa_148 ob (fun h10 e_h10 => ?_)
      have hP := hP h10 e_h10
      refine zV_iload_n dX3_raise_205 rfl ?_
      exact zV_ireturn dX3_raise_206 rfl rfl rfl ⟨rfl, hP⟩
    clear hP
    refine zV_if_ge (tgt := 198) dX3_raise_191 (by decide) (fun c => ?_) (fun c => ?_)
    · try simp only [if_pos c] at K
      have hO := zif_p hO c
      refine zV_aload_n dX3_raise_198 rfl ?_
      refine zV_sg dX3_raise_199 fm_101_74 sa_101 (by decide) fl_X3_150_3 rfl ?_
      refine zV_iload_n dX3_raise_202 rfl ?_
      obtain ⟨ob, hO⟩ := hO
      refine zV_la dX3_raise_203 sa_148 ob ?_
      refine zV_mask [false, false, true, false, false] rfl ?_
      exact K
    · try simp only [if_neg c] at K
      have hO := zif_n hO c
      refine zV_lconst (x := 1) dX3_raise_194 rfl ?_
      refine zV_goto (tgt := 204) dX3_raise_195 (by decide) ?_
      refine zV_mask [false, false, true, false, false] rfl ?_
      exact K
def P_M_goBack_J135 (y1 : Int) (y2 : Int) (y3 : Int) (h : zH) (Q : Int → zH → Prop) (k15 : Int → zH → Prop) : Prop :=
k15 y3 h
theorem W_M_goBack_J135 (y1 : Int) (y2 : Int) (y3 : Int) (h : zH) (Q : Int → zH → Prop) (k15 : Int → zH → Prop) (H15 : ∀ (v3 : Int) (h' : zH), k15 v3 h' → zV true zy_X3_goBack 2 15 [zR 101, zI y1, zI y2, zI v3, zU] [] h' (zQ0 Q)) (hP : P_M_goBack_J135 y1 y2 y3 h Q k15) : zV true zy_X3_goBack 2 135 [zR 101, zI y1, zI y2, zI y3, zU] [] h (zQ0 Q) := by
  unfold P_M_goBack_J135 at hP
  refine zV_goto (tgt := 15) dX3_goBack_135 (by decide) ?_
  exact H15 _ _ hP
def P_M_goBack_J134 (y1 : Int) (y2 : Int) (s0 : Int) (h : zH) (Q : Int → zH → Prop) (k15 : Int → zH → Prop) : Prop :=
P_M_goBack_J135 y1 y2 s0 h Q k15
theorem W_M_goBack_J134 (y1 : Int) (y2 : Int) (s0 : Int) (h : zH) (Q : Int → zH → Prop) (k15 : Int → zH → Prop) (H15 : ∀ (v3 : Int) (h' : zH), k15 v3 h' → zV true zy_X3_goBack 2 15 [zR 101, zI y1, zI y2, zI v3, zU] [] h' (zQ0 Q)) (hP : P_M_goBack_J134 y1 y2 s0 h Q k15) : zV true zy_X3_goBack 2 134 [zR 101, zI y1, zI y2, zU, zU] [zI s0] h (zQ0 Q) := by
  unfold P_M_goBack_J134 at hP
  refine zV_istore_n (ls' := [zR 101, zI y1, zI y2, zI s0, zU]) dX3_goBack_134 rfl (Nat.le_of_ble_eq_true rfl) rfl rfl ?_
  exact W_M_goBack_J135 _ _ _ _ _ _ H15 hP
def P_M_goBack_J65 (y1 : Int) (y2 : Int) (y4 : Int) (s0 : Int) (h : zH) (Q : Int → zH → Prop) (k15 : Int → zH → Prop) : Prop :=
if s0 = 0 then
(P_M_goBack_J135 y1 y2 s0 h Q k15)
else
((0 ≤ w32 ((w32 (301 * y1)) + y4) ∧ w32 ((w32 (301 * y1)) + y4) < 602) ∧
(0 ≤ w32 ((w32 (301 * y1)) + y4) ∧ w32 ((w32 (301 * y1)) + y4) < 602) ∧
∀ h4 : zH, h4 = zw h 146 (w32 ((w32 (301 * y1)) + y4)) (zd h 143 (w32 ((w32 (301 * y1)) + y4))) →
(0 ≤ w32 ((w32 (301 * y1)) + y4) ∧ w32 ((w32 (301 * y1)) + y4) < 602) ∧
∀ h5 : zH, h5 = zw h4 143 (w32 ((w32 (301 * y1)) + y4)) 2 →
(0 ≤ y1 ∧ y1 < 2) ∧
(0 ≤ y1 ∧ y1 < 2) ∧
∀ h6 : zH, h6 = zw h5 150 y1 (w32 ((zd h5 150 y1) - 1)) →
(0 ≤ y1 ∧ y1 < 2) ∧
P_M_goBack_J134 y1 y2 (if zd h6 150 y1 ≤ 0 then 0 else 1) h6 Q k15)
theorem W_M_goBack_J65 (y1 : Int) (y2 : Int) (y4 : Int) (s0 : Int) (h : zH) (Q : Int → zH → Prop) (k15 : Int → zH → Prop) (H15 : ∀ (v3 : Int) (h' : zH), k15 v3 h' → zV true zy_X3_goBack 2 15 [zR 101, zI y1, zI y2, zI v3, zU] [] h' (zQ0 Q)) (hP : P_M_goBack_J65 y1 y2 y4 s0 h Q k15) : zV true zy_X3_goBack 2 65 [zR 101, zI y1, zI y2, zU, zI y4] [zI s0] h (zQ0 Q) := by
  unfold P_M_goBack_J65 at hP
  refine zV_istore_n (ls' := [zR 101, zI y1, zI y2, zI s0, zI y4]) dX3_goBack_65 rfl (Nat.le_of_ble_eq_true rfl) rfl rfl ?_
  refine zV_iload_n dX3_goBack_66 rfl ?_
  refine zV_if_eq (tgt := 135) dX3_goBack_67 (by decide) (fun c => ?_) (fun c => ?_)
  · have hP := zif_p hP c
    refine zV_mask [true, true, true, true, false] (ls' := [zR 101, zI y1, zI y2, zI s0, zU]) rfl ?_
    exact W_M_goBack_J135 _ _ _ _ _ _ H15 hP
  · have hP := zif_n hP c
    refine zV_aload_n dX3_goBack_70 rfl ?_
    refine zV_sg dX3_goBack_71 fm_101_72 sa_101 (by decide) fl_X3_143_3 rfl ?_
    refine zV_sipush dX3_goBack_74 ⟨by decide, by decide, by decide⟩ ?_
    refine zV_iload_n dX3_goBack_77 rfl ?_
    refine zV_imul dX3_goBack_78 ?_
    refine zV_iload dX3_goBack_79 rfl ?_
    refine zV_iadd dX3_goBack_81 ?_
    refine zV_aload_n dX3_goBack_82 rfl ?_
    refine zV_sg dX3_goBack_83 fm_101_69 sa_101 (by decide) fl_X3_134_3 rfl ?_
    refine zV_sipush dX3_goBack_86 ⟨by decide, by decide, by decide⟩ ?_
    refine zV_iload_n dX3_goBack_89 rfl ?_
    refine zV_imul dX3_goBack_90 ?_
    refine zV_iload dX3_goBack_91 rfl ?_
    refine zV_iadd dX3_goBack_93 ?_
    obtain ⟨ob, hP⟩ := hP
    refine zV_ia dX3_goBack_94 sa_143 ob ?_
    obtain ⟨ob, hP⟩ := hP
    refine zV_ias dX3_goBack_95 sa_146 ob (fun h4 e_h4 => ?_)
    have hP := hP h4 e_h4
    refine zV_aload_n dX3_goBack_96 rfl ?_
    refine zV_sg dX3_goBack_97 fm_101_69 sa_101 (by decide) fl_X3_134_3 rfl ?_
    refine zV_sipush dX3_goBack_100 ⟨by decide, by decide, by decide⟩ ?_
    refine zV_iload_n dX3_goBack_103 rfl ?_
    refine zV_imul dX3_goBack_104 ?_
    refine zV_iload dX3_goBack_105 rfl ?_
    refine zV_iadd dX3_goBack_107 ?_
    refine zV_iconst dX3_goBack_108 ⟨by decide, by decide⟩ ?_
    obtain ⟨ob, hP⟩ := hP
    refine zV_ias dX3_goBack_109 sa_143 ob (fun h5 e_h5 => ?_)
    have hP := hP h5 e_h5
    refine zV_aload_n dX3_goBack_110 rfl ?_
    refine zV_sg dX3_goBack_111 fm_101_76 sa_101 (by decide) fl_X3_156_3 rfl ?_
    refine zV_iload_n dX3_goBack_114 rfl ?_
    refine zV_dup2 dX3_goBack_115 (Nat.ne_of_beq_eq_false rfl) (Nat.ne_of_beq_eq_false rfl) ?_
    obtain ⟨ob, hP⟩ := hP
    refine zV_ia dX3_goBack_116 sa_150 ob ?_
    refine zV_iconst dX3_goBack_117 ⟨by decide, by decide⟩ ?_
    refine zV_isub dX3_goBack_118 ?_
    obtain ⟨ob, hP⟩ := hP
    refine zV_ias dX3_goBack_119 sa_150 ob (fun h6 e_h6 => ?_)
    have hP := hP h6 e_h6
    refine zV_aload_n dX3_goBack_120 rfl ?_
    refine zV_sg dX3_goBack_121 fm_101_76 sa_101 (by decide) fl_X3_156_3 rfl ?_
    refine zV_iload_n dX3_goBack_124 rfl ?_
    obtain ⟨ob, hP⟩ := hP
    refine zV_ia dX3_goBack_125 sa_150 ob ?_
    have K : zV true zy_X3_goBack 2 134 [zR 101, zI y1, zI y2, zU, zU] [zI (if zd h6 150 y1 ≤ 0 then 0 else 1)] h6 (zQ0 Q) := by
      exact W_M_goBack_J134 _ _ _ _ _ _ H15 hP
    clear hP
    refine zV_if_le (tgt := 133) dX3_goBack_126 (by decide) (fun c => ?_) (fun c => ?_)
    · try simp only [if_pos c] at K
      refine zV_iconst dX3_goBack_133 ⟨by decide, by decide⟩ ?_
      refine zV_mask [true, true, true, false, false] rfl ?_
      exact K
    · try simp only [if_neg c] at K
      refine zV_iconst dX3_goBack_129 ⟨by decide, by decide⟩ ?_
      refine zV_goto (tgt := 134) dX3_goBack_130 (by decide) ?_
      refine zV_mask [true, true, true, false, false] rfl ?_
      exact K
def P_M_goBack_L15 (y1 : Int) (y2 : Int) (Q : Int → zH → Prop) : Nat → Int → zH → Prop
| 0, _, _ => False
| n15 + 1, y3, h =>
if y3 = 0 then
((0 ≤ y1 ∧ y1 < 2) ∧
∀ h1 : zH, h1 = zw h 151 y1 y2 →
Q 0 h1)
else
((0 ≤ y1 ∧ y1 < 2) ∧
(0 ≤ w32 ((w32 ((w32 (300 * y1)) + (zd h 150 y1))) - 1) ∧ w32 ((w32 ((w32 (300 * y1)) + (zd h 150 y1))) - 1) < 600) ∧
P_M_nameOf (zd h 149 (w32 ((w32 ((w32 (300 * y1)) + (zd h 150 y1))) - 1))) h (fun r2 h3 =>
(0 ≤ w32 ((w32 (301 * y1)) + r2) ∧ w32 ((w32 (301 * y1)) + r2) < 602) ∧
P_M_goBack_J65 y1 y2 r2 (if zd h3 144 (w32 ((w32 (301 * y1)) + r2)) ≤ y2 then 0 else 1) h3 Q (P_M_goBack_L15 y1 y2 Q n15)))
theorem W_M_goBack_L15 (y1 : Int) (y2 : Int) (Q : Int → zH → Prop) : ∀ (n15 : Nat) (y3 : Int) (h : zH), P_M_goBack_L15 y1 y2 Q n15 y3 h → zV true zy_X3_goBack 2 15 [zR 101, zI y1, zI y2, zI y3, zU] [] h (zQ0 Q) := by
  intro n15
  induction n15 with
  | zero => intro y3 h hP; exact absurd hP id
  | succ n15 ih =>
    intro y3 h hP
    unfold P_M_goBack_L15 at hP
    refine zV_iload_n dX3_goBack_15 rfl ?_
    refine zV_if_eq (tgt := 138) dX3_goBack_16 (by decide) (fun c => ?_) (fun c => ?_)
    · have hP := zif_p hP c
      refine zV_aload_n dX3_goBack_138 rfl ?_
      refine zV_sg dX3_goBack_139 fm_101_77 sa_101 (by decide) fl_X3_159_3 rfl ?_
      refine zV_iload_n dX3_goBack_142 rfl ?_
      refine zV_iload_n dX3_goBack_143 rfl ?_
      obtain ⟨ob, hP⟩ := hP
      refine zV_ias dX3_goBack_144 sa_151 ob (fun h1 e_h1 => ?_)
      have hP := hP h1 e_h1
      exact zV_return dX3_goBack_145 rfl ⟨rfl, hP⟩
    · have hP := zif_n hP c
      refine zV_aload_n dX3_goBack_19 rfl ?_
      refine zV_sg dX3_goBack_20 fm_101_75 sa_101 (by decide) fl_X3_153_3 rfl ?_
      refine zV_sipush dX3_goBack_23 ⟨by decide, by decide, by decide⟩ ?_
      refine zV_iload_n dX3_goBack_26 rfl ?_
      refine zV_imul dX3_goBack_27 ?_
      refine zV_aload_n dX3_goBack_28 rfl ?_
      refine zV_sg dX3_goBack_29 fm_101_76 sa_101 (by decide) fl_X3_156_3 rfl ?_
      refine zV_iload_n dX3_goBack_32 rfl ?_
      obtain ⟨ob, hP⟩ := hP
      refine zV_ia dX3_goBack_33 sa_150 ob ?_
      refine zV_iadd dX3_goBack_34 ?_
      refine zV_iconst dX3_goBack_35 ⟨by decide, by decide⟩ ?_
      refine zV_isub dX3_goBack_36 ?_
      obtain ⟨ob, hP⟩ := hP
      refine zV_ia dX3_goBack_37 sa_149 ob ?_
      refine zV_cSk (As := [zI (zd h 149 (w32 ((w32 ((w32 (300 * y1)) + (zd h 150 y1))) - 1)))]) (rest := []) dX3_goBack_38 (W_M_nameOf _ _ _ hP) mi_X3_nameOf ml_X3_289 (by decide) (Nat.le_of_ble_eq_true rfl) rfl rfl rfl (fun r2 h3 hP => ?_)
      refine zV_istore (ls' := [zR 101, zI y1, zI y2, zI y3, zI r2]) dX3_goBack_41 (Nat.le_of_ble_eq_true rfl) rfl rfl ?_
      refine zV_aload_n dX3_goBack_43 rfl ?_
      refine zV_sg dX3_goBack_44 fm_101_70 sa_101 (by decide) fl_X3_137_3 rfl ?_
      refine zV_sipush dX3_goBack_47 ⟨by decide, by decide, by decide⟩ ?_
      refine zV_iload_n dX3_goBack_50 rfl ?_
      refine zV_imul dX3_goBack_51 ?_
      refine zV_iload dX3_goBack_52 rfl ?_
      refine zV_iadd dX3_goBack_54 ?_
      obtain ⟨ob, hP⟩ := hP
      refine zV_ia dX3_goBack_55 sa_144 ob ?_
      refine zV_iload_n dX3_goBack_56 rfl ?_
      have K : zV true zy_X3_goBack 2 65 [zR 101, zI y1, zI y2, zU, zI r2] [zI (if zd h3 144 (w32 ((w32 (301 * y1)) + r2)) ≤ y2 then 0 else 1)] h3 (zQ0 Q) := by
        exact W_M_goBack_J65 _ _ _ _ _ _ _ ih hP
      clear hP
      refine zV_icmp_le (tgt := 64) dX3_goBack_57 (by decide) (fun c => ?_) (fun c => ?_)
      · try simp only [if_pos c] at K
        refine zV_iconst dX3_goBack_64 ⟨by decide, by decide⟩ ?_
        refine zV_mask [true, true, true, false, true] rfl ?_
        exact K
      · try simp only [if_neg c] at K
        refine zV_iconst dX3_goBack_60 ⟨by decide, by decide⟩ ?_
        refine zV_goto (tgt := 65) dX3_goBack_61 (by decide) ?_
        refine zV_mask [true, true, true, false, true] rfl ?_
        exact K
def P_M_goBack_J14 (y1 : Int) (y2 : Int) (s0 : Int) (h : zH) (Q : Int → zH → Prop) : Prop :=
∃ n15, P_M_goBack_L15 y1 y2 Q n15 s0 h
theorem W_M_goBack_J14 (y1 : Int) (y2 : Int) (s0 : Int) (h : zH) (Q : Int → zH → Prop) (hP : P_M_goBack_J14 y1 y2 s0 h Q) : zV true zy_X3_goBack 2 14 [zR 101, zI y1, zI y2, zU, zU] [zI s0] h (zQ0 Q) := by
  unfold P_M_goBack_J14 at hP
  refine zV_istore_n (ls' := [zR 101, zI y1, zI y2, zI s0, zU]) dX3_goBack_14 rfl (Nat.le_of_ble_eq_true rfl) rfl rfl ?_
  obtain ⟨n15, hP⟩ := hP
  refine W_M_goBack_L15 _ _ _ n15 _ _ hP
def P_M_goBack (a1 : Int) (a2 : Int) (h : zH) (Q : Int → zH → Prop) : Prop :=
(0 ≤ a1 ∧ a1 < 2) ∧
P_M_goBack_J14 a1 a2 (if zd h 150 a1 ≤ 0 then 0 else 1) h Q
theorem W_M_goBack (a1 : Int) (a2 : Int) (h : zH) (Q : Int → zH → Prop) (hP : P_M_goBack a1 a2 h Q) : zC true zy_X3_goBack 2 [zR 101, zI a1, zI a2] h (zQ0 Q) := by
  unfold P_M_goBack at hP
  refine zC.of (by decide) (Nat.le_of_ble_eq_true rfl) ?_
  show zV true zy_X3_goBack 2 0 [zR 101, zI a1, zI a2, zU, zU] [] h (zQ0 Q)
  refine zV_aload_n dX3_goBack_0 rfl ?_
  refine zV_sg dX3_goBack_1 fm_101_76 sa_101 (by decide) fl_X3_156_3 rfl ?_
  refine zV_iload_n dX3_goBack_4 rfl ?_
  obtain ⟨ob, hP⟩ := hP
  refine zV_ia dX3_goBack_5 sa_150 ob ?_
  have K : zV true zy_X3_goBack 2 14 [zR 101, zI a1, zI a2, zU, zU] [zI (if zd h 150 a1 ≤ 0 then 0 else 1)] h (zQ0 Q) := by
    exact W_M_goBack_J14 _ _ _ _ _ hP
  clear hP
  refine zV_if_le (tgt := 13) dX3_goBack_6 (by decide) (fun c => ?_) (fun c => ?_)
  · try simp only [if_pos c] at K
    refine zV_iconst dX3_goBack_13 ⟨by decide, by decide⟩ ?_
    refine zV_mask [true, true, true, false, false] rfl ?_
    exact K
  · try simp only [if_neg c] at K
    refine zV_iconst dX3_goBack_9 ⟨by decide, by decide⟩ ?_
    refine zV_goto (tgt := 14) dX3_goBack_10 (by decide) ?_
    refine zV_mask [true, true, true, false, false] rfl ?_
    exact K
def P_M_partOfRow_L11 (y1 : Int) (Q : Int → zH → Prop) (k25 : Int → zH → Prop) : Nat → Int → zH → Prop
| 0, _, _ => False
| n11 + 1, y2, h =>
if y1 ≤ y2 then
(k25 y2 h)
else
(∀ x2_1 : Int, x2_1 = (w32 ((w32 (2 * y2)) + 1)) →
P_M_partOfRow_L11 y1 Q k25 n11 x2_1 h)
theorem W_M_partOfRow_L11 (y1 : Int) (Q : Int → zH → Prop) (k25 : Int → zH → Prop) (H25 : ∀ (v2 : Int) (h' : zH), k25 v2 h' → zV true zy_X3_partOfRow 1 25 [zU, zI y1, zI v2] [] h' (zQ0 Q)) : ∀ (n11 : Nat) (y2 : Int) (h : zH), P_M_partOfRow_L11 y1 Q k25 n11 y2 h → zV true zy_X3_partOfRow 1 11 [zU, zI y1, zI y2] [] h (zQ0 Q) := by
  intro n11
  induction n11 with
  | zero => intro y2 h hP; exact absurd hP id
  | succ n11 ih =>
    intro y2 h hP
    unfold P_M_partOfRow_L11 at hP
    refine zV_iload_n dX3_partOfRow_11 rfl ?_
    refine zV_iload_n dX3_partOfRow_12 rfl ?_
    refine zV_icmp_ge (tgt := 25) dX3_partOfRow_13 (by decide) (fun c => ?_) (fun c => ?_)
    · have hP := zif_p hP c
      exact H25 _ _ hP
    · have hP := zif_n hP c
      refine zV_iconst dX3_partOfRow_16 ⟨by decide, by decide⟩ ?_
      refine zV_iload_n dX3_partOfRow_17 rfl ?_
      refine zV_imul dX3_partOfRow_18 ?_
      refine zV_iconst dX3_partOfRow_19 ⟨by decide, by decide⟩ ?_
      refine zV_iadd dX3_partOfRow_20 ?_
      refine zV_top (fun x2_1 e_x2_1 => ?_)
      have hP := hP x2_1 e_x2_1
      refine zV_istore_n (ls' := [zU, zI y1, zI x2_1]) dX3_partOfRow_21 rfl (Nat.le_of_ble_eq_true rfl) rfl rfl ?_
      refine zV_goto (tgt := 11) dX3_partOfRow_22 (by decide) ?_
      exact ih _ _ hP
def P_M_partOfRow_L4 (Q : Int → zH → Prop) : Nat → Int → Int → zH → Prop
| 0, _, _, _ => False
| n4 + 1, y1, y2, h =>
if y2 = y1 then
(Q (w32 (Int.tdiv (w32 (y2 + 1)) 2)) h)
else
(∃ n11, P_M_partOfRow_L11 y1 Q (fun u2_25 h2 =>
if u2_25 = y1 then
(P_M_partOfRow_L4 Q n4 y1 u2_25 h2)
else
(∀ x1_3 : Int, x1_3 = (w32 (y1 - (w32 (Int.tdiv (w32 (u2_25 - 1)) 2)))) →
P_M_partOfRow_L4 Q n4 x1_3 0 h2)) n11 1 h)
theorem W_M_partOfRow_L4 (Q : Int → zH → Prop) : ∀ (n4 : Nat) (y1 y2 : Int) (h : zH), P_M_partOfRow_L4 Q n4 y1 y2 h → zV true zy_X3_partOfRow 1 4 [zU, zI y1, zI y2] [] h (zQ0 Q) := by
  intro n4
  induction n4 with
  | zero => intro y1 y2 h hP; exact absurd hP id
  | succ n4 ih =>
    intro y1 y2 h hP
    unfold P_M_partOfRow_L4 at hP
    refine zV_iload_n dX3_partOfRow_4 rfl ?_
    refine zV_iload_n dX3_partOfRow_5 rfl ?_
    refine zV_icmp_eq (tgt := 43) dX3_partOfRow_6 (by decide) (fun c => ?_) (fun c => ?_)
    · have hP := zif_p hP c
      refine zV_iload_n dX3_partOfRow_43 rfl ?_
      refine zV_iconst dX3_partOfRow_44 ⟨by decide, by decide⟩ ?_
      refine zV_iadd dX3_partOfRow_45 ?_
      refine zV_iconst dX3_partOfRow_46 ⟨by decide, by decide⟩ ?_
      refine zV_idiv dX3_partOfRow_47 (by decide) ?_
      exact zV_ireturn dX3_partOfRow_48 rfl rfl rfl ⟨rfl, hP⟩
    · have hP := zif_n hP c
      refine zV_iconst dX3_partOfRow_9 ⟨by decide, by decide⟩ ?_
      refine zV_istore_n (ls' := [zU, zI y1, zI 1]) dX3_partOfRow_10 rfl (Nat.le_of_ble_eq_true rfl) rfl rfl ?_
      obtain ⟨n11, hP⟩ := hP
      refine W_M_partOfRow_L11 _ _ _ (fun u2_25 h2 hP => ?_) n11 _ _ hP
      refine zV_iload_n dX3_partOfRow_25 rfl ?_
      refine zV_iload_n dX3_partOfRow_26 rfl ?_
      refine zV_icmp_eq (tgt := 4) dX3_partOfRow_27 (by decide) (fun c => ?_) (fun c => ?_)
      · have hP := zif_p hP c
        exact ih _ _ _ hP
      · have hP := zif_n hP c
        refine zV_iload_n dX3_partOfRow_30 rfl ?_
        refine zV_iload_n dX3_partOfRow_31 rfl ?_
        refine zV_iconst dX3_partOfRow_32 ⟨by decide, by decide⟩ ?_
        refine zV_isub dX3_partOfRow_33 ?_
        refine zV_iconst dX3_partOfRow_34 ⟨by decide, by decide⟩ ?_
        refine zV_idiv dX3_partOfRow_35 (by decide) ?_
        refine zV_isub dX3_partOfRow_36 ?_
        refine zV_top (fun x1_3 e_x1_3 => ?_)
        have hP := hP x1_3 e_x1_3
        refine zV_istore_n (ls' := [zU, zI x1_3, zI u2_25]) dX3_partOfRow_37 rfl (Nat.le_of_ble_eq_true rfl) rfl rfl ?_
        refine zV_iconst dX3_partOfRow_38 ⟨by decide, by decide⟩ ?_
        refine zV_istore_n (ls' := [zU, zI x1_3, zI 0]) dX3_partOfRow_39 rfl (Nat.le_of_ble_eq_true rfl) rfl rfl ?_
        refine zV_goto (tgt := 4) dX3_partOfRow_40 (by decide) ?_
        exact ih _ _ _ hP
def P_M_partOfRow (a1 : Int) (h : zH) (Q : Int → zH → Prop) : Prop :=
∃ n4, P_M_partOfRow_L4 Q n4 a1 0 h
theorem W_M_partOfRow (a1 : Int) (h : zH) (Q : Int → zH → Prop) (hP : P_M_partOfRow a1 h Q) : zC true zy_X3_partOfRow 1 [zI a1] h (zQ0 Q) := by
  unfold P_M_partOfRow at hP
  refine zC.of (by decide) (Nat.le_of_ble_eq_true rfl) ?_
  show zV true zy_X3_partOfRow 1 0 [zI a1, zU, zU] [] h (zQ0 Q)
  refine zV_iload_n dX3_partOfRow_0 rfl ?_
  refine zV_istore_n (ls' := [zI a1, zI a1, zU]) dX3_partOfRow_1 rfl (Nat.le_of_ble_eq_true rfl) rfl rfl ?_
  refine zV_iconst dX3_partOfRow_2 ⟨by decide, by decide⟩ ?_
  refine zV_istore_n (ls' := [zI a1, zI a1, zI 0]) dX3_partOfRow_3 rfl (Nat.le_of_ble_eq_true rfl) rfl rfl ?_
  obtain ⟨n4, hP⟩ := hP
  refine zV_mask [false, true, true] (ls' := [zU, zI a1, zI 0]) rfl ?_
  refine W_M_partOfRow_L4 _ n4 _ _ _ hP
def P_M_thereOf_J35 (y1 : Int) (y3 : Int) (s0 : Int) (s1 : Int) (h : zH) (Q : Int → zH → Prop) (k4 : Int → Int → zH → Prop) : Prop :=
∀ x2_1 : Int, x2_1 = (w32 (s1 + s0)) →
∀ x3_2 : Int, x3_2 = w32 (y3 + 1) →
k4 x2_1 x3_2 h
theorem W_M_thereOf_J35 (y1 : Int) (y3 : Int) (s0 : Int) (s1 : Int) (h : zH) (Q : Int → zH → Prop) (k4 : Int → Int → zH → Prop) (H4 : ∀ (v2 v3 : Int) (h' : zH), k4 v2 v3 h' → zV true zy_X3_thereOf 1 4 [zR 101, zI y1, zI v2, zI v3] [] h' (zQ0 Q)) (hP : P_M_thereOf_J35 y1 y3 s0 s1 h Q k4) : zV true zy_X3_thereOf 1 35 [zR 101, zI y1, zU, zI y3] [zI s0, zI s1] h (zQ0 Q) := by
  unfold P_M_thereOf_J35 at hP
  refine zV_iadd dX3_thereOf_35 ?_
  refine zV_top (fun x2_1 e_x2_1 => ?_)
  have hP := hP x2_1 e_x2_1
  refine zV_istore_n (ls' := [zR 101, zI y1, zI x2_1, zI y3]) dX3_thereOf_36 rfl (Nat.le_of_ble_eq_true rfl) rfl rfl ?_
  refine zV_inc (ls' := fun z => [zR 101, zI y1, zI x2_1, zI z]) dX3_thereOf_37 (Nat.le_of_ble_eq_true rfl) rfl rfl (fun _ => rfl) (fun x3_2 e_x3_2 => ?_)
  have hP := hP x3_2 e_x3_2
  refine zV_goto (tgt := 4) dX3_thereOf_40 (by decide) ?_
  exact H4 _ _ _ hP
def P_M_thereOf_L4 (y1 : Int) (Q : Int → zH → Prop) : Nat → Int → Int → zH → Prop
| 0, _, _, _ => False
| n4 + 1, y2, y3, h =>
(0 ≤ y1 ∧ y1 < 2) ∧
if zd h 155 y1 ≤ y3 then
(Q y2 h)
else
((0 ≤ w32 ((w32 (800 * y1)) + y3) ∧ w32 ((w32 (800 * y1)) + y3) < 1600) ∧
P_M_thereOf_J35 y1 y3 (if zd h 156 (w32 ((w32 (800 * y1)) + y3)) = 0 then 0 else 1) y2 h Q (P_M_thereOf_L4 y1 Q n4))
theorem W_M_thereOf_L4 (y1 : Int) (Q : Int → zH → Prop) : ∀ (n4 : Nat) (y2 y3 : Int) (h : zH), P_M_thereOf_L4 y1 Q n4 y2 y3 h → zV true zy_X3_thereOf 1 4 [zR 101, zI y1, zI y2, zI y3] [] h (zQ0 Q) := by
  intro n4
  induction n4 with
  | zero => intro y2 y3 h hP; exact absurd hP id
  | succ n4 ih =>
    intro y2 y3 h hP
    unfold P_M_thereOf_L4 at hP
    refine zV_iload_n dX3_thereOf_4 rfl ?_
    refine zV_aload_n dX3_thereOf_5 rfl ?_
    refine zV_sg dX3_thereOf_6 fm_101_81 sa_101 (by decide) fl_X3_171_3 rfl ?_
    refine zV_iload_n dX3_thereOf_9 rfl ?_
    obtain ⟨ob, hP⟩ := hP
    refine zV_ia dX3_thereOf_10 sa_155 ob ?_
    refine zV_icmp_ge (tgt := 43) dX3_thereOf_11 (by decide) (fun c => ?_) (fun c => ?_)
    · have hP := zif_p hP c
      refine zV_iload_n dX3_thereOf_43 rfl ?_
      exact zV_ireturn dX3_thereOf_44 rfl rfl rfl ⟨rfl, hP⟩
    · have hP := zif_n hP c
      refine zV_iload_n dX3_thereOf_14 rfl ?_
      refine zV_aload_n dX3_thereOf_15 rfl ?_
      refine zV_sg dX3_thereOf_16 fm_101_82 sa_101 (by decide) fl_X3_174_3 rfl ?_
      refine zV_sipush dX3_thereOf_19 ⟨by decide, by decide, by decide⟩ ?_
      refine zV_iload_n dX3_thereOf_22 rfl ?_
      refine zV_imul dX3_thereOf_23 ?_
      refine zV_iload_n dX3_thereOf_24 rfl ?_
      refine zV_iadd dX3_thereOf_25 ?_
      obtain ⟨ob, hP⟩ := hP
      refine zV_za dX3_thereOf_26 sa_156 ob ?_
      have K : zV true zy_X3_thereOf 1 35 [zR 101, zI y1, zU, zI y3] [zI (if zd h 156 (w32 ((w32 (800 * y1)) + y3)) = 0 then 0 else 1), zI y2] h (zQ0 Q) := by
        exact W_M_thereOf_J35 _ _ _ _ _ _ _ ih hP
      clear hP
      refine zV_if_eq (tgt := 34) dX3_thereOf_27 (by decide) (fun c => ?_) (fun c => ?_)
      · try simp only [if_pos c] at K
        refine zV_iconst dX3_thereOf_34 ⟨by decide, by decide⟩ ?_
        refine zV_mask [true, true, false, true] rfl ?_
        exact K
      · try simp only [if_neg c] at K
        refine zV_iconst dX3_thereOf_30 ⟨by decide, by decide⟩ ?_
        refine zV_goto (tgt := 35) dX3_thereOf_31 (by decide) ?_
        refine zV_mask [true, true, false, true] rfl ?_
        exact K
def P_M_thereOf (a1 : Int) (h : zH) (Q : Int → zH → Prop) : Prop :=
∃ n4, P_M_thereOf_L4 a1 Q n4 0 0 h
theorem W_M_thereOf (a1 : Int) (h : zH) (Q : Int → zH → Prop) (hP : P_M_thereOf a1 h Q) : zC true zy_X3_thereOf 1 [zR 101, zI a1] h (zQ0 Q) := by
  unfold P_M_thereOf at hP
  refine zC.of (by decide) (Nat.le_of_ble_eq_true rfl) ?_
  show zV true zy_X3_thereOf 1 0 [zR 101, zI a1, zU, zU] [] h (zQ0 Q)
  refine zV_iconst dX3_thereOf_0 ⟨by decide, by decide⟩ ?_
  refine zV_istore_n (ls' := [zR 101, zI a1, zI 0, zU]) dX3_thereOf_1 rfl (Nat.le_of_ble_eq_true rfl) rfl rfl ?_
  refine zV_iconst dX3_thereOf_2 ⟨by decide, by decide⟩ ?_
  refine zV_istore_n (ls' := [zR 101, zI a1, zI 0, zI 0]) dX3_thereOf_3 rfl (Nat.le_of_ble_eq_true rfl) rfl rfl ?_
  obtain ⟨n4, hP⟩ := hP
  refine W_M_thereOf_L4 _ _ n4 _ _ _ hP
def P_M_mayGo (a1 : Int) (a2 : Int) (h : zH) (Q : Int → zH → Prop) : Prop :=
(0 ≤ w32 ((w32 (800 * a1)) + a2) ∧ w32 ((w32 (800 * a1)) + a2) < 1600) ∧
if zd h 156 (w32 ((w32 (800 * a1)) + a2)) = 0 then
(Q 0 h)
else
((0 ≤ a2 ∧ a2 < 800) ∧
if zd h 171 a2 = 0 then
(P_M_sizeOf a1 (w32 (2000 + a2)) h (fun r1 h2 =>
Q (if r1 ≤ 2 then 0 else 1) h2))
else
(Q 0 h))
theorem W_M_mayGo (a1 : Int) (a2 : Int) (h : zH) (Q : Int → zH → Prop) (hP : P_M_mayGo a1 a2 h Q) : zC true zy_X3_mayGo 2 [zR 101, zI a1, zI a2] h (zQ0 Q) := by
  unfold P_M_mayGo at hP
  refine zC.of (by decide) (Nat.le_of_ble_eq_true rfl) ?_
  show zV true zy_X3_mayGo 2 0 [zR 101, zI a1, zI a2] [] h (zQ0 Q)
  refine zV_aload_n dX3_mayGo_0 rfl ?_
  refine zV_sg dX3_mayGo_1 fm_101_82 sa_101 (by decide) fl_X3_174_3 rfl ?_
  refine zV_sipush dX3_mayGo_4 ⟨by decide, by decide, by decide⟩ ?_
  refine zV_iload_n dX3_mayGo_7 rfl ?_
  refine zV_imul dX3_mayGo_8 ?_
  refine zV_iload_n dX3_mayGo_9 rfl ?_
  refine zV_iadd dX3_mayGo_10 ?_
  obtain ⟨ob, hP⟩ := hP
  refine zV_za dX3_mayGo_11 sa_156 ob ?_
  refine zV_if_eq (tgt := 42) dX3_mayGo_12 (by decide) (fun c => ?_) (fun c => ?_)
  · have hP := zif_p hP c
    refine zV_iconst dX3_mayGo_42 ⟨by decide, by decide⟩ ?_
    exact zV_ireturn dX3_mayGo_43 rfl rfl (z01 z0) ⟨rfl, hP⟩
  · have hP := zif_n hP c
    refine zV_aload_n dX3_mayGo_15 rfl ?_
    refine zV_sg dX3_mayGo_16 fm_101_107 sa_101 (by decide) fl_X3_219_3 rfl ?_
    refine zV_iload_n dX3_mayGo_19 rfl ?_
    obtain ⟨ob, hP⟩ := hP
    refine zV_za dX3_mayGo_20 sa_171 ob ?_
    refine zV_if_ne (tgt := 42) dX3_mayGo_21 (by decide) (fun c => ?_) (fun c => ?_)
    · have hP := zif_n hP c
      refine zV_iconst dX3_mayGo_42 ⟨by decide, by decide⟩ ?_
      exact zV_ireturn dX3_mayGo_43 rfl rfl (z01 z0) ⟨rfl, hP⟩
    · have hP := zif_p hP c
      refine zV_aload_n dX3_mayGo_24 rfl ?_
      refine zV_iload_n dX3_mayGo_25 rfl ?_
      refine zV_sipush dX3_mayGo_26 ⟨by decide, by decide, by decide⟩ ?_
      refine zV_iload_n dX3_mayGo_29 rfl ?_
      refine zV_iadd dX3_mayGo_30 ?_
      refine zV_cVk (As := [zI a1, zI (w32 (2000 + a2))]) (rest := []) dX3_mayGo_31 sa_101 (W_M_sizeOf _ _ _ _ hP) mi_X3_sizeOf ml_X3_377 (by decide) (Nat.le_of_ble_eq_true rfl) rfl rfl rfl (fun r1 h2 hP => ?_)
      refine zV_iconst dX3_mayGo_34 ⟨by decide, by decide⟩ ?_
      have K : zV true zy_X3_mayGo 2 43 [zU, zU, zU] [zI (if r1 ≤ 2 then 0 else 1)] h2 (zQ0 Q) := by
        exact zV_ireturn dX3_mayGo_43 rfl rfl (z01 (z01_if z0 z1)) ⟨rfl, hP⟩
      clear hP
      refine zV_icmp_le (tgt := 42) dX3_mayGo_35 (by decide) (fun c => ?_) (fun c => ?_)
      · try simp only [if_pos c] at K
        refine zV_iconst dX3_mayGo_42 ⟨by decide, by decide⟩ ?_
        refine zV_mask [false, false, false] rfl ?_
        exact K
      · try simp only [if_neg c] at K
        refine zV_iconst dX3_mayGo_38 ⟨by decide, by decide⟩ ?_
        refine zV_goto (tgt := 43) dX3_mayGo_39 (by decide) ?_
        refine zV_mask [false, false, false] rfl ?_
        exact K
def P_M_forgetSome_L22 (y1 : Int) (Q : Int → zH → Prop) (k45 : zH → Prop) : Nat → Int → zH → Prop
| 0, _, _ => False
| n22 + 1, y2, h =>
(0 ≤ y1 ∧ y1 < 2) ∧
if zd h 155 y1 ≤ y2 then
(k45 h)
else
((0 ≤ y2 ∧ y2 < 800) ∧
∀ h3 : zH, h3 = zw h 171 y2 (zbit 0) →
∀ x2_4 : Int, x2_4 = w32 (y2 + 1) →
P_M_forgetSome_L22 y1 Q k45 n22 x2_4 h3)
theorem W_M_forgetSome_L22 (y1 : Int) (Q : Int → zH → Prop) (k45 : zH → Prop) (H45 : ∀ (h' : zH), k45 h' → zV true zy_X3_forgetSome 3 45 [zR 101, zI y1, zU, zU, zU, zU, zU] [] h' (zQ0 Q)) : ∀ (n22 : Nat) (y2 : Int) (h : zH), P_M_forgetSome_L22 y1 Q k45 n22 y2 h → zV true zy_X3_forgetSome 3 22 [zR 101, zI y1, zI y2, zU, zU, zU, zU] [] h (zQ0 Q) := by
  intro n22
  induction n22 with
  | zero => intro y2 h hP; exact absurd hP id
  | succ n22 ih =>
    intro y2 h hP
    unfold P_M_forgetSome_L22 at hP
    refine zV_iload_n dX3_forgetSome_22 rfl ?_
    refine zV_aload_n dX3_forgetSome_23 rfl ?_
    refine zV_sg dX3_forgetSome_24 fm_101_81 sa_101 (by decide) fl_X3_171_3 rfl ?_
    refine zV_iload_n dX3_forgetSome_27 rfl ?_
    obtain ⟨ob, hP⟩ := hP
    refine zV_ia dX3_forgetSome_28 sa_155 ob ?_
    refine zV_icmp_ge (tgt := 45) dX3_forgetSome_29 (by decide) (fun c => ?_) (fun c => ?_)
    · have hP := zif_p hP c
      refine zV_mask [true, true, false, true, true, true, true] (ls' := [zR 101, zI y1, zU, zU, zU, zU, zU]) rfl ?_
      exact H45 _ hP
    · have hP := zif_n hP c
      refine zV_aload_n dX3_forgetSome_32 rfl ?_
      refine zV_sg dX3_forgetSome_33 fm_101_107 sa_101 (by decide) fl_X3_219_3 rfl ?_
      refine zV_iload_n dX3_forgetSome_36 rfl ?_
      refine zV_iconst dX3_forgetSome_37 ⟨by decide, by decide⟩ ?_
      obtain ⟨ob, hP⟩ := hP
      refine zV_zas dX3_forgetSome_38 sa_171 ob (fun h3 e_h3 => ?_)
      have hP := hP h3 e_h3
      refine zV_inc (ls' := fun z => [zR 101, zI y1, zI z, zU, zU, zU, zU]) dX3_forgetSome_39 (Nat.le_of_ble_eq_true rfl) rfl rfl (fun _ => rfl) (fun x2_4 e_x2_4 => ?_)
      have hP := hP x2_4 e_x2_4
      refine zV_goto (tgt := 22) dX3_forgetSome_42 (by decide) ?_
      exact ih _ _ hP
def P_M_forgetSome_J102 (y1 : Int) (y2 : Int) (h : zH) (Q : Int → zH → Prop) (k47 : Int → zH → Prop) : Prop :=
∀ x2_9 : Int, x2_9 = w32 (y2 + 1) →
k47 x2_9 h
theorem W_M_forgetSome_J102 (y1 : Int) (y2 : Int) (h : zH) (Q : Int → zH → Prop) (k47 : Int → zH → Prop) (H47 : ∀ (v2 : Int) (h' : zH), k47 v2 h' → zV true zy_X3_forgetSome 3 47 [zR 101, zI y1, zI v2, zU, zU, zU, zU] [] h' (zQ0 Q)) (hP : P_M_forgetSome_J102 y1 y2 h Q k47) : zV true zy_X3_forgetSome 3 102 [zR 101, zI y1, zI y2, zU, zU, zU, zU] [] h (zQ0 Q) := by
  unfold P_M_forgetSome_J102 at hP
  refine zV_inc (ls' := fun z => [zR 101, zI y1, zI z, zU, zU, zU, zU]) dX3_forgetSome_102 (Nat.le_of_ble_eq_true rfl) rfl rfl (fun _ => rfl) (fun x2_9 e_x2_9 => ?_)
  have hP := hP x2_9 e_x2_9
  refine zV_goto (tgt := 47) dX3_forgetSome_105 (by decide) ?_
  exact H47 _ _ hP
def P_M_forgetSome_L47 (y1 : Int) (Q : Int → zH → Prop) (k108 : zH → Prop) : Nat → Int → zH → Prop
| 0, _, _ => False
| n47 + 1, y2, h =>
(0 ≤ y1 ∧ y1 < 2) ∧
if zd h 150 y1 ≤ y2 then
(k108 h)
else
((0 ≤ w32 ((w32 (300 * y1)) + y2) ∧ w32 ((w32 (300 * y1)) + y2) < 600) ∧
P_M_nameOf (zd h 149 (w32 ((w32 (300 * y1)) + y2))) h (fun r6 h7 =>
(0 ≤ w32 ((w32 (301 * y1)) + r6) ∧ w32 ((w32 (301 * y1)) + r6) < 602) ∧
∀ x3_8 : Int, x3_8 = (zd h7 145 (w32 ((w32 (301 * y1)) + r6))) →
if x3_8 < 2000 then
(P_M_forgetSome_J102 y1 y2 h7 Q (P_M_forgetSome_L47 y1 Q k108 n47))
else
((0 ≤ w32 (x3_8 - 2000) ∧ w32 (x3_8 - 2000) < 800) ∧
∀ h10 : zH, h10 = zw h7 171 (w32 (x3_8 - 2000)) (zbit 1) →
P_M_forgetSome_J102 y1 y2 h10 Q (P_M_forgetSome_L47 y1 Q k108 n47))))
theorem W_M_forgetSome_L47 (y1 : Int) (Q : Int → zH → Prop) (k108 : zH → Prop) (H108 : ∀ (h' : zH), k108 h' → zV true zy_X3_forgetSome 3 108 [zR 101, zI y1, zU, zU, zU, zU, zU] [] h' (zQ0 Q)) : ∀ (n47 : Nat) (y2 : Int) (h : zH), P_M_forgetSome_L47 y1 Q k108 n47 y2 h → zV true zy_X3_forgetSome 3 47 [zR 101, zI y1, zI y2, zU, zU, zU, zU] [] h (zQ0 Q) := by
  intro n47
  induction n47 with
  | zero => intro y2 h hP; exact absurd hP id
  | succ n47 ih =>
    intro y2 h hP
    unfold P_M_forgetSome_L47 at hP
    refine zV_iload_n dX3_forgetSome_47 rfl ?_
    refine zV_aload_n dX3_forgetSome_48 rfl ?_
    refine zV_sg dX3_forgetSome_49 fm_101_76 sa_101 (by decide) fl_X3_156_3 rfl ?_
    refine zV_iload_n dX3_forgetSome_52 rfl ?_
    obtain ⟨ob, hP⟩ := hP
    refine zV_ia dX3_forgetSome_53 sa_150 ob ?_
    refine zV_icmp_ge (tgt := 108) dX3_forgetSome_54 (by decide) (fun c => ?_) (fun c => ?_)
    · have hP := zif_p hP c
      refine zV_mask [true, true, false, true, true, true, true] (ls' := [zR 101, zI y1, zU, zU, zU, zU, zU]) rfl ?_
      exact H108 _ hP
    · have hP := zif_n hP c
      refine zV_aload_n dX3_forgetSome_57 rfl ?_
      refine zV_sg dX3_forgetSome_58 fm_101_71 sa_101 (by decide) fl_X3_140_3 rfl ?_
      refine zV_sipush dX3_forgetSome_61 ⟨by decide, by decide, by decide⟩ ?_
      refine zV_iload_n dX3_forgetSome_64 rfl ?_
      refine zV_imul dX3_forgetSome_65 ?_
      refine zV_aload_n dX3_forgetSome_66 rfl ?_
      refine zV_sg dX3_forgetSome_67 fm_101_75 sa_101 (by decide) fl_X3_153_3 rfl ?_
      refine zV_sipush dX3_forgetSome_70 ⟨by decide, by decide, by decide⟩ ?_
      refine zV_iload_n dX3_forgetSome_73 rfl ?_
      refine zV_imul dX3_forgetSome_74 ?_
      refine zV_iload_n dX3_forgetSome_75 rfl ?_
      refine zV_iadd dX3_forgetSome_76 ?_
      obtain ⟨ob, hP⟩ := hP
      refine zV_ia dX3_forgetSome_77 sa_149 ob ?_
      refine zV_cSk (As := [zI (zd h 149 (w32 ((w32 (300 * y1)) + y2)))]) (rest := [zI (w32 (301 * y1)), zR 145]) dX3_forgetSome_78 (W_M_nameOf _ _ _ hP) mi_X3_nameOf ml_X3_289 (by decide) (Nat.le_of_ble_eq_true rfl) rfl rfl rfl (fun r6 h7 hP => ?_)
      refine zV_iadd dX3_forgetSome_81 ?_
      obtain ⟨ob, hP⟩ := hP
      refine zV_ia dX3_forgetSome_82 sa_145 ob ?_
      refine zV_top (fun x3_8 e_x3_8 => ?_)
      have hP := hP x3_8 e_x3_8
      refine zV_istore_n (ls' := [zR 101, zI y1, zI y2, zI x3_8, zU, zU, zU]) dX3_forgetSome_83 rfl (Nat.le_of_ble_eq_true rfl) rfl rfl ?_
      refine zV_iload_n dX3_forgetSome_84 rfl ?_
      refine zV_sipush dX3_forgetSome_85 ⟨by decide, by decide, by decide⟩ ?_
      refine zV_icmp_lt (tgt := 102) dX3_forgetSome_88 (by decide) (fun c => ?_) (fun c => ?_)
      · have hP := zif_p hP c
        refine zV_mask [true, true, true, false, true, true, true] (ls' := [zR 101, zI y1, zI y2, zU, zU, zU, zU]) rfl ?_
        exact W_M_forgetSome_J102 _ _ _ _ _ ih hP
      · have hP := zif_n hP c
        refine zV_aload_n dX3_forgetSome_91 rfl ?_
        refine zV_sg dX3_forgetSome_92 fm_101_107 sa_101 (by decide) fl_X3_219_3 rfl ?_
        refine zV_iload_n dX3_forgetSome_95 rfl ?_
        refine zV_sipush dX3_forgetSome_96 ⟨by decide, by decide, by decide⟩ ?_
        refine zV_isub dX3_forgetSome_99 ?_
        refine zV_iconst dX3_forgetSome_100 ⟨by decide, by decide⟩ ?_
        obtain ⟨ob, hP⟩ := hP
        refine zV_zas dX3_forgetSome_101 sa_171 ob (fun h10 e_h10 => ?_)
        have hP := hP h10 e_h10
        refine zV_mask [true, true, true, false, true, true, true] (ls' := [zR 101, zI y1, zI y2, zU, zU, zU, zU]) rfl ?_
        exact W_M_forgetSome_J102 _ _ _ _ _ ih hP
def P_M_forgetSome_J137 (y1 : Int) (y3 : Int) (s0 : Int) (s1 : Int) (h : zH) (Q : Int → zH → Prop) (k112 : Int → Int → zH → Prop) : Prop :=
∀ x2_14 : Int, x2_14 = (w32 (s1 + s0)) →
∀ x3_15 : Int, x3_15 = w32 (y3 + 1) →
k112 x2_14 x3_15 h
theorem W_M_forgetSome_J137 (y1 : Int) (y3 : Int) (s0 : Int) (s1 : Int) (h : zH) (Q : Int → zH → Prop) (k112 : Int → Int → zH → Prop) (H112 : ∀ (v2 v3 : Int) (h' : zH), k112 v2 v3 h' → zV true zy_X3_forgetSome 3 112 [zR 101, zI y1, zI v2, zI v3, zU, zU, zU] [] h' (zQ0 Q)) (hP : P_M_forgetSome_J137 y1 y3 s0 s1 h Q k112) : zV true zy_X3_forgetSome 3 137 [zR 101, zI y1, zU, zI y3, zU, zU, zU] [zI s0, zI s1] h (zQ0 Q) := by
  unfold P_M_forgetSome_J137 at hP
  refine zV_iadd dX3_forgetSome_137 ?_
  refine zV_top (fun x2_14 e_x2_14 => ?_)
  have hP := hP x2_14 e_x2_14
  refine zV_istore_n (ls' := [zR 101, zI y1, zI x2_14, zI y3, zU, zU, zU]) dX3_forgetSome_138 rfl (Nat.le_of_ble_eq_true rfl) rfl rfl ?_
  refine zV_inc (ls' := fun z => [zR 101, zI y1, zI x2_14, zI z, zU, zU, zU]) dX3_forgetSome_139 (Nat.le_of_ble_eq_true rfl) rfl rfl (fun _ => rfl) (fun x3_15 e_x3_15 => ?_)
  have hP := hP x3_15 e_x3_15
  refine zV_goto (tgt := 112) dX3_forgetSome_142 (by decide) ?_
  exact H112 _ _ _ hP
def P_M_forgetSome_L112 (y1 : Int) (Q : Int → zH → Prop) (k145 : Int → zH → Prop) : Nat → Int → Int → zH → Prop
| 0, _, _, _ => False
| n112 + 1, y2, y3, h =>
(0 ≤ y1 ∧ y1 < 2) ∧
if zd h 155 y1 ≤ y3 then
(k145 y2 h)
else
(P_M_mayGo y1 y3 h (fun r12 h13 =>
P_M_forgetSome_J137 y1 y3 (if r12 = 0 then 0 else 1) y2 h13 Q (P_M_forgetSome_L112 y1 Q k145 n112)))
theorem W_M_forgetSome_L112 (y1 : Int) (Q : Int → zH → Prop) (k145 : Int → zH → Prop) (H145 : ∀ (v2 : Int) (h' : zH), k145 v2 h' → zV true zy_X3_forgetSome 3 145 [zR 101, zI y1, zI v2, zU, zU, zU, zU] [] h' (zQ0 Q)) : ∀ (n112 : Nat) (y2 y3 : Int) (h : zH), P_M_forgetSome_L112 y1 Q k145 n112 y2 y3 h → zV true zy_X3_forgetSome 3 112 [zR 101, zI y1, zI y2, zI y3, zU, zU, zU] [] h (zQ0 Q) := by
  intro n112
  induction n112 with
  | zero => intro y2 y3 h hP; exact absurd hP id
  | succ n112 ih =>
    intro y2 y3 h hP
    unfold P_M_forgetSome_L112 at hP
    refine zV_iload_n dX3_forgetSome_112 rfl ?_
    refine zV_aload_n dX3_forgetSome_113 rfl ?_
    refine zV_sg dX3_forgetSome_114 fm_101_81 sa_101 (by decide) fl_X3_171_3 rfl ?_
    refine zV_iload_n dX3_forgetSome_117 rfl ?_
    obtain ⟨ob, hP⟩ := hP
    refine zV_ia dX3_forgetSome_118 sa_155 ob ?_
    refine zV_icmp_ge (tgt := 145) dX3_forgetSome_119 (by decide) (fun c => ?_) (fun c => ?_)
    · have hP := zif_p hP c
      refine zV_mask [true, true, true, false, true, true, true] (ls' := [zR 101, zI y1, zI y2, zU, zU, zU, zU]) rfl ?_
      exact H145 _ _ hP
    · have hP := zif_n hP c
      refine zV_iload_n dX3_forgetSome_122 rfl ?_
      refine zV_aload_n dX3_forgetSome_123 rfl ?_
      refine zV_iload_n dX3_forgetSome_124 rfl ?_
      refine zV_iload_n dX3_forgetSome_125 rfl ?_
      refine zV_cVk (As := [zI y1, zI y3]) (rest := [zI y2]) dX3_forgetSome_126 sa_101 (W_M_mayGo _ _ _ _ hP) mi_X3_mayGo ml_X3_575 (by decide) (Nat.le_of_ble_eq_true rfl) rfl rfl rfl (fun r12 h13 hP => ?_)
      have K : zV true zy_X3_forgetSome 3 137 [zR 101, zI y1, zU, zI y3, zU, zU, zU] [zI (if r12 = 0 then 0 else 1), zI y2] h13 (zQ0 Q) := by
        exact W_M_forgetSome_J137 _ _ _ _ _ _ _ ih hP
      clear hP
      refine zV_if_eq (tgt := 136) dX3_forgetSome_129 (by decide) (fun c => ?_) (fun c => ?_)
      · try simp only [if_pos c] at K
        refine zV_iconst dX3_forgetSome_136 ⟨by decide, by decide⟩ ?_
        refine zV_mask [true, true, false, true, false, false, false] rfl ?_
        exact K
      · try simp only [if_neg c] at K
        refine zV_iconst dX3_forgetSome_132 ⟨by decide, by decide⟩ ?_
        refine zV_goto (tgt := 137) dX3_forgetSome_133 (by decide) ?_
        refine zV_mask [true, true, false, true, false, false, false] rfl ?_
        exact K
def P_M_forgetSome_J236 (y1 : Int) (y2 : Int) (y3 : Int) (y5 : Int) (s0 : Int) (h : zH) (Q : Int → zH → Prop) (k162 : Int → Int → zH → Prop) : Prop :=
∀ x5_19 : Int, x5_19 = w32 (y5 + 1) →
k162 s0 x5_19 h
theorem W_M_forgetSome_J236 (y1 : Int) (y2 : Int) (y3 : Int) (y5 : Int) (s0 : Int) (h : zH) (Q : Int → zH → Prop) (k162 : Int → Int → zH → Prop) (H162 : ∀ (v4 v5 : Int) (h' : zH), k162 v4 v5 h' → zV true zy_X3_forgetSome 3 162 [zR 101, zI y1, zI y2, zI y3, zI v4, zI v5, zU] [] h' (zQ0 Q)) (hP : P_M_forgetSome_J236 y1 y2 y3 y5 s0 h Q k162) : zV true zy_X3_forgetSome 3 236 [zR 101, zI y1, zI y2, zI y3, zU, zI y5, zU] [zI s0] h (zQ0 Q) := by
  unfold P_M_forgetSome_J236 at hP
  refine zV_istore (ls' := [zR 101, zI y1, zI y2, zI y3, zI s0, zI y5, zU]) dX3_forgetSome_236 (Nat.le_of_ble_eq_true rfl) rfl rfl ?_
  refine zV_inc (ls' := fun z => [zR 101, zI y1, zI y2, zI y3, zI s0, zI z, zU]) dX3_forgetSome_238 (Nat.le_of_ble_eq_true rfl) rfl rfl (fun _ => rfl) (fun x5_19 e_x5_19 => ?_)
  have hP := hP x5_19 e_x5_19
  refine zV_goto (tgt := 162) dX3_forgetSome_241 (by decide) ?_
  exact H162 _ _ _ hP
def P_M_forgetSome_J222 (y1 : Int) (y2 : Int) (y3 : Int) (y4 : Int) (y5 : Int) (s0 : Int) (h : zH) (Q : Int → zH → Prop) (k162 : Int → Int → zH → Prop) : Prop :=
P_M_forgetSome_J236 y1 y2 y3 y5 (if s0 = 0 then y4 else y5) h Q k162
theorem W_M_forgetSome_J222 (y1 : Int) (y2 : Int) (y3 : Int) (y4 : Int) (y5 : Int) (s0 : Int) (h : zH) (Q : Int → zH → Prop) (k162 : Int → Int → zH → Prop) (H162 : ∀ (v4 v5 : Int) (h' : zH), k162 v4 v5 h' → zV true zy_X3_forgetSome 3 162 [zR 101, zI y1, zI y2, zI y3, zI v4, zI v5, zU] [] h' (zQ0 Q)) (hP : P_M_forgetSome_J222 y1 y2 y3 y4 y5 s0 h Q k162) : zV true zy_X3_forgetSome 3 222 [zR 101, zI y1, zI y2, zI y3, zI y4, zI y5, zU] [zI s0] h (zQ0 Q) := by
  unfold P_M_forgetSome_J222 at hP
  refine zV_istore (ls' := [zR 101, zI y1, zI y2, zI y3, zI y4, zI y5, zI s0]) dX3_forgetSome_222 (Nat.le_of_ble_eq_true rfl) rfl rfl ?_
  refine zV_iload dX3_forgetSome_224 rfl ?_
  have K : zV true zy_X3_forgetSome 3 236 [zR 101, zI y1, zI y2, zI y3, zU, zI y5, zU] [zI (if s0 = 0 then y4 else y5)] h (zQ0 Q) := by
    exact W_M_forgetSome_J236 _ _ _ _ _ _ _ _ H162 hP
  clear hP
  refine zV_if_eq (tgt := 234) dX3_forgetSome_226 (by decide) (fun c => ?_) (fun c => ?_)
  · try simp only [if_pos c] at K
    refine zV_iload dX3_forgetSome_234 rfl ?_
    refine zV_mask [true, true, true, true, false, true, false] rfl ?_
    exact K
  · try simp only [if_neg c] at K
    refine zV_iload dX3_forgetSome_229 rfl ?_
    refine zV_goto (tgt := 236) dX3_forgetSome_231 (by decide) ?_
    refine zV_mask [true, true, true, true, false, true, false] rfl ?_
    exact K
def P_M_forgetSome_L162 (y1 : Int) (y2 : Int) (y3 : Int) (Q : Int → zH → Prop) (k244 : Int → zH → Prop) : Nat → Int → Int → zH → Prop
| 0, _, _, _ => False
| n162 + 1, y4, y5, h =>
(0 ≤ y1 ∧ y1 < 2) ∧
if zd h 155 y1 ≤ y5 then
(k244 y4 h)
else
(P_M_mayGo y1 y5 h (fun r17 h18 =>
(if r17 = 0 then True else (if y4 < 0 then True else (0 ≤ w32 ((w32 (800 * y1)) + y5) ∧ w32 ((w32 (800 * y1)) + y5) < 1600) ∧ (0 ≤ w32 ((w32 (800 * y1)) + y4) ∧ w32 ((w32 (800 * y1)) + y4) < 1600) ∧ True)) ∧
P_M_forgetSome_J222 y1 y2 y3 y4 y5 (if r17 = 0 then 0 else if y4 < 0 then 1 else if zd h18 157 (w32 ((w32 (800 * y1)) + y4)) ≤ zd h18 157 (w32 ((w32 (800 * y1)) + y5)) then 0 else 1) h18 Q (P_M_forgetSome_L162 y1 y2 y3 Q k244 n162)))
theorem W_M_forgetSome_L162 (y1 : Int) (y2 : Int) (y3 : Int) (Q : Int → zH → Prop) (k244 : Int → zH → Prop) (H244 : ∀ (v4 : Int) (h' : zH), k244 v4 h' → zV true zy_X3_forgetSome 3 244 [zR 101, zI y1, zI y2, zI y3, zI v4, zU, zU] [] h' (zQ0 Q)) : ∀ (n162 : Nat) (y4 y5 : Int) (h : zH), P_M_forgetSome_L162 y1 y2 y3 Q k244 n162 y4 y5 h → zV true zy_X3_forgetSome 3 162 [zR 101, zI y1, zI y2, zI y3, zI y4, zI y5, zU] [] h (zQ0 Q) := by
  intro n162
  induction n162 with
  | zero => intro y4 y5 h hP; exact absurd hP id
  | succ n162 ih =>
    intro y4 y5 h hP
    unfold P_M_forgetSome_L162 at hP
    refine zV_iload dX3_forgetSome_162 rfl ?_
    refine zV_aload_n dX3_forgetSome_164 rfl ?_
    refine zV_sg dX3_forgetSome_165 fm_101_81 sa_101 (by decide) fl_X3_171_3 rfl ?_
    refine zV_iload_n dX3_forgetSome_168 rfl ?_
    obtain ⟨ob, hP⟩ := hP
    refine zV_ia dX3_forgetSome_169 sa_155 ob ?_
    refine zV_icmp_ge (tgt := 244) dX3_forgetSome_170 (by decide) (fun c => ?_) (fun c => ?_)
    · have hP := zif_p hP c
      refine zV_mask [true, true, true, true, true, false, true] (ls' := [zR 101, zI y1, zI y2, zI y3, zI y4, zU, zU]) rfl ?_
      exact H244 _ _ hP
    · have hP := zif_n hP c
      refine zV_aload_n dX3_forgetSome_173 rfl ?_
      refine zV_iload_n dX3_forgetSome_174 rfl ?_
      refine zV_iload dX3_forgetSome_175 rfl ?_
      refine zV_cVk (As := [zI y1, zI y5]) (rest := []) dX3_forgetSome_177 sa_101 (W_M_mayGo _ _ _ _ hP) mi_X3_mayGo ml_X3_575 (by decide) (Nat.le_of_ble_eq_true rfl) rfl rfl rfl (fun r17 h18 hP => ?_)
      obtain ⟨hO, hP⟩ := hP
      have K : zV true zy_X3_forgetSome 3 222 [zR 101, zI y1, zI y2, zI y3, zI y4, zI y5, zU] [zI (if r17 = 0 then 0 else if y4 < 0 then 1 else if zd h18 157 (w32 ((w32 (800 * y1)) + y4)) ≤ zd h18 157 (w32 ((w32 (800 * y1)) + y5)) then 0 else 1)] h18 (zQ0 Q) := by
        exact W_M_forgetSome_J222 _ _ _ _ _ _ _ _ _ ih hP
      clear hP
      refine zV_if_eq (tgt := 221) dX3_forgetSome_180 (by decide) (fun c => ?_) (fun c => ?_)
      · try simp only [if_pos c] at K
        have hO := zif_p hO c
        refine zV_iconst dX3_forgetSome_221 ⟨by decide, by decide⟩ ?_
        refine zV_mask [true, true, true, true, true, true, false] rfl ?_
        exact K
      · try simp only [if_neg c] at K
        have hO := zif_n hO c
        refine zV_iload dX3_forgetSome_183 rfl ?_
        refine zV_if_lt (tgt := 217) dX3_forgetSome_185 (by decide) (fun c => ?_) (fun c => ?_)
        · try simp only [if_pos c] at K
          have hO := zif_p hO c
          refine zV_iconst dX3_forgetSome_217 ⟨by decide, by decide⟩ ?_
          refine zV_goto (tgt := 222) dX3_forgetSome_218 (by decide) ?_
          refine zV_mask [true, true, true, true, true, true, false] rfl ?_
          exact K
        · try simp only [if_neg c] at K
          have hO := zif_n hO c
          refine zV_aload_n dX3_forgetSome_188 rfl ?_
          refine zV_sg dX3_forgetSome_189 fm_101_83 sa_101 (by decide) fl_X3_177_3 rfl ?_
          refine zV_sipush dX3_forgetSome_192 ⟨by decide, by decide, by decide⟩ ?_
          refine zV_iload_n dX3_forgetSome_195 rfl ?_
          refine zV_imul dX3_forgetSome_196 ?_
          refine zV_iload dX3_forgetSome_197 rfl ?_
          refine zV_iadd dX3_forgetSome_199 ?_
          obtain ⟨ob, hO⟩ := hO
          refine zV_ia dX3_forgetSome_200 sa_157 ob ?_
          refine zV_aload_n dX3_forgetSome_201 rfl ?_
          refine zV_sg dX3_forgetSome_202 fm_101_83 sa_101 (by decide) fl_X3_177_3 rfl ?_
          refine zV_sipush dX3_forgetSome_205 ⟨by decide, by decide, by decide⟩ ?_
          refine zV_iload_n dX3_forgetSome_208 rfl ?_
          refine zV_imul dX3_forgetSome_209 ?_
          refine zV_iload dX3_forgetSome_210 rfl ?_
          refine zV_iadd dX3_forgetSome_212 ?_
          obtain ⟨ob, hO⟩ := hO
          refine zV_ia dX3_forgetSome_213 sa_157 ob ?_
          refine zV_icmp_ge (tgt := 221) dX3_forgetSome_214 (by decide) (fun c => ?_) (fun c => ?_)
          · try simp only [if_pos c] at K
            refine zV_iconst dX3_forgetSome_221 ⟨by decide, by decide⟩ ?_
            refine zV_mask [true, true, true, true, true, true, false] rfl ?_
            exact K
          · try simp only [if_neg c] at K
            refine zV_iconst dX3_forgetSome_217 ⟨by decide, by decide⟩ ?_
            refine zV_goto (tgt := 222) dX3_forgetSome_218 (by decide) ?_
            refine zV_mask [true, true, true, true, true, true, false] rfl ?_
            exact K
def P_M_forgetSome_L147 (y1 : Int) (y2 : Int) (Q : Int → zH → Prop) (k280 : zH → Prop) : Nat → Int → zH → Prop
| 0, _, _ => False
| n147 + 1, y3, h =>
if w32 (Int.tdiv y2 2) ≤ y3 then
(k280 h)
else
(∃ n162, P_M_forgetSome_L162 y1 y2 y3 Q (fun u4_244 h20 =>
(0 ≤ w32 ((w32 (800 * y1)) + u4_244) ∧ w32 ((w32 (800 * y1)) + u4_244) < 1600) ∧
∀ h21 : zH, h21 = zw h20 156 (w32 ((w32 (800 * y1)) + u4_244)) (zbit 0) →
(0 ≤ w32 ((w32 (10 * y1)) + 6) ∧ w32 ((w32 (10 * y1)) + 6) < 20) ∧
(0 ≤ w32 ((w32 (10 * y1)) + 6) ∧ w32 ((w32 (10 * y1)) + 6) < 20) ∧
∀ h22 : zH, h22 = zw h21 163 (w32 ((w32 (10 * y1)) + 6)) (w32 ((zd h21 163 (w32 ((w32 (10 * y1)) + 6))) + 1)) →
∀ x3_23 : Int, x3_23 = w32 (y3 + 1) →
P_M_forgetSome_L147 y1 y2 Q k280 n147 x3_23 h22) n162 (-1005) 0 h)
theorem W_M_forgetSome_L147 (y1 : Int) (y2 : Int) (Q : Int → zH → Prop) (k280 : zH → Prop) (H280 : ∀ (h' : zH), k280 h' → zV true zy_X3_forgetSome 3 280 [zR 101, zI y1, zU, zU, zU, zU, zU] [] h' (zQ0 Q)) : ∀ (n147 : Nat) (y3 : Int) (h : zH), P_M_forgetSome_L147 y1 y2 Q k280 n147 y3 h → zV true zy_X3_forgetSome 3 147 [zR 101, zI y1, zI y2, zI y3, zU, zU, zU] [] h (zQ0 Q) := by
  intro n147
  induction n147 with
  | zero => intro y3 h hP; exact absurd hP id
  | succ n147 ih =>
    intro y3 h hP
    unfold P_M_forgetSome_L147 at hP
    refine zV_iload_n dX3_forgetSome_147 rfl ?_
    refine zV_iload_n dX3_forgetSome_148 rfl ?_
    refine zV_iconst dX3_forgetSome_149 ⟨by decide, by decide⟩ ?_
    refine zV_idiv dX3_forgetSome_150 (by decide) ?_
    refine zV_icmp_ge (tgt := 280) dX3_forgetSome_151 (by decide) (fun c => ?_) (fun c => ?_)
    · have hP := zif_p hP c
      refine zV_mask [true, true, false, false, true, true, true] (ls' := [zR 101, zI y1, zU, zU, zU, zU, zU]) rfl ?_
      exact H280 _ hP
    · have hP := zif_n hP c
      refine zV_sipush dX3_forgetSome_154 ⟨by decide, by decide, by decide⟩ ?_
      refine zV_istore (ls' := [zR 101, zI y1, zI y2, zI y3, zI (-1005), zU, zU]) dX3_forgetSome_157 (Nat.le_of_ble_eq_true rfl) rfl rfl ?_
      refine zV_iconst dX3_forgetSome_159 ⟨by decide, by decide⟩ ?_
      refine zV_istore (ls' := [zR 101, zI y1, zI y2, zI y3, zI (-1005), zI 0, zU]) dX3_forgetSome_160 (Nat.le_of_ble_eq_true rfl) rfl rfl ?_
      obtain ⟨n162, hP⟩ := hP
      refine W_M_forgetSome_L162 _ _ _ _ _ (fun u4_244 h20 hP => ?_) n162 _ _ _ hP
      refine zV_aload_n dX3_forgetSome_244 rfl ?_
      refine zV_sg dX3_forgetSome_245 fm_101_82 sa_101 (by decide) fl_X3_174_3 rfl ?_
      refine zV_sipush dX3_forgetSome_248 ⟨by decide, by decide, by decide⟩ ?_
      refine zV_iload_n dX3_forgetSome_251 rfl ?_
      refine zV_imul dX3_forgetSome_252 ?_
      refine zV_iload dX3_forgetSome_253 rfl ?_
      refine zV_iadd dX3_forgetSome_255 ?_
      refine zV_iconst dX3_forgetSome_256 ⟨by decide, by decide⟩ ?_
      obtain ⟨ob, hP⟩ := hP
      refine zV_zas dX3_forgetSome_257 sa_156 ob (fun h21 e_h21 => ?_)
      have hP := hP h21 e_h21
      refine zV_aload_n dX3_forgetSome_258 rfl ?_
      refine zV_sg dX3_forgetSome_259 fm_101_90 sa_101 (by decide) fl_X3_195_3 rfl ?_
      refine zV_bipush dX3_forgetSome_262 ⟨by decide, by decide, by decide⟩ ?_
      refine zV_iload_n dX3_forgetSome_264 rfl ?_
      refine zV_imul dX3_forgetSome_265 ?_
      refine zV_bipush dX3_forgetSome_266 ⟨by decide, by decide, by decide⟩ ?_
      refine zV_iadd dX3_forgetSome_268 ?_
      refine zV_dup2 dX3_forgetSome_269 (Nat.ne_of_beq_eq_false rfl) (Nat.ne_of_beq_eq_false rfl) ?_
      obtain ⟨ob, hP⟩ := hP
      refine zV_ia dX3_forgetSome_270 sa_163 ob ?_
      refine zV_iconst dX3_forgetSome_271 ⟨by decide, by decide⟩ ?_
      refine zV_iadd dX3_forgetSome_272 ?_
      obtain ⟨ob, hP⟩ := hP
      refine zV_ias dX3_forgetSome_273 sa_163 ob (fun h22 e_h22 => ?_)
      have hP := hP h22 e_h22
      refine zV_inc (ls' := fun z => [zR 101, zI y1, zI y2, zI z, zI u4_244, zU, zU]) dX3_forgetSome_274 (Nat.le_of_ble_eq_true rfl) rfl rfl (fun _ => rfl) (fun x3_23 e_x3_23 => ?_)
      have hP := hP x3_23 e_x3_23
      refine zV_goto (tgt := 147) dX3_forgetSome_277 (by decide) ?_
      refine zV_mask [true, true, true, true, false, true, true] (ls' := [zR 101, zI y1, zI y2, zI x3_23, zU, zU, zU]) rfl ?_
      exact ih _ _ hP
def P_M_forgetSome_L282 (y1 : Int) (Q : Int → zH → Prop) : Nat → Int → zH → Prop
| 0, _, _ => False
| n282 + 1, y3, h =>
(0 ≤ y1 ∧ y1 < 2) ∧
if zd h 155 y1 ≤ y3 then
(Q 0 h)
else
((0 ≤ w32 ((w32 (800 * y1)) + y3) ∧ w32 ((w32 (800 * y1)) + y3) < 1600) ∧
(0 ≤ w32 ((w32 (800 * y1)) + y3) ∧ w32 ((w32 (800 * y1)) + y3) < 1600) ∧
∀ h25 : zH, h25 = zw h 157 (w32 ((w32 (800 * y1)) + y3)) (w32 (Int.tdiv (zd h 157 (w32 ((w32 (800 * y1)) + y3))) 2)) →
∀ x3_26 : Int, x3_26 = w32 (y3 + 1) →
P_M_forgetSome_L282 y1 Q n282 x3_26 h25)
theorem W_M_forgetSome_L282 (y1 : Int) (Q : Int → zH → Prop) : ∀ (n282 : Nat) (y3 : Int) (h : zH), P_M_forgetSome_L282 y1 Q n282 y3 h → zV true zy_X3_forgetSome 3 282 [zR 101, zI y1, zU, zI y3, zU, zU, zU] [] h (zQ0 Q) := by
  intro n282
  induction n282 with
  | zero => intro y3 h hP; exact absurd hP id
  | succ n282 ih =>
    intro y3 h hP
    unfold P_M_forgetSome_L282 at hP
    refine zV_iload_n dX3_forgetSome_282 rfl ?_
    refine zV_aload_n dX3_forgetSome_283 rfl ?_
    refine zV_sg dX3_forgetSome_284 fm_101_81 sa_101 (by decide) fl_X3_171_3 rfl ?_
    refine zV_iload_n dX3_forgetSome_287 rfl ?_
    obtain ⟨ob, hP⟩ := hP
    refine zV_ia dX3_forgetSome_288 sa_155 ob ?_
    refine zV_icmp_ge (tgt := 324) dX3_forgetSome_289 (by decide) (fun c => ?_) (fun c => ?_)
    · have hP := zif_p hP c
      exact zV_return dX3_forgetSome_324 rfl ⟨rfl, hP⟩
    · have hP := zif_n hP c
      refine zV_aload_n dX3_forgetSome_292 rfl ?_
      refine zV_sg dX3_forgetSome_293 fm_101_83 sa_101 (by decide) fl_X3_177_3 rfl ?_
      refine zV_sipush dX3_forgetSome_296 ⟨by decide, by decide, by decide⟩ ?_
      refine zV_iload_n dX3_forgetSome_299 rfl ?_
      refine zV_imul dX3_forgetSome_300 ?_
      refine zV_iload_n dX3_forgetSome_301 rfl ?_
      refine zV_iadd dX3_forgetSome_302 ?_
      refine zV_aload_n dX3_forgetSome_303 rfl ?_
      refine zV_sg dX3_forgetSome_304 fm_101_83 sa_101 (by decide) fl_X3_177_3 rfl ?_
      refine zV_sipush dX3_forgetSome_307 ⟨by decide, by decide, by decide⟩ ?_
      refine zV_iload_n dX3_forgetSome_310 rfl ?_
      refine zV_imul dX3_forgetSome_311 ?_
      refine zV_iload_n dX3_forgetSome_312 rfl ?_
      refine zV_iadd dX3_forgetSome_313 ?_
      obtain ⟨ob, hP⟩ := hP
      refine zV_ia dX3_forgetSome_314 sa_157 ob ?_
      refine zV_iconst dX3_forgetSome_315 ⟨by decide, by decide⟩ ?_
      refine zV_idiv dX3_forgetSome_316 (by decide) ?_
      obtain ⟨ob, hP⟩ := hP
      refine zV_ias dX3_forgetSome_317 sa_157 ob (fun h25 e_h25 => ?_)
      have hP := hP h25 e_h25
      refine zV_inc (ls' := fun z => [zR 101, zI y1, zU, zI z, zU, zU, zU]) dX3_forgetSome_318 (Nat.le_of_ble_eq_true rfl) rfl rfl (fun _ => rfl) (fun x3_26 e_x3_26 => ?_)
      have hP := hP x3_26 e_x3_26
      refine zV_goto (tgt := 282) dX3_forgetSome_321 (by decide) ?_
      exact ih _ _ hP
def P_M_forgetSome (a1 : Int) (h : zH) (Q : Int → zH → Prop) : Prop :=
if zd h 101 31 = 0 then
(Q 0 h)
else
(P_M_thereOf a1 h (fun r1 h2 =>
if zd h2 101 31 < r1 then
(∃ n22, P_M_forgetSome_L22 a1 Q (fun h5 =>
∃ n47, P_M_forgetSome_L47 a1 Q (fun h11 =>
∃ n112, P_M_forgetSome_L112 a1 Q (fun u2_145 h16 =>
∃ n147, P_M_forgetSome_L147 a1 u2_145 Q (fun h24 =>
∃ n282, P_M_forgetSome_L282 a1 Q n282 0 h24) n147 0 h16) n112 0 0 h11) n47 0 h5) n22 0 h2)
else
(Q 0 h2)))
theorem W_M_forgetSome (a1 : Int) (h : zH) (Q : Int → zH → Prop) (hP : P_M_forgetSome a1 h Q) : zC true zy_X3_forgetSome 3 [zR 101, zI a1] h (zQ0 Q) := by
  unfold P_M_forgetSome at hP
  refine zC.of (by decide) (Nat.le_of_ble_eq_true rfl) ?_
  show zV true zy_X3_forgetSome 3 0 [zR 101, zI a1, zU, zU, zU, zU, zU] [] h (zQ0 Q)
  refine zV_aload_n dX3_forgetSome_0 rfl ?_
  refine zV_gf dX3_forgetSome_1 sa_101 (by decide) fl_X3_439_3 rfl (ki := 31) rfl ?_
  refine zV_if_eq (tgt := 19) dX3_forgetSome_4 (by decide) (fun c => ?_) (fun c => ?_)
  · have hP := zif_p hP c
    exact zV_return dX3_forgetSome_19 rfl ⟨rfl, hP⟩
  · have hP := zif_n hP c
    refine zV_aload_n dX3_forgetSome_7 rfl ?_
    refine zV_iload_n dX3_forgetSome_8 rfl ?_
    refine zV_cVk (As := [zI a1]) (rest := []) dX3_forgetSome_9 sa_101 (W_M_thereOf _ _ _ hP) mi_X3_thereOf ml_X3_572 (by decide) (Nat.le_of_ble_eq_true rfl) rfl rfl rfl (fun r1 h2 hP => ?_)
    refine zV_aload_n dX3_forgetSome_12 rfl ?_
    refine zV_gf dX3_forgetSome_13 sa_101 (by decide) fl_X3_439_3 rfl (ki := 31) rfl ?_
    refine zV_icmp_gt (tgt := 20) dX3_forgetSome_16 (by decide) (fun c => ?_) (fun c => ?_)
    · have hP := zif_p hP c
      refine zV_iconst dX3_forgetSome_20 ⟨by decide, by decide⟩ ?_
      refine zV_istore_n (ls' := [zR 101, zI a1, zI 0, zU, zU, zU, zU]) dX3_forgetSome_21 rfl (Nat.le_of_ble_eq_true rfl) rfl rfl ?_
      obtain ⟨n22, hP⟩ := hP
      refine W_M_forgetSome_L22 _ _ _ (fun h5 hP => ?_) n22 _ _ hP
      refine zV_iconst dX3_forgetSome_45 ⟨by decide, by decide⟩ ?_
      refine zV_istore_n (ls' := [zR 101, zI a1, zI 0, zU, zU, zU, zU]) dX3_forgetSome_46 rfl (Nat.le_of_ble_eq_true rfl) rfl rfl ?_
      obtain ⟨n47, hP⟩ := hP
      refine W_M_forgetSome_L47 _ _ _ (fun h11 hP => ?_) n47 _ _ hP
      refine zV_iconst dX3_forgetSome_108 ⟨by decide, by decide⟩ ?_
      refine zV_istore_n (ls' := [zR 101, zI a1, zI 0, zU, zU, zU, zU]) dX3_forgetSome_109 rfl (Nat.le_of_ble_eq_true rfl) rfl rfl ?_
      refine zV_iconst dX3_forgetSome_110 ⟨by decide, by decide⟩ ?_
      refine zV_istore_n (ls' := [zR 101, zI a1, zI 0, zI 0, zU, zU, zU]) dX3_forgetSome_111 rfl (Nat.le_of_ble_eq_true rfl) rfl rfl ?_
      obtain ⟨n112, hP⟩ := hP
      refine W_M_forgetSome_L112 _ _ _ (fun u2_145 h16 hP => ?_) n112 _ _ _ hP
      refine zV_iconst dX3_forgetSome_145 ⟨by decide, by decide⟩ ?_
      refine zV_istore_n (ls' := [zR 101, zI a1, zI u2_145, zI 0, zU, zU, zU]) dX3_forgetSome_146 rfl (Nat.le_of_ble_eq_true rfl) rfl rfl ?_
      obtain ⟨n147, hP⟩ := hP
      refine W_M_forgetSome_L147 _ _ _ _ (fun h24 hP => ?_) n147 _ _ hP
      refine zV_iconst dX3_forgetSome_280 ⟨by decide, by decide⟩ ?_
      refine zV_istore_n (ls' := [zR 101, zI a1, zU, zI 0, zU, zU, zU]) dX3_forgetSome_281 rfl (Nat.le_of_ble_eq_true rfl) rfl rfl ?_
      obtain ⟨n282, hP⟩ := hP
      refine W_M_forgetSome_L282 _ _ n282 _ _ hP
    · have hP := zif_n hP c
      exact zV_return dX3_forgetSome_19 rfl ⟨rfl, hP⟩
def P_M_learn_J171 (y1 : Int) (y2 : Int) (y3 : Int) (y4 : Int) (y5 : Int) (y6 : Int) (y7 : Int) (h : zH) (Q : Int → zH → Prop) (k76 : Int → Int → Int → zH → Prop) : Prop :=
∀ x7_16 : Int, x7_16 = w32 (y7 + (-1)) →
k76 y5 y6 x7_16 h
theorem W_M_learn_J171 (y1 : Int) (y2 : Int) (y3 : Int) (y4 : Int) (y5 : Int) (y6 : Int) (y7 : Int) (h : zH) (Q : Int → zH → Prop) (k76 : Int → Int → Int → zH → Prop) (H76 : ∀ (v5 v6 v7 : Int) (h' : zH), k76 v5 v6 v7 h' → zV true zy_X3_learn 4 76 [zR 101, zI y1, zI y2, zI y3, zI y4, zI v5, zI v6, zI v7, zU, zU] [] h' (zQ0 Q)) (hP : P_M_learn_J171 y1 y2 y3 y4 y5 y6 y7 h Q k76) : zV true zy_X3_learn 4 171 [zR 101, zI y1, zI y2, zI y3, zI y4, zI y5, zI y6, zI y7, zU, zU] [] h (zQ0 Q) := by
  unfold P_M_learn_J171 at hP
  refine zV_inc (ls' := fun z => [zR 101, zI y1, zI y2, zI y3, zI y4, zI y5, zI y6, zI z, zU, zU]) dX3_learn_171 (Nat.le_of_ble_eq_true rfl) rfl rfl (fun _ => rfl) (fun x7_16 e_x7_16 => ?_)
  have hP := hP x7_16 e_x7_16
  refine zV_goto (tgt := 76) dX3_learn_174 (by decide) ?_
  exact H76 _ _ _ _ hP
def P_M_learn_J169 (y1 : Int) (y2 : Int) (y3 : Int) (y4 : Int) (y5 : Int) (y7 : Int) (s0 : Int) (h : zH) (Q : Int → zH → Prop) (k76 : Int → Int → Int → zH → Prop) : Prop :=
P_M_learn_J171 y1 y2 y3 y4 y5 s0 y7 h Q k76
theorem W_M_learn_J169 (y1 : Int) (y2 : Int) (y3 : Int) (y4 : Int) (y5 : Int) (y7 : Int) (s0 : Int) (h : zH) (Q : Int → zH → Prop) (k76 : Int → Int → Int → zH → Prop) (H76 : ∀ (v5 v6 v7 : Int) (h' : zH), k76 v5 v6 v7 h' → zV true zy_X3_learn 4 76 [zR 101, zI y1, zI y2, zI y3, zI y4, zI v5, zI v6, zI v7, zU, zU] [] h' (zQ0 Q)) (hP : P_M_learn_J169 y1 y2 y3 y4 y5 y7 s0 h Q k76) : zV true zy_X3_learn 4 169 [zR 101, zI y1, zI y2, zI y3, zI y4, zI y5, zU, zI y7, zU, zU] [zI s0] h (zQ0 Q) := by
  unfold P_M_learn_J169 at hP
  refine zV_istore (ls' := [zR 101, zI y1, zI y2, zI y3, zI y4, zI y5, zI s0, zI y7, zU, zU]) dX3_learn_169 (Nat.le_of_ble_eq_true rfl) rfl rfl ?_
  exact W_M_learn_J171 _ _ _ _ _ _ _ _ _ _ H76 hP
def P_M_learn_L76 (y1 : Int) (y2 : Int) (y3 : Int) (y4 : Int) (Q : Int → zH → Prop) (k177 : Int → Int → zH → Prop) : Nat → Int → Int → Int → zH → Prop
| 0, _, _, _, _ => False
| n76 + 1, y5, y6, y7, h =>
if y7 < 0 then
(k177 y5 y6 h)
else
((0 ≤ w32 ((w32 (300 * y1)) + y7) ∧ w32 ((w32 (300 * y1)) + y7) < 600) ∧
∀ x8_13 : Int, x8_13 = (zd h 149 (w32 ((w32 (300 * y1)) + y7))) →
P_M_nameOf x8_13 h (fun r14 h15 =>
if x8_13 = y4 then
(P_M_learn_J171 y1 y2 y3 y4 y5 y6 y7 h15 Q (P_M_learn_L76 y1 y2 y3 y4 Q k177 n76))
else
((0 ≤ r14 ∧ r14 < 301) ∧
if zd h15 168 r14 = 0 then
(P_M_learn_J171 y1 y2 y3 y4 y5 y6 y7 h15 Q (P_M_learn_L76 y1 y2 y3 y4 Q k177 n76))
else
((0 ≤ y5 ∧ y5 < 320) ∧
∀ h17 : zH, h17 = zw h15 167 y5 (w32 (-x8_13)) →
∀ x5_18 : Int, x5_18 = w32 (y5 + 1) →
(0 ≤ w32 ((w32 (301 * y1)) + r14) ∧ w32 ((w32 (301 * y1)) + r14) < 602) ∧
(if y6 ≤ zd h17 144 (w32 ((w32 (301 * y1)) + r14)) then (0 ≤ w32 ((w32 (301 * y1)) + r14) ∧ w32 ((w32 (301 * y1)) + r14) < 602) ∧ True else True) ∧
P_M_learn_J169 y1 y2 y3 y4 x5_18 y7 (if y6 ≤ zd h17 144 (w32 ((w32 (301 * y1)) + r14)) then zd h17 144 (w32 ((w32 (301 * y1)) + r14)) else y6) h17 Q (P_M_learn_L76 y1 y2 y3 y4 Q k177 n76)))))
theorem W_M_learn_L76 (y1 : Int) (y2 : Int) (y3 : Int) (y4 : Int) (Q : Int → zH → Prop) (k177 : Int → Int → zH → Prop) (H177 : ∀ (v5 v6 : Int) (h' : zH), k177 v5 v6 h' → zV true zy_X3_learn 4 177 [zR 101, zI y1, zI y2, zI y3, zU, zI v5, zI v6, zU, zU, zU] [] h' (zQ0 Q)) : ∀ (n76 : Nat) (y5 y6 y7 : Int) (h : zH), P_M_learn_L76 y1 y2 y3 y4 Q k177 n76 y5 y6 y7 h → zV true zy_X3_learn 4 76 [zR 101, zI y1, zI y2, zI y3, zI y4, zI y5, zI y6, zI y7, zU, zU] [] h (zQ0 Q) := by
  intro n76
  induction n76 with
  | zero => intro y5 y6 y7 h hP; exact absurd hP id
  | succ n76 ih =>
    intro y5 y6 y7 h hP
    unfold P_M_learn_L76 at hP
    refine zV_iload dX3_learn_76 rfl ?_
    refine zV_if_lt (tgt := 177) dX3_learn_78 (by decide) (fun c => ?_) (fun c => ?_)
    · have hP := zif_p hP c
      refine zV_mask [true, true, true, true, false, true, true, false, true, true] (ls' := [zR 101, zI y1, zI y2, zI y3, zU, zI y5, zI y6, zU, zU, zU]) rfl ?_
      exact H177 _ _ _ hP
    · have hP := zif_n hP c
      refine zV_aload_n dX3_learn_81 rfl ?_
      refine zV_sg dX3_learn_82 fm_101_75 sa_101 (by decide) fl_X3_153_3 rfl ?_
      refine zV_sipush dX3_learn_85 ⟨by decide, by decide, by decide⟩ ?_
      refine zV_iload_n dX3_learn_88 rfl ?_
      refine zV_imul dX3_learn_89 ?_
      refine zV_iload dX3_learn_90 rfl ?_
      refine zV_iadd dX3_learn_92 ?_
      obtain ⟨ob, hP⟩ := hP
      refine zV_ia dX3_learn_93 sa_149 ob ?_
      refine zV_top (fun x8_13 e_x8_13 => ?_)
      have hP := hP x8_13 e_x8_13
      refine zV_istore (ls' := [zR 101, zI y1, zI y2, zI y3, zI y4, zI y5, zI y6, zI y7, zI x8_13, zU]) dX3_learn_94 (Nat.le_of_ble_eq_true rfl) rfl rfl ?_
      refine zV_iload dX3_learn_96 rfl ?_
      refine zV_cSk (As := [zI x8_13]) (rest := []) dX3_learn_98 (W_M_nameOf _ _ _ hP) mi_X3_nameOf ml_X3_289 (by decide) (Nat.le_of_ble_eq_true rfl) rfl rfl rfl (fun r14 h15 hP => ?_)
      refine zV_istore (ls' := [zR 101, zI y1, zI y2, zI y3, zI y4, zI y5, zI y6, zI y7, zI x8_13, zI r14]) dX3_learn_101 (Nat.le_of_ble_eq_true rfl) rfl rfl ?_
      refine zV_iload dX3_learn_103 rfl ?_
      refine zV_iload dX3_learn_105 rfl ?_
      refine zV_icmp_eq (tgt := 171) dX3_learn_107 (by decide) (fun c => ?_) (fun c => ?_)
      · have hP := zif_p hP c
        refine zV_mask [true, true, true, true, true, true, true, true, false, false] (ls' := [zR 101, zI y1, zI y2, zI y3, zI y4, zI y5, zI y6, zI y7, zU, zU]) rfl ?_
        exact W_M_learn_J171 _ _ _ _ _ _ _ _ _ _ ih hP
      · have hP := zif_n hP c
        refine zV_aload_n dX3_learn_110 rfl ?_
        refine zV_sg dX3_learn_111 fm_101_102 sa_101 (by decide) fl_X3_210_3 rfl ?_
        refine zV_iload dX3_learn_114 rfl ?_
        obtain ⟨ob, hP⟩ := hP
        refine zV_za dX3_learn_116 sa_168 ob ?_
        refine zV_if_eq (tgt := 171) dX3_learn_117 (by decide) (fun c => ?_) (fun c => ?_)
        · have hP := zif_p hP c
          refine zV_mask [true, true, true, true, true, true, true, true, false, false] (ls' := [zR 101, zI y1, zI y2, zI y3, zI y4, zI y5, zI y6, zI y7, zU, zU]) rfl ?_
          exact W_M_learn_J171 _ _ _ _ _ _ _ _ _ _ ih hP
        · have hP := zif_n hP c
          refine zV_aload_n dX3_learn_120 rfl ?_
          refine zV_sg dX3_learn_121 fm_101_101 sa_101 (by decide) fl_X3_207_3 rfl ?_
          refine zV_iload dX3_learn_124 rfl ?_
          refine zV_iload dX3_learn_126 rfl ?_
          refine zV_ineg dX3_learn_128 ?_
          obtain ⟨ob, hP⟩ := hP
          refine zV_ias dX3_learn_129 sa_167 ob (fun h17 e_h17 => ?_)
          have hP := hP h17 e_h17
          refine zV_inc (ls' := fun z => [zR 101, zI y1, zI y2, zI y3, zI y4, zI z, zI y6, zI y7, zI x8_13, zI r14]) dX3_learn_130 (Nat.le_of_ble_eq_true rfl) rfl rfl (fun _ => rfl) (fun x5_18 e_x5_18 => ?_)
          have hP := hP x5_18 e_x5_18
          refine zV_iload dX3_learn_133 rfl ?_
          refine zV_aload_n dX3_learn_135 rfl ?_
          refine zV_sg dX3_learn_136 fm_101_70 sa_101 (by decide) fl_X3_137_3 rfl ?_
          refine zV_sipush dX3_learn_139 ⟨by decide, by decide, by decide⟩ ?_
          refine zV_iload_n dX3_learn_142 rfl ?_
          refine zV_imul dX3_learn_143 ?_
          refine zV_iload dX3_learn_144 rfl ?_
          refine zV_iadd dX3_learn_146 ?_
          obtain ⟨ob, hP⟩ := hP
          refine zV_ia dX3_learn_147 sa_144 ob ?_
          obtain ⟨hO, hP⟩ := hP
          have K : zV true zy_X3_learn 4 169 [zR 101, zI y1, zI y2, zI y3, zI y4, zI x5_18, zU, zI y7, zU, zU] [zI (if y6 ≤ zd h17 144 (w32 ((w32 (301 * y1)) + r14)) then zd h17 144 (w32 ((w32 (301 * y1)) + r14)) else y6)] h17 (zQ0 Q) := by
            exact W_M_learn_J169 _ _ _ _ _ _ _ _ _ _ ih hP
          clear hP
          refine zV_icmp_le (tgt := 156) dX3_learn_148 (by decide) (fun c => ?_) (fun c => ?_)
          · try simp only [if_pos c] at K
            have hO := zif_p hO c
            refine zV_aload_n dX3_learn_156 rfl ?_
            refine zV_sg dX3_learn_157 fm_101_70 sa_101 (by decide) fl_X3_137_3 rfl ?_
            refine zV_sipush dX3_learn_160 ⟨by decide, by decide, by decide⟩ ?_
            refine zV_iload_n dX3_learn_163 rfl ?_
            refine zV_imul dX3_learn_164 ?_
            refine zV_iload dX3_learn_165 rfl ?_
            refine zV_iadd dX3_learn_167 ?_
            obtain ⟨ob, hO⟩ := hO
            refine zV_ia dX3_learn_168 sa_144 ob ?_
            refine zV_mask [true, true, true, true, true, true, false, true, false, false] rfl ?_
            exact K
          · try simp only [if_neg c] at K
            have hO := zif_n hO c
            refine zV_iload dX3_learn_151 rfl ?_
            refine zV_goto (tgt := 169) dX3_learn_153 (by decide) ?_
            refine zV_mask [true, true, true, true, true, true, false, true, false, false] rfl ?_
            exact K
def P_M_learn_J300 (y1 : Int) (y2 : Int) (y3 : Int) (y5 : Int) (y6 : Int) (y8 : Int) (y9 : Int) (h : zH) (Q : Int → zH → Prop) (k227 : Int → zH → Prop) : Prop :=
∀ x9_33 : Int, x9_33 = w32 (y9 + 1) →
k227 x9_33 h
theorem W_M_learn_J300 (y1 : Int) (y2 : Int) (y3 : Int) (y5 : Int) (y6 : Int) (y8 : Int) (y9 : Int) (h : zH) (Q : Int → zH → Prop) (k227 : Int → zH → Prop) (H227 : ∀ (v9 : Int) (h' : zH), k227 v9 h' → zV true zy_X3_learn 4 227 [zR 101, zI y1, zI y2, zI y3, zU, zI y5, zI y6, zU, zI y8, zI v9] [] h' (zQ0 Q)) (hP : P_M_learn_J300 y1 y2 y3 y5 y6 y8 y9 h Q k227) : zV true zy_X3_learn 4 300 [zR 101, zI y1, zI y2, zI y3, zU, zI y5, zI y6, zU, zI y8, zI y9] [] h (zQ0 Q) := by
  unfold P_M_learn_J300 at hP
  refine zV_inc (ls' := fun z => [zR 101, zI y1, zI y2, zI y3, zU, zI y5, zI y6, zU, zI y8, zI z]) dX3_learn_300 (Nat.le_of_ble_eq_true rfl) rfl rfl (fun _ => rfl) (fun x9_33 e_x9_33 => ?_)
  have hP := hP x9_33 e_x9_33
  refine zV_goto (tgt := 227) dX3_learn_303 (by decide) ?_
  exact H227 _ _ hP
def P_M_learn_L227 (y1 : Int) (y2 : Int) (y3 : Int) (y5 : Int) (y6 : Int) (y8 : Int) (Q : Int → zH → Prop) (k306 : zH → Prop) : Nat → Int → zH → Prop
| 0, _, _ => False
| n227 + 1, y9, h =>
if zd h 101 106 ≤ y9 then
(k306 h)
else
((0 ≤ y9 ∧ y9 < 320) ∧
P_M_addSources y1 (zd h 170 y9) h (fun r29 h30 =>
(0 ≤ y9 ∧ y9 < 320) ∧
P_M_addLowest y1 (zd h30 170 y9) 0 h30 (fun r31 h32 =>
(0 ≤ y9 ∧ y9 < 320) ∧
if zd h32 170 y9 < 2000 then
(P_M_learn_J300 y1 y2 y3 y5 y6 y8 y9 h32 Q (P_M_learn_L227 y1 y2 y3 y5 y6 y8 Q k306 n227))
else
((0 ≤ y9 ∧ y9 < 320) ∧
(0 ≤ w32 ((w32 ((w32 (800 * y1)) + (zd h32 170 y9))) - 2000) ∧ w32 ((w32 ((w32 (800 * y1)) + (zd h32 170 y9))) - 2000) < 1600) ∧
(0 ≤ w32 ((w32 ((w32 (800 * y1)) + (zd h32 170 y9))) - 2000) ∧ w32 ((w32 ((w32 (800 * y1)) + (zd h32 170 y9))) - 2000) < 1600) ∧
∀ h34 : zH, h34 = zw h32 157 (w32 ((w32 ((w32 (800 * y1)) + (zd h32 170 y9))) - 2000)) (w32 ((zd h32 157 (w32 ((w32 ((w32 (800 * y1)) + (zd h32 170 y9))) - 2000))) + 1)) →
P_M_learn_J300 y1 y2 y3 y5 y6 y8 y9 h34 Q (P_M_learn_L227 y1 y2 y3 y5 y6 y8 Q k306 n227)))))
theorem W_M_learn_L227 (y1 : Int) (y2 : Int) (y3 : Int) (y5 : Int) (y6 : Int) (y8 : Int) (Q : Int → zH → Prop) (k306 : zH → Prop) (H306 : ∀ (h' : zH), k306 h' → zV true zy_X3_learn 4 306 [zR 101, zI y1, zI y2, zI y3, zU, zI y5, zI y6, zU, zI y8, zU] [] h' (zQ0 Q)) : ∀ (n227 : Nat) (y9 : Int) (h : zH), P_M_learn_L227 y1 y2 y3 y5 y6 y8 Q k306 n227 y9 h → zV true zy_X3_learn 4 227 [zR 101, zI y1, zI y2, zI y3, zU, zI y5, zI y6, zU, zI y8, zI y9] [] h (zQ0 Q) := by
  intro n227
  induction n227 with
  | zero => intro y9 h hP; exact absurd hP id
  | succ n227 ih =>
    intro y9 h hP
    unfold P_M_learn_L227 at hP
    refine zV_iload dX3_learn_227 rfl ?_
    refine zV_aload_n dX3_learn_229 rfl ?_
    refine zV_gf dX3_learn_230 sa_101 (by decide) fl_X3_542_3 rfl (ki := 106) rfl ?_
    refine zV_icmp_ge (tgt := 306) dX3_learn_233 (by decide) (fun c => ?_) (fun c => ?_)
    · have hP := zif_p hP c
      refine zV_mask [true, true, true, true, true, true, true, true, true, false] (ls' := [zR 101, zI y1, zI y2, zI y3, zU, zI y5, zI y6, zU, zI y8, zU]) rfl ?_
      exact H306 _ hP
    · have hP := zif_n hP c
      refine zV_aload_n dX3_learn_236 rfl ?_
      refine zV_iload_n dX3_learn_237 rfl ?_
      refine zV_aload_n dX3_learn_238 rfl ?_
      refine zV_sg dX3_learn_239 fm_101_105 sa_101 (by decide) fl_X3_216_3 rfl ?_
      refine zV_iload dX3_learn_242 rfl ?_
      obtain ⟨ob, hP⟩ := hP
      refine zV_ia dX3_learn_244 sa_170 ob ?_
      refine zV_cVv (As := [zI y1, zI (zd h 170 y9)]) (rest := []) dX3_learn_245 sa_101 (W_M_addSources _ _ _ _ hP) mi_X3_addSources ml_X3_479 (by decide) (Nat.le_of_ble_eq_true rfl) rfl rfl (fun r29 h30 hP => ?_)
      refine zV_aload_n dX3_learn_248 rfl ?_
      refine zV_iload_n dX3_learn_249 rfl ?_
      refine zV_aload_n dX3_learn_250 rfl ?_
      refine zV_sg dX3_learn_251 fm_101_105 sa_101 (by decide) fl_X3_216_3 rfl ?_
      refine zV_iload dX3_learn_254 rfl ?_
      obtain ⟨ob, hP⟩ := hP
      refine zV_ia dX3_learn_256 sa_170 ob ?_
      refine zV_iconst dX3_learn_257 ⟨by decide, by decide⟩ ?_
      refine zV_cVv (As := [zI y1, zI (zd h30 170 y9), zI 0]) (rest := []) dX3_learn_258 sa_101 (W_M_addLowest _ _ _ _ _ hP) mi_X3_addLowest ml_X3_482 (by decide) (Nat.le_of_ble_eq_true rfl) rfl rfl (fun r31 h32 hP => ?_)
      refine zV_aload_n dX3_learn_261 rfl ?_
      refine zV_sg dX3_learn_262 fm_101_105 sa_101 (by decide) fl_X3_216_3 rfl ?_
      refine zV_iload dX3_learn_265 rfl ?_
      obtain ⟨ob, hP⟩ := hP
      refine zV_ia dX3_learn_267 sa_170 ob ?_
      refine zV_sipush dX3_learn_268 ⟨by decide, by decide, by decide⟩ ?_
      refine zV_icmp_lt (tgt := 300) dX3_learn_271 (by decide) (fun c => ?_) (fun c => ?_)
      · have hP := zif_p hP c
        exact W_M_learn_J300 _ _ _ _ _ _ _ _ _ _ ih hP
      · have hP := zif_n hP c
        refine zV_aload_n dX3_learn_274 rfl ?_
        refine zV_sg dX3_learn_275 fm_101_83 sa_101 (by decide) fl_X3_177_3 rfl ?_
        refine zV_sipush dX3_learn_278 ⟨by decide, by decide, by decide⟩ ?_
        refine zV_iload_n dX3_learn_281 rfl ?_
        refine zV_imul dX3_learn_282 ?_
        refine zV_aload_n dX3_learn_283 rfl ?_
        refine zV_sg dX3_learn_284 fm_101_105 sa_101 (by decide) fl_X3_216_3 rfl ?_
        refine zV_iload dX3_learn_287 rfl ?_
        obtain ⟨ob, hP⟩ := hP
        refine zV_ia dX3_learn_289 sa_170 ob ?_
        refine zV_iadd dX3_learn_290 ?_
        refine zV_sipush dX3_learn_291 ⟨by decide, by decide, by decide⟩ ?_
        refine zV_isub dX3_learn_294 ?_
        refine zV_dup2 dX3_learn_295 (Nat.ne_of_beq_eq_false rfl) (Nat.ne_of_beq_eq_false rfl) ?_
        obtain ⟨ob, hP⟩ := hP
        refine zV_ia dX3_learn_296 sa_157 ob ?_
        refine zV_iconst dX3_learn_297 ⟨by decide, by decide⟩ ?_
        refine zV_iadd dX3_learn_298 ?_
        obtain ⟨ob, hP⟩ := hP
        refine zV_ias dX3_learn_299 sa_157 ob (fun h34 e_h34 => ?_)
        have hP := hP h34 e_h34
        exact W_M_learn_J300 _ _ _ _ _ _ _ _ _ _ ih hP
def P_M_learn_J391 (y1 : Int) (y2 : Int) (y3 : Int) (y5 : Int) (y8 : Int) (h : zH) (Q : Int → zH → Prop) : Prop :=
P_M_forgetSome y1 h (fun r39 h40 =>
(0 ≤ y1 ∧ y1 < 2) ∧
(0 ≤ w32 ((w32 (800 * y1)) + (zd h40 154 y1)) ∧ w32 ((w32 (800 * y1)) + (zd h40 154 y1)) < 1600) ∧
∀ h41 : zH, h41 = zw h40 156 (w32 ((w32 (800 * y1)) + (zd h40 154 y1))) (zbit 1) →
(0 ≤ y1 ∧ y1 < 2) ∧
(0 ≤ w32 ((w32 (800 * y1)) + (zd h41 154 y1)) ∧ w32 ((w32 (800 * y1)) + (zd h41 154 y1)) < 1600) ∧
∀ h42 : zH, h42 = zw h41 157 (w32 ((w32 (800 * y1)) + (zd h41 154 y1))) 0 →
P_M_record y1 y5 h42 (fun r43 h44 =>
(0 ≤ y1 ∧ y1 < 2) ∧
(0 ≤ y1 ∧ y1 < 2) ∧
∀ h45 : zH, h45 = zw h44 155 y1 (w32 ((zd h44 155 y1) + 1)) →
if y1 = 0 then
((0 ≤ y1 ∧ y1 < 2) ∧
P_M_tellQuarrel y2 y3 (zd h45 151 y1) y8 y5 h45 (fun r46 h47 =>
Q 7 h47))
else
(Q 7 h45)))
theorem W_M_learn_J391 (y1 : Int) (y2 : Int) (y3 : Int) (y5 : Int) (y8 : Int) (h : zH) (Q : Int → zH → Prop) (hP : P_M_learn_J391 y1 y2 y3 y5 y8 h Q) : zV true zy_X3_learn 4 391 [zR 101, zI y1, zI y2, zI y3, zU, zI y5, zU, zU, zI y8, zU] [] h (zQ0 Q) := by
  unfold P_M_learn_J391 at hP
  refine zV_aload_n dX3_learn_391 rfl ?_
  refine zV_iload_n dX3_learn_392 rfl ?_
  refine zV_cVv (As := [zI y1]) (rest := []) dX3_learn_393 sa_101 (W_M_forgetSome _ _ _ hP) mi_X3_forgetSome ml_X3_563 (by decide) (Nat.le_of_ble_eq_true rfl) rfl rfl (fun r39 h40 hP => ?_)
  refine zV_aload_n dX3_learn_396 rfl ?_
  refine zV_sg dX3_learn_397 fm_101_82 sa_101 (by decide) fl_X3_174_3 rfl ?_
  refine zV_sipush dX3_learn_400 ⟨by decide, by decide, by decide⟩ ?_
  refine zV_iload_n dX3_learn_403 rfl ?_
  refine zV_imul dX3_learn_404 ?_
  refine zV_aload_n dX3_learn_405 rfl ?_
  refine zV_sg dX3_learn_406 fm_101_80 sa_101 (by decide) fl_X3_168_3 rfl ?_
  refine zV_iload_n dX3_learn_409 rfl ?_
  obtain ⟨ob, hP⟩ := hP
  refine zV_ia dX3_learn_410 sa_154 ob ?_
  refine zV_iadd dX3_learn_411 ?_
  refine zV_iconst dX3_learn_412 ⟨by decide, by decide⟩ ?_
  obtain ⟨ob, hP⟩ := hP
  refine zV_zas dX3_learn_413 sa_156 ob (fun h41 e_h41 => ?_)
  have hP := hP h41 e_h41
  refine zV_aload_n dX3_learn_414 rfl ?_
  refine zV_sg dX3_learn_415 fm_101_83 sa_101 (by decide) fl_X3_177_3 rfl ?_
  refine zV_sipush dX3_learn_418 ⟨by decide, by decide, by decide⟩ ?_
  refine zV_iload_n dX3_learn_421 rfl ?_
  refine zV_imul dX3_learn_422 ?_
  refine zV_aload_n dX3_learn_423 rfl ?_
  refine zV_sg dX3_learn_424 fm_101_80 sa_101 (by decide) fl_X3_168_3 rfl ?_
  refine zV_iload_n dX3_learn_427 rfl ?_
  obtain ⟨ob, hP⟩ := hP
  refine zV_ia dX3_learn_428 sa_154 ob ?_
  refine zV_iadd dX3_learn_429 ?_
  refine zV_iconst dX3_learn_430 ⟨by decide, by decide⟩ ?_
  obtain ⟨ob, hP⟩ := hP
  refine zV_ias dX3_learn_431 sa_157 ob (fun h42 e_h42 => ?_)
  have hP := hP h42 e_h42
  refine zV_aload_n dX3_learn_432 rfl ?_
  refine zV_iload_n dX3_learn_433 rfl ?_
  refine zV_iload dX3_learn_434 rfl ?_
  refine zV_cVv (As := [zI y1, zI y5]) (rest := []) dX3_learn_436 sa_101 (W_M_record _ _ _ _ hP) mi_X3_record ml_X3_520 (by decide) (Nat.le_of_ble_eq_true rfl) rfl rfl (fun r43 h44 hP => ?_)
  refine zV_aload_n dX3_learn_439 rfl ?_
  refine zV_sg dX3_learn_440 fm_101_81 sa_101 (by decide) fl_X3_171_3 rfl ?_
  refine zV_iload_n dX3_learn_443 rfl ?_
  refine zV_dup2 dX3_learn_444 (Nat.ne_of_beq_eq_false rfl) (Nat.ne_of_beq_eq_false rfl) ?_
  obtain ⟨ob, hP⟩ := hP
  refine zV_ia dX3_learn_445 sa_155 ob ?_
  refine zV_iconst dX3_learn_446 ⟨by decide, by decide⟩ ?_
  refine zV_iadd dX3_learn_447 ?_
  obtain ⟨ob, hP⟩ := hP
  refine zV_ias dX3_learn_448 sa_155 ob (fun h45 e_h45 => ?_)
  have hP := hP h45 e_h45
  refine zV_iload_n dX3_learn_449 rfl ?_
  refine zV_if_ne (tgt := 469) dX3_learn_450 (by decide) (fun c => ?_) (fun c => ?_)
  · have hP := zif_n hP c
    refine zV_bipush dX3_learn_469 ⟨by decide, by decide, by decide⟩ ?_
    exact zV_ireturn dX3_learn_471 rfl rfl rfl ⟨rfl, hP⟩
  · have hP := zif_p hP c
    refine zV_aload_n dX3_learn_453 rfl ?_
    refine zV_iload_n dX3_learn_454 rfl ?_
    refine zV_iload_n dX3_learn_455 rfl ?_
    refine zV_aload_n dX3_learn_456 rfl ?_
    refine zV_sg dX3_learn_457 fm_101_77 sa_101 (by decide) fl_X3_159_3 rfl ?_
    refine zV_iload_n dX3_learn_460 rfl ?_
    obtain ⟨ob, hP⟩ := hP
    refine zV_ia dX3_learn_461 sa_151 ob ?_
    refine zV_iload dX3_learn_462 rfl ?_
    refine zV_iload dX3_learn_464 rfl ?_
    refine zV_cVv (As := [zI y2, zI y3, zI (zd h45 151 y1), zI y8, zI y5]) (rest := []) dX3_learn_466 sa_101 (W_M_tellQuarrel _ _ _ _ _ _ _ hP) mi_X3_tellQuarrel ml_X3_529 (by decide) (Nat.le_of_ble_eq_true rfl) rfl rfl (fun r46 h47 hP => ?_)
    refine zV_bipush dX3_learn_469 ⟨by decide, by decide, by decide⟩ ?_
    exact zV_ireturn dX3_learn_471 rfl rfl rfl ⟨rfl, hP⟩
def P_M_learn (a1 : Int) (h : zH) (Q : Int → zH → Prop) : Prop :=
if zd h 101 89 = 0 then
(Q (-1004) h)
else
(P_M_clearMarks h (fun r1 h2 =>
∀ h3 : zH, h3 = zw h2 101 106 0 →
∀ h4 : zH, h4 = zw h3 101 104 0 →
∀ x2_5 : Int, x2_5 = (zd h4 101 98) →
(0 ≤ a1 ∧ a1 < 2) ∧
∀ x3_6 : Int, x3_6 = (zd h4 151 a1) →
P_M_useRow a1 x2_5 0 h4 (fun r7 h8 =>
P_M_lastOne a1 h8 (fun r9 h10 =>
∀ h11 : zH, h11 = zw h10 167 0 (w32 (-r9)) →
(0 ≤ a1 ∧ a1 < 2) ∧
∀ x7_12 : Int, x7_12 = (w32 ((zd h11 150 a1) - 1)) →
∃ n76, P_M_learn_L76 a1 x2_5 x3_6 r9 Q (fun u5_177 u6_177 h19 =>
P_M_hasRoom a1 u5_177 h19 (fun r20 h21 =>
if r20 = 0 then
(Q (-1003) h21)
else
(P_M_takesStep a1 h21 (fun r22 h23 =>
(0 ≤ w32 ((w32 (10 * a1)) + 4) ∧ w32 ((w32 (10 * a1)) + 4) < 20) ∧
(0 ≤ w32 ((w32 (10 * a1)) + 4) ∧ w32 ((w32 (10 * a1)) + 4) < 20) ∧
∀ h24 : zH, h24 = zw h23 163 (w32 ((w32 (10 * a1)) + 4)) (w32 ((zd h23 163 (w32 ((w32 (10 * a1)) + 4))) + 1)) →
P_M_raise a1 h24 (fun r25 h26 =>
P_M_clearSources h26 (fun r27 h28 =>
∃ n227, P_M_learn_L227 a1 x2_5 x3_6 u5_177 u6_177 r25 Q (fun h35 =>
P_M_goBack a1 u6_177 h35 (fun r36 h37 =>
(0 ≤ a1 ∧ a1 < 2) ∧
(0 ≤ a1 ∧ a1 < 2) ∧
∀ h38 : zH, h38 = zw h37 161 a1 (w32 ((zd h37 161 a1) + 1)) →
if zd h38 101 30 ≤ 0 then
(P_M_learn_J391 a1 x2_5 x3_6 u5_177 r25 h38 Q)
else
((0 ≤ a1 ∧ a1 < 2) ∧
(0 ≤ a1 ∧ a1 < 2) ∧
P_M_partOfRow (zd h38 162 a1) h38 (fun r48 h49 =>
if zd h38 161 a1 < w32 ((zd h38 101 30) * r48) then
(P_M_learn_J391 a1 x2_5 x3_6 u5_177 r25 h49 Q)
else
(P_M_goBack a1 0 h49 (fun r50 h51 =>
(0 ≤ a1 ∧ a1 < 2) ∧
(0 ≤ a1 ∧ a1 < 2) ∧
∀ h52 : zH, h52 = zw h51 162 a1 (w32 ((zd h51 162 a1) + 1)) →
(0 ≤ a1 ∧ a1 < 2) ∧
∀ h53 : zH, h53 = zw h52 161 a1 0 →
(0 ≤ w32 ((w32 (10 * a1)) + 5) ∧ w32 ((w32 (10 * a1)) + 5) < 20) ∧
(0 ≤ w32 ((w32 (10 * a1)) + 5) ∧ w32 ((w32 (10 * a1)) + 5) < 20) ∧
∀ h54 : zH, h54 = zw h53 163 (w32 ((w32 (10 * a1)) + 5)) (w32 ((zd h53 163 (w32 ((w32 (10 * a1)) + 5))) + 1)) →
P_M_learn_J391 a1 x2_5 x3_6 u5_177 r25 h54 Q)))))) n227 0 h28)))))) n76 1 0 x7_12 h11))))
theorem W_M_learn (a1 : Int) (h : zH) (Q : Int → zH → Prop) (hP : P_M_learn a1 h Q) : zC true zy_X3_learn 4 [zR 101, zI a1] h (zQ0 Q) := by
  unfold P_M_learn at hP
  refine zC.of (by decide) (Nat.le_of_ble_eq_true rfl) ?_
  show zV true zy_X3_learn 4 0 [zR 101, zI a1, zU, zU, zU, zU, zU, zU, zU, zU] [] h (zQ0 Q)
  refine zV_aload_n dX3_learn_0 rfl ?_
  refine zV_gf dX3_learn_1 sa_101 (by decide) fl_X3_490_3 rfl (ki := 89) rfl ?_
  refine zV_if_ne (tgt := 11) dX3_learn_4 (by decide) (fun c => ?_) (fun c => ?_)
  · have hP := zif_n hP c
    refine zV_aload_n dX3_learn_11 rfl ?_
    refine zV_cVv (As := []) (rest := []) dX3_learn_12 sa_101 (W_M_clearMarks _ _ hP) mi_X3_clearMarks ml_X3_536 (by decide) (Nat.le_of_ble_eq_true rfl) rfl rfl (fun r1 h2 hP => ?_)
    refine zV_aload_n dX3_learn_15 rfl ?_
    refine zV_iconst dX3_learn_16 ⟨by decide, by decide⟩ ?_
    refine zV_pf dX3_learn_17 sa_101 (by decide) fl_X3_542_3 rfl rfl trivial (ki := 106) rfl (fun h3 e_h3 => ?_)
    have hP := hP h3 e_h3
    refine zV_aload_n dX3_learn_20 rfl ?_
    refine zV_iconst dX3_learn_21 ⟨by decide, by decide⟩ ?_
    refine zV_pf dX3_learn_22 sa_101 (by decide) fl_X3_545_3 rfl rfl trivial (ki := 104) rfl (fun h4 e_h4 => ?_)
    have hP := hP h4 e_h4
    refine zV_aload_n dX3_learn_25 rfl ?_
    refine zV_gf dX3_learn_26 sa_101 (by decide) fl_X3_460_3 rfl (ki := 98) rfl ?_
    refine zV_top (fun x2_5 e_x2_5 => ?_)
    have hP := hP x2_5 e_x2_5
    refine zV_istore_n (ls' := [zR 101, zI a1, zI x2_5, zU, zU, zU, zU, zU, zU, zU]) dX3_learn_29 rfl (Nat.le_of_ble_eq_true rfl) rfl rfl ?_
    refine zV_aload_n dX3_learn_30 rfl ?_
    refine zV_sg dX3_learn_31 fm_101_77 sa_101 (by decide) fl_X3_159_3 rfl ?_
    refine zV_iload_n dX3_learn_34 rfl ?_
    obtain ⟨ob, hP⟩ := hP
    refine zV_ia dX3_learn_35 sa_151 ob ?_
    refine zV_top (fun x3_6 e_x3_6 => ?_)
    have hP := hP x3_6 e_x3_6
    refine zV_istore_n (ls' := [zR 101, zI a1, zI x2_5, zI x3_6, zU, zU, zU, zU, zU, zU]) dX3_learn_36 rfl (Nat.le_of_ble_eq_true rfl) rfl rfl ?_
    refine zV_aload_n dX3_learn_37 rfl ?_
    refine zV_iload_n dX3_learn_38 rfl ?_
    refine zV_iload_n dX3_learn_39 rfl ?_
    refine zV_iconst dX3_learn_40 ⟨by decide, by decide⟩ ?_
    refine zV_cVv (As := [zI a1, zI x2_5, zI 0]) (rest := []) dX3_learn_41 sa_101 (W_M_useRow _ _ _ _ _ hP) mi_X3_useRow ml_X3_548 (by decide) (Nat.le_of_ble_eq_true rfl) rfl rfl (fun r7 h8 hP => ?_)
    refine zV_aload_n dX3_learn_44 rfl ?_
    refine zV_iload_n dX3_learn_45 rfl ?_
    refine zV_cVk (As := [zI a1]) (rest := []) dX3_learn_46 sa_101 (W_M_lastOne _ _ _ hP) mi_X3_lastOne ml_X3_551 (by decide) (Nat.le_of_ble_eq_true rfl) rfl rfl rfl (fun r9 h10 hP => ?_)
    refine zV_istore (ls' := [zR 101, zI a1, zI x2_5, zI x3_6, zI r9, zU, zU, zU, zU, zU]) dX3_learn_49 (Nat.le_of_ble_eq_true rfl) rfl rfl ?_
    refine zV_aload_n dX3_learn_51 rfl ?_
    refine zV_sg dX3_learn_52 fm_101_101 sa_101 (by decide) fl_X3_207_3 rfl ?_
    refine zV_iconst dX3_learn_55 ⟨by decide, by decide⟩ ?_
    refine zV_iload dX3_learn_56 rfl ?_
    refine zV_ineg dX3_learn_58 ?_
    refine zV_ias dX3_learn_59 sa_167 (by decide) (fun h11 e_h11 => ?_)
    have hP := hP h11 e_h11
    refine zV_iconst dX3_learn_60 ⟨by decide, by decide⟩ ?_
    refine zV_istore (ls' := [zR 101, zI a1, zI x2_5, zI x3_6, zI r9, zI 1, zU, zU, zU, zU]) dX3_learn_61 (Nat.le_of_ble_eq_true rfl) rfl rfl ?_
    refine zV_iconst dX3_learn_63 ⟨by decide, by decide⟩ ?_
    refine zV_istore (ls' := [zR 101, zI a1, zI x2_5, zI x3_6, zI r9, zI 1, zI 0, zU, zU, zU]) dX3_learn_64 (Nat.le_of_ble_eq_true rfl) rfl rfl ?_
    refine zV_aload_n dX3_learn_66 rfl ?_
    refine zV_sg dX3_learn_67 fm_101_76 sa_101 (by decide) fl_X3_156_3 rfl ?_
    refine zV_iload_n dX3_learn_70 rfl ?_
    obtain ⟨ob, hP⟩ := hP
    refine zV_ia dX3_learn_71 sa_150 ob ?_
    refine zV_iconst dX3_learn_72 ⟨by decide, by decide⟩ ?_
    refine zV_isub dX3_learn_73 ?_
    refine zV_top (fun x7_12 e_x7_12 => ?_)
    have hP := hP x7_12 e_x7_12
    refine zV_istore (ls' := [zR 101, zI a1, zI x2_5, zI x3_6, zI r9, zI 1, zI 0, zI x7_12, zU, zU]) dX3_learn_74 (Nat.le_of_ble_eq_true rfl) rfl rfl ?_
    obtain ⟨n76, hP⟩ := hP
    refine W_M_learn_L76 _ _ _ _ _ _ (fun u5_177 u6_177 h19 hP => ?_) n76 _ _ _ _ hP
    refine zV_aload_n dX3_learn_177 rfl ?_
    refine zV_iload_n dX3_learn_178 rfl ?_
    refine zV_iload dX3_learn_179 rfl ?_
    refine zV_cVk (As := [zI a1, zI u5_177]) (rest := []) dX3_learn_181 sa_101 (W_M_hasRoom _ _ _ _ hP) mi_X3_hasRoom ml_X3_517 (by decide) (Nat.le_of_ble_eq_true rfl) rfl rfl rfl (fun r20 h21 hP => ?_)
    refine zV_if_ne (tgt := 191) dX3_learn_184 (by decide) (fun c => ?_) (fun c => ?_)
    · have hP := zif_n hP c
      refine zV_aload_n dX3_learn_191 rfl ?_
      refine zV_iload_n dX3_learn_192 rfl ?_
      refine zV_cVk (As := [zI a1]) (rest := []) dX3_learn_193 sa_101 (W_M_takesStep _ _ _ hP) mi_X3_takesStep ml_X3_496 (by decide) (Nat.le_of_ble_eq_true rfl) rfl rfl rfl (fun r22 h23 hP => ?_)
      refine zV_istore (ls' := [zR 101, zI a1, zI x2_5, zI x3_6, zU, zI u5_177, zI u6_177, zI r22, zU, zU]) dX3_learn_196 (Nat.le_of_ble_eq_true rfl) rfl rfl ?_
      refine zV_aload_n dX3_learn_198 rfl ?_
      refine zV_sg dX3_learn_199 fm_101_90 sa_101 (by decide) fl_X3_195_3 rfl ?_
      refine zV_bipush dX3_learn_202 ⟨by decide, by decide, by decide⟩ ?_
      refine zV_iload_n dX3_learn_204 rfl ?_
      refine zV_imul dX3_learn_205 ?_
      refine zV_iconst dX3_learn_206 ⟨by decide, by decide⟩ ?_
      refine zV_iadd dX3_learn_207 ?_
      refine zV_dup2 dX3_learn_208 (Nat.ne_of_beq_eq_false rfl) (Nat.ne_of_beq_eq_false rfl) ?_
      obtain ⟨ob, hP⟩ := hP
      refine zV_ia dX3_learn_209 sa_163 ob ?_
      refine zV_iconst dX3_learn_210 ⟨by decide, by decide⟩ ?_
      refine zV_iadd dX3_learn_211 ?_
      obtain ⟨ob, hP⟩ := hP
      refine zV_ias dX3_learn_212 sa_163 ob (fun h24 e_h24 => ?_)
      have hP := hP h24 e_h24
      refine zV_aload_n dX3_learn_213 rfl ?_
      refine zV_iload_n dX3_learn_214 rfl ?_
      refine zV_cVk (As := [zI a1]) (rest := []) dX3_learn_215 sa_101 (W_M_raise _ _ _ hP) mi_X3_raise ml_X3_554 (by decide) (Nat.le_of_ble_eq_true rfl) rfl rfl rfl (fun r25 h26 hP => ?_)
      refine zV_istore (ls' := [zR 101, zI a1, zI x2_5, zI x3_6, zU, zI u5_177, zI u6_177, zI r22, zI r25, zU]) dX3_learn_218 (Nat.le_of_ble_eq_true rfl) rfl rfl ?_
      refine zV_aload_n dX3_learn_220 rfl ?_
      refine zV_cVv (As := []) (rest := []) dX3_learn_221 sa_101 (W_M_clearSources _ _ hP) mi_X3_clearSources ml_X3_476 (by decide) (Nat.le_of_ble_eq_true rfl) rfl rfl (fun r27 h28 hP => ?_)
      refine zV_iconst dX3_learn_224 ⟨by decide, by decide⟩ ?_
      refine zV_istore (ls' := [zR 101, zI a1, zI x2_5, zI x3_6, zU, zI u5_177, zI u6_177, zI r22, zI r25, zI 0]) dX3_learn_225 (Nat.le_of_ble_eq_true rfl) rfl rfl ?_
      obtain ⟨n227, hP⟩ := hP
      refine zV_mask [true, true, true, true, true, true, true, false, true, true] (ls' := [zR 101, zI a1, zI x2_5, zI x3_6, zU, zI u5_177, zI u6_177, zU, zI r25, zI 0]) rfl ?_
      refine W_M_learn_L227 _ _ _ _ _ _ _ _ (fun h35 hP => ?_) n227 _ _ hP
      refine zV_aload_n dX3_learn_306 rfl ?_
      refine zV_iload_n dX3_learn_307 rfl ?_
      refine zV_iload dX3_learn_308 rfl ?_
      refine zV_cVv (As := [zI a1, zI u6_177]) (rest := []) dX3_learn_310 sa_101 (W_M_goBack _ _ _ _ hP) mi_X3_goBack ml_X3_557 (by decide) (Nat.le_of_ble_eq_true rfl) rfl rfl (fun r36 h37 hP => ?_)
      refine zV_aload_n dX3_learn_313 rfl ?_
      refine zV_sg dX3_learn_314 fm_101_87 sa_101 (by decide) fl_X3_189_3 rfl ?_
      refine zV_iload_n dX3_learn_317 rfl ?_
      refine zV_dup2 dX3_learn_318 (Nat.ne_of_beq_eq_false rfl) (Nat.ne_of_beq_eq_false rfl) ?_
      obtain ⟨ob, hP⟩ := hP
      refine zV_ia dX3_learn_319 sa_161 ob ?_
      refine zV_iconst dX3_learn_320 ⟨by decide, by decide⟩ ?_
      refine zV_iadd dX3_learn_321 ?_
      obtain ⟨ob, hP⟩ := hP
      refine zV_ias dX3_learn_322 sa_161 ob (fun h38 e_h38 => ?_)
      have hP := hP h38 e_h38
      refine zV_aload_n dX3_learn_323 rfl ?_
      refine zV_gf dX3_learn_324 sa_101 (by decide) fl_X3_436_3 rfl (ki := 30) rfl ?_
      refine zV_if_le (tgt := 391) dX3_learn_327 (by decide) (fun c => ?_) (fun c => ?_)
      · have hP := zif_p hP c
        refine zV_mask [true, true, true, true, true, true, false, true, true, true] (ls' := [zR 101, zI a1, zI x2_5, zI x3_6, zU, zI u5_177, zU, zU, zI r25, zU]) rfl ?_
        exact W_M_learn_J391 _ _ _ _ _ _ _ hP
      · have hP := zif_n hP c
        refine zV_aload_n dX3_learn_330 rfl ?_
        refine zV_sg dX3_learn_331 fm_101_87 sa_101 (by decide) fl_X3_189_3 rfl ?_
        refine zV_iload_n dX3_learn_334 rfl ?_
        obtain ⟨ob, hP⟩ := hP
        refine zV_ia dX3_learn_335 sa_161 ob ?_
        refine zV_aload_n dX3_learn_336 rfl ?_
        refine zV_gf dX3_learn_337 sa_101 (by decide) fl_X3_436_3 rfl (ki := 30) rfl ?_
        refine zV_aload_n dX3_learn_340 rfl ?_
        refine zV_sg dX3_learn_341 fm_101_88 sa_101 (by decide) fl_X3_192_3 rfl ?_
        refine zV_iload_n dX3_learn_344 rfl ?_
        obtain ⟨ob, hP⟩ := hP
        refine zV_ia dX3_learn_345 sa_162 ob ?_
        refine zV_cSk (As := [zI (zd h38 162 a1)]) (rest := [zI (zd h38 101 30), zI (zd h38 161 a1)]) dX3_learn_346 (W_M_partOfRow _ _ _ hP) mi_X3_partOfRow ml_X3_560 (by decide) (Nat.le_of_ble_eq_true rfl) rfl rfl rfl (fun r48 h49 hP => ?_)
        refine zV_imul dX3_learn_349 ?_
        refine zV_icmp_lt (tgt := 391) dX3_learn_350 (by decide) (fun c => ?_) (fun c => ?_)
        · have hP := zif_p hP c
          refine zV_mask [true, true, true, true, true, true, false, true, true, true] (ls' := [zR 101, zI a1, zI x2_5, zI x3_6, zU, zI u5_177, zU, zU, zI r25, zU]) rfl ?_
          exact W_M_learn_J391 _ _ _ _ _ _ _ hP
        · have hP := zif_n hP c
          refine zV_aload_n dX3_learn_353 rfl ?_
          refine zV_iload_n dX3_learn_354 rfl ?_
          refine zV_iconst dX3_learn_355 ⟨by decide, by decide⟩ ?_
          refine zV_cVv (As := [zI a1, zI 0]) (rest := []) dX3_learn_356 sa_101 (W_M_goBack _ _ _ _ hP) mi_X3_goBack ml_X3_557 (by decide) (Nat.le_of_ble_eq_true rfl) rfl rfl (fun r50 h51 hP => ?_)
          refine zV_aload_n dX3_learn_359 rfl ?_
          refine zV_sg dX3_learn_360 fm_101_88 sa_101 (by decide) fl_X3_192_3 rfl ?_
          refine zV_iload_n dX3_learn_363 rfl ?_
          refine zV_dup2 dX3_learn_364 (Nat.ne_of_beq_eq_false rfl) (Nat.ne_of_beq_eq_false rfl) ?_
          obtain ⟨ob, hP⟩ := hP
          refine zV_ia dX3_learn_365 sa_162 ob ?_
          refine zV_iconst dX3_learn_366 ⟨by decide, by decide⟩ ?_
          refine zV_iadd dX3_learn_367 ?_
          obtain ⟨ob, hP⟩ := hP
          refine zV_ias dX3_learn_368 sa_162 ob (fun h52 e_h52 => ?_)
          have hP := hP h52 e_h52
          refine zV_aload_n dX3_learn_369 rfl ?_
          refine zV_sg dX3_learn_370 fm_101_87 sa_101 (by decide) fl_X3_189_3 rfl ?_
          refine zV_iload_n dX3_learn_373 rfl ?_
          refine zV_iconst dX3_learn_374 ⟨by decide, by decide⟩ ?_
          obtain ⟨ob, hP⟩ := hP
          refine zV_ias dX3_learn_375 sa_161 ob (fun h53 e_h53 => ?_)
          have hP := hP h53 e_h53
          refine zV_aload_n dX3_learn_376 rfl ?_
          refine zV_sg dX3_learn_377 fm_101_90 sa_101 (by decide) fl_X3_195_3 rfl ?_
          refine zV_bipush dX3_learn_380 ⟨by decide, by decide, by decide⟩ ?_
          refine zV_iload_n dX3_learn_382 rfl ?_
          refine zV_imul dX3_learn_383 ?_
          refine zV_iconst dX3_learn_384 ⟨by decide, by decide⟩ ?_
          refine zV_iadd dX3_learn_385 ?_
          refine zV_dup2 dX3_learn_386 (Nat.ne_of_beq_eq_false rfl) (Nat.ne_of_beq_eq_false rfl) ?_
          obtain ⟨ob, hP⟩ := hP
          refine zV_ia dX3_learn_387 sa_163 ob ?_
          refine zV_iconst dX3_learn_388 ⟨by decide, by decide⟩ ?_
          refine zV_iadd dX3_learn_389 ?_
          obtain ⟨ob, hP⟩ := hP
          refine zV_ias dX3_learn_390 sa_163 ob (fun h54 e_h54 => ?_)
          have hP := hP h54 e_h54
          refine zV_mask [true, true, true, true, true, true, false, true, true, true] (ls' := [zR 101, zI a1, zI x2_5, zI x3_6, zU, zI u5_177, zU, zU, zI r25, zU]) rfl ?_
          exact W_M_learn_J391 _ _ _ _ _ _ _ hP
    · have hP := zif_p hP c
      refine zV_sipush dX3_learn_187 ⟨by decide, by decide, by decide⟩ ?_
      exact zV_ireturn dX3_learn_190 rfl rfl rfl ⟨rfl, hP⟩
  · have hP := zif_p hP c
    refine zV_sipush dX3_learn_7 ⟨by decide, by decide, by decide⟩ ?_
    exact zV_ireturn dX3_learn_10 rfl rfl rfl ⟨rfl, hP⟩
def P_M_markRow_L10 (y1 : Int) (y2 : Int) (y3 : Int) (Q : Int → zH → Prop) : Nat → Int → zH → Prop
| 0, _, _ => False
| n10 + 1, y4, h =>
if y3 ≤ y4 then
(Q 0 h)
else
(P_M_itemOf y1 y2 y4 h (fun r3 h4 =>
P_M_nameOf r3 h4 (fun r5 h6 =>
(0 ≤ r5 ∧ r5 < 301) ∧
∀ h7 : zH, h7 = zw h6 168 r5 (zbit 1) →
∀ x4_8 : Int, x4_8 = w32 (y4 + 1) →
P_M_markRow_L10 y1 y2 y3 Q n10 x4_8 h7)))
theorem W_M_markRow_L10 (y1 : Int) (y2 : Int) (y3 : Int) (Q : Int → zH → Prop) : ∀ (n10 : Nat) (y4 : Int) (h : zH), P_M_markRow_L10 y1 y2 y3 Q n10 y4 h → zV true zy_X3_markRow 2 10 [zR 101, zI y1, zI y2, zI y3, zI y4] [] h (zQ0 Q) := by
  intro n10
  induction n10 with
  | zero => intro y4 h hP; exact absurd hP id
  | succ n10 ih =>
    intro y4 h hP
    unfold P_M_markRow_L10 at hP
    refine zV_iload dX3_markRow_10 rfl ?_
    refine zV_iload_n dX3_markRow_12 rfl ?_
    refine zV_icmp_ge (tgt := 39) dX3_markRow_13 (by decide) (fun c => ?_) (fun c => ?_)
    · have hP := zif_p hP c
      exact zV_return dX3_markRow_39 rfl ⟨rfl, hP⟩
    · have hP := zif_n hP c
      refine zV_aload_n dX3_markRow_16 rfl ?_
      refine zV_sg dX3_markRow_17 fm_101_102 sa_101 (by decide) fl_X3_210_3 rfl ?_
      refine zV_aload_n dX3_markRow_20 rfl ?_
      refine zV_iload_n dX3_markRow_21 rfl ?_
      refine zV_iload_n dX3_markRow_22 rfl ?_
      refine zV_iload dX3_markRow_23 rfl ?_
      refine zV_cVk (As := [zI y1, zI y2, zI y4]) (rest := [zR 168]) dX3_markRow_25 sa_101 (W_M_itemOf _ _ _ _ _ hP) mi_X3_itemOf ml_X3_381 (by decide) (Nat.le_of_ble_eq_true rfl) rfl rfl rfl (fun r3 h4 hP => ?_)
      refine zV_cSk (As := [zI r3]) (rest := [zR 168]) dX3_markRow_28 (W_M_nameOf _ _ _ hP) mi_X3_nameOf ml_X3_289 (by decide) (Nat.le_of_ble_eq_true rfl) rfl rfl rfl (fun r5 h6 hP => ?_)
      refine zV_iconst dX3_markRow_31 ⟨by decide, by decide⟩ ?_
      obtain ⟨ob, hP⟩ := hP
      refine zV_zas dX3_markRow_32 sa_168 ob (fun h7 e_h7 => ?_)
      have hP := hP h7 e_h7
      refine zV_inc (ls' := fun z => [zR 101, zI y1, zI y2, zI y3, zI z]) dX3_markRow_33 (Nat.le_of_ble_eq_true rfl) rfl rfl (fun _ => rfl) (fun x4_8 e_x4_8 => ?_)
      have hP := hP x4_8 e_x4_8
      refine zV_goto (tgt := 10) dX3_markRow_36 (by decide) ?_
      exact ih _ _ hP
def P_M_markRow (a1 : Int) (a2 : Int) (h : zH) (Q : Int → zH → Prop) : Prop :=
P_M_sizeOf a1 a2 h (fun r1 h2 =>
∃ n10, P_M_markRow_L10 a1 a2 r1 Q n10 0 h2)
theorem W_M_markRow (a1 : Int) (a2 : Int) (h : zH) (Q : Int → zH → Prop) (hP : P_M_markRow a1 a2 h Q) : zC true zy_X3_markRow 2 [zR 101, zI a1, zI a2] h (zQ0 Q) := by
  unfold P_M_markRow at hP
  refine zC.of (by decide) (Nat.le_of_ble_eq_true rfl) ?_
  show zV true zy_X3_markRow 2 0 [zR 101, zI a1, zI a2, zU, zU] [] h (zQ0 Q)
  refine zV_aload_n dX3_markRow_0 rfl ?_
  refine zV_iload_n dX3_markRow_1 rfl ?_
  refine zV_iload_n dX3_markRow_2 rfl ?_
  refine zV_cVk (As := [zI a1, zI a2]) (rest := []) dX3_markRow_3 sa_101 (W_M_sizeOf _ _ _ _ hP) mi_X3_sizeOf ml_X3_377 (by decide) (Nat.le_of_ble_eq_true rfl) rfl rfl rfl (fun r1 h2 hP => ?_)
  refine zV_istore_n (ls' := [zR 101, zI a1, zI a2, zI r1, zU]) dX3_markRow_6 rfl (Nat.le_of_ble_eq_true rfl) rfl rfl ?_
  refine zV_iconst dX3_markRow_7 ⟨by decide, by decide⟩ ?_
  refine zV_istore (ls' := [zR 101, zI a1, zI a2, zI r1, zI 0]) dX3_markRow_8 (Nat.le_of_ble_eq_true rfl) rfl rfl ?_
  obtain ⟨n10, hP⟩ := hP
  refine W_M_markRow_L10 _ _ _ _ n10 _ _ hP
def P_M_endAsked_J152 (y1 : Int) (y2 : Int) (y3 : Int) (h : zH) (Q : Int → zH → Prop) (k27 : Int → zH → Prop) : Prop :=
∀ x3_15 : Int, x3_15 = w32 (y3 + (-1)) →
k27 x3_15 h
theorem W_M_endAsked_J152 (y1 : Int) (y2 : Int) (y3 : Int) (h : zH) (Q : Int → zH → Prop) (k27 : Int → zH → Prop) (H27 : ∀ (v3 : Int) (h' : zH), k27 v3 h' → zV true zy_X3_endAsked 3 27 [zR 101, zI y1, zI y2, zI v3, zU, zU] [] h' (zQ0 Q)) (hP : P_M_endAsked_J152 y1 y2 y3 h Q k27) : zV true zy_X3_endAsked 3 152 [zR 101, zI y1, zI y2, zI y3, zU, zU] [] h (zQ0 Q) := by
  unfold P_M_endAsked_J152 at hP
  refine zV_inc (ls' := fun z => [zR 101, zI y1, zI y2, zI z, zU, zU]) dX3_endAsked_152 (Nat.le_of_ble_eq_true rfl) rfl rfl (fun _ => rfl) (fun x3_15 e_x3_15 => ?_)
  have hP := hP x3_15 e_x3_15
  refine zV_goto (tgt := 27) dX3_endAsked_155 (by decide) ?_
  exact H27 _ _ hP
def P_M_endAsked_L27 (y1 : Int) (y2 : Int) (Q : Int → zH → Prop) (k158 : zH → Prop) : Nat → Int → zH → Prop
| 0, _, _ => False
| n27 + 1, y3, h =>
if y3 < 0 then
(k158 h)
else
((0 ≤ w32 ((w32 (300 * y1)) + y3) ∧ w32 ((w32 (300 * y1)) + y3) < 600) ∧
P_M_nameOf (zd h 149 (w32 ((w32 (300 * y1)) + y3))) h (fun r9 h10 =>
(0 ≤ r9 ∧ r9 < 301) ∧
if zd h10 168 r9 = 0 then
(P_M_endAsked_J152 y1 y2 y3 h10 Q (P_M_endAsked_L27 y1 y2 Q k158 n27))
else
((0 ≤ w32 ((w32 (301 * y1)) + r9) ∧ w32 ((w32 (301 * y1)) + r9) < 602) ∧
if zd h10 144 (w32 ((w32 (301 * y1)) + r9)) = 0 then
(P_M_addNameSources y1 r9 h10 (fun r17 h18 =>
P_M_endAsked_J152 y1 y2 y3 h18 Q (P_M_endAsked_L27 y1 y2 Q k158 n27)))
else
((0 ≤ w32 ((w32 (301 * y1)) + r9) ∧ w32 ((w32 (301 * y1)) + r9) < 602) ∧
if zd h10 145 (w32 ((w32 (301 * y1)) + r9)) = (-7) then
((0 ≤ r9 ∧ r9 < 301) ∧
∀ h16 : zH, h16 = zw h10 169 r9 (zbit 1) →
P_M_endAsked_J152 y1 y2 y3 h16 Q (P_M_endAsked_L27 y1 y2 Q k158 n27))
else
((0 ≤ w32 ((w32 (301 * y1)) + r9) ∧ w32 ((w32 (301 * y1)) + r9) < 602) ∧
P_M_addSources y1 (zd h10 145 (w32 ((w32 (301 * y1)) + r9))) h10 (fun r11 h12 =>
(0 ≤ w32 ((w32 (301 * y1)) + r9) ∧ w32 ((w32 (301 * y1)) + r9) < 602) ∧
P_M_markRow y1 (zd h12 145 (w32 ((w32 (301 * y1)) + r9))) h12 (fun r13 h14 =>
P_M_endAsked_J152 y1 y2 y3 h14 Q (P_M_endAsked_L27 y1 y2 Q k158 n27))))))))
theorem W_M_endAsked_L27 (y1 : Int) (y2 : Int) (Q : Int → zH → Prop) (k158 : zH → Prop) (H158 : ∀ (h' : zH), k158 h' → zV true zy_X3_endAsked 3 158 [zR 101, zI y1, zI y2, zU, zU, zU] [] h' (zQ0 Q)) : ∀ (n27 : Nat) (y3 : Int) (h : zH), P_M_endAsked_L27 y1 y2 Q k158 n27 y3 h → zV true zy_X3_endAsked 3 27 [zR 101, zI y1, zI y2, zI y3, zU, zU] [] h (zQ0 Q) := by
  intro n27
  induction n27 with
  | zero => intro y3 h hP; exact absurd hP id
  | succ n27 ih =>
    intro y3 h hP
    unfold P_M_endAsked_L27 at hP
    refine zV_iload_n dX3_endAsked_27 rfl ?_
    refine zV_if_lt (tgt := 158) dX3_endAsked_28 (by decide) (fun c => ?_) (fun c => ?_)
    · have hP := zif_p hP c
      refine zV_mask [true, true, true, false, true, true] (ls' := [zR 101, zI y1, zI y2, zU, zU, zU]) rfl ?_
      exact H158 _ hP
    · have hP := zif_n hP c
      refine zV_aload_n dX3_endAsked_31 rfl ?_
      refine zV_sg dX3_endAsked_32 fm_101_75 sa_101 (by decide) fl_X3_153_3 rfl ?_
      refine zV_sipush dX3_endAsked_35 ⟨by decide, by decide, by decide⟩ ?_
      refine zV_iload_n dX3_endAsked_38 rfl ?_
      refine zV_imul dX3_endAsked_39 ?_
      refine zV_iload_n dX3_endAsked_40 rfl ?_
      refine zV_iadd dX3_endAsked_41 ?_
      obtain ⟨ob, hP⟩ := hP
      refine zV_ia dX3_endAsked_42 sa_149 ob ?_
      refine zV_cSk (As := [zI (zd h 149 (w32 ((w32 (300 * y1)) + y3)))]) (rest := []) dX3_endAsked_43 (W_M_nameOf _ _ _ hP) mi_X3_nameOf ml_X3_289 (by decide) (Nat.le_of_ble_eq_true rfl) rfl rfl rfl (fun r9 h10 hP => ?_)
      refine zV_istore (ls' := [zR 101, zI y1, zI y2, zI y3, zI r9, zU]) dX3_endAsked_46 (Nat.le_of_ble_eq_true rfl) rfl rfl ?_
      refine zV_aload_n dX3_endAsked_48 rfl ?_
      refine zV_sg dX3_endAsked_49 fm_101_102 sa_101 (by decide) fl_X3_210_3 rfl ?_
      refine zV_iload dX3_endAsked_52 rfl ?_
      obtain ⟨ob, hP⟩ := hP
      refine zV_za dX3_endAsked_54 sa_168 ob ?_
      refine zV_if_ne (tgt := 61) dX3_endAsked_55 (by decide) (fun c => ?_) (fun c => ?_)
      · have hP := zif_n hP c
        refine zV_aload_n dX3_endAsked_61 rfl ?_
        refine zV_sg dX3_endAsked_62 fm_101_70 sa_101 (by decide) fl_X3_137_3 rfl ?_
        refine zV_sipush dX3_endAsked_65 ⟨by decide, by decide, by decide⟩ ?_
        refine zV_iload_n dX3_endAsked_68 rfl ?_
        refine zV_imul dX3_endAsked_69 ?_
        refine zV_iload dX3_endAsked_70 rfl ?_
        refine zV_iadd dX3_endAsked_72 ?_
        obtain ⟨ob, hP⟩ := hP
        refine zV_ia dX3_endAsked_73 sa_144 ob ?_
        refine zV_if_ne (tgt := 87) dX3_endAsked_74 (by decide) (fun c => ?_) (fun c => ?_)
        · have hP := zif_n hP c
          refine zV_aload_n dX3_endAsked_87 rfl ?_
          refine zV_sg dX3_endAsked_88 fm_101_71 sa_101 (by decide) fl_X3_140_3 rfl ?_
          refine zV_sipush dX3_endAsked_91 ⟨by decide, by decide, by decide⟩ ?_
          refine zV_iload_n dX3_endAsked_94 rfl ?_
          refine zV_imul dX3_endAsked_95 ?_
          refine zV_iload dX3_endAsked_96 rfl ?_
          refine zV_iadd dX3_endAsked_98 ?_
          obtain ⟨ob, hP⟩ := hP
          refine zV_ia dX3_endAsked_99 sa_145 ob ?_
          refine zV_bipush dX3_endAsked_100 ⟨by decide, by decide, by decide⟩ ?_
          refine zV_icmp_ne (tgt := 116) dX3_endAsked_102 (by decide) (fun c => ?_) (fun c => ?_)
          · have hP := zif_n hP c
            refine zV_aload_n dX3_endAsked_116 rfl ?_
            refine zV_iload_n dX3_endAsked_117 rfl ?_
            refine zV_aload_n dX3_endAsked_118 rfl ?_
            refine zV_sg dX3_endAsked_119 fm_101_71 sa_101 (by decide) fl_X3_140_3 rfl ?_
            refine zV_sipush dX3_endAsked_122 ⟨by decide, by decide, by decide⟩ ?_
            refine zV_iload_n dX3_endAsked_125 rfl ?_
            refine zV_imul dX3_endAsked_126 ?_
            refine zV_iload dX3_endAsked_127 rfl ?_
            refine zV_iadd dX3_endAsked_129 ?_
            obtain ⟨ob, hP⟩ := hP
            refine zV_ia dX3_endAsked_130 sa_145 ob ?_
            refine zV_cVv (As := [zI y1, zI (zd h10 145 (w32 ((w32 (301 * y1)) + r9)))]) (rest := []) dX3_endAsked_131 sa_101 (W_M_addSources _ _ _ _ hP) mi_X3_addSources ml_X3_479 (by decide) (Nat.le_of_ble_eq_true rfl) rfl rfl (fun r11 h12 hP => ?_)
            refine zV_aload_n dX3_endAsked_134 rfl ?_
            refine zV_iload_n dX3_endAsked_135 rfl ?_
            refine zV_aload_n dX3_endAsked_136 rfl ?_
            refine zV_sg dX3_endAsked_137 fm_101_71 sa_101 (by decide) fl_X3_140_3 rfl ?_
            refine zV_sipush dX3_endAsked_140 ⟨by decide, by decide, by decide⟩ ?_
            refine zV_iload_n dX3_endAsked_143 rfl ?_
            refine zV_imul dX3_endAsked_144 ?_
            refine zV_iload dX3_endAsked_145 rfl ?_
            refine zV_iadd dX3_endAsked_147 ?_
            obtain ⟨ob, hP⟩ := hP
            refine zV_ia dX3_endAsked_148 sa_145 ob ?_
            refine zV_cVv (As := [zI y1, zI (zd h12 145 (w32 ((w32 (301 * y1)) + r9)))]) (rest := []) dX3_endAsked_149 sa_101 (W_M_markRow _ _ _ _ hP) mi_X3_markRow ml_X3_539 (by decide) (Nat.le_of_ble_eq_true rfl) rfl rfl (fun r13 h14 hP => ?_)
            refine zV_mask [true, true, true, true, false, true] (ls' := [zR 101, zI y1, zI y2, zI y3, zU, zU]) rfl ?_
            exact W_M_endAsked_J152 _ _ _ _ _ _ ih hP
          · have hP := zif_p hP c
            refine zV_aload_n dX3_endAsked_105 rfl ?_
            refine zV_sg dX3_endAsked_106 fm_101_103 sa_101 (by decide) fl_X3_213_3 rfl ?_
            refine zV_iload dX3_endAsked_109 rfl ?_
            refine zV_iconst dX3_endAsked_111 ⟨by decide, by decide⟩ ?_
            obtain ⟨ob, hP⟩ := hP
            refine zV_zas dX3_endAsked_112 sa_169 ob (fun h16 e_h16 => ?_)
            have hP := hP h16 e_h16
            refine zV_goto (tgt := 152) dX3_endAsked_113 (by decide) ?_
            refine zV_mask [true, true, true, true, false, true] (ls' := [zR 101, zI y1, zI y2, zI y3, zU, zU]) rfl ?_
            exact W_M_endAsked_J152 _ _ _ _ _ _ ih hP
        · have hP := zif_p hP c
          refine zV_aload_n dX3_endAsked_77 rfl ?_
          refine zV_iload_n dX3_endAsked_78 rfl ?_
          refine zV_iload dX3_endAsked_79 rfl ?_
          refine zV_cVv (As := [zI y1, zI r9]) (rest := []) dX3_endAsked_81 sa_101 (W_M_addNameSources _ _ _ _ hP) mi_X3_addNameSources ml_X3_473 (by decide) (Nat.le_of_ble_eq_true rfl) rfl rfl (fun r17 h18 hP => ?_)
          refine zV_goto (tgt := 152) dX3_endAsked_84 (by decide) ?_
          refine zV_mask [true, true, true, true, false, true] (ls' := [zR 101, zI y1, zI y2, zI y3, zU, zU]) rfl ?_
          exact W_M_endAsked_J152 _ _ _ _ _ _ ih hP
      · have hP := zif_p hP c
        refine zV_goto (tgt := 152) dX3_endAsked_58 (by decide) ?_
        refine zV_mask [true, true, true, true, false, true] (ls' := [zR 101, zI y1, zI y2, zI y3, zU, zU]) rfl ?_
        exact W_M_endAsked_J152 _ _ _ _ _ _ ih hP
def P_M_endAsked_J230 (y1 : Int) (y2 : Int) (y3 : Int) (y4 : Int) (h : zH) (Q : Int → zH → Prop) (k163 : Int → Int → zH → Prop) : Prop :=
∀ x4_23 : Int, x4_23 = w32 (y4 + 1) →
k163 y3 x4_23 h
theorem W_M_endAsked_J230 (y1 : Int) (y2 : Int) (y3 : Int) (y4 : Int) (h : zH) (Q : Int → zH → Prop) (k163 : Int → Int → zH → Prop) (H163 : ∀ (v3 v4 : Int) (h' : zH), k163 v3 v4 h' → zV true zy_X3_endAsked 3 163 [zR 101, zI y1, zI y2, zI v3, zI v4, zU] [] h' (zQ0 Q)) (hP : P_M_endAsked_J230 y1 y2 y3 y4 h Q k163) : zV true zy_X3_endAsked 3 230 [zR 101, zI y1, zI y2, zI y3, zI y4, zU] [] h (zQ0 Q) := by
  unfold P_M_endAsked_J230 at hP
  refine zV_inc (ls' := fun z => [zR 101, zI y1, zI y2, zI y3, zI z, zU]) dX3_endAsked_230 (Nat.le_of_ble_eq_true rfl) rfl rfl (fun _ => rfl) (fun x4_23 e_x4_23 => ?_)
  have hP := hP x4_23 e_x4_23
  refine zV_goto (tgt := 163) dX3_endAsked_233 (by decide) ?_
  exact H163 _ _ _ hP
def P_M_endAsked_J218 (y1 : Int) (y2 : Int) (y3 : Int) (y4 : Int) (y5 : Int) (h : zH) (Q : Int → zH → Prop) (k163 : Int → Int → zH → Prop) : Prop :=
(0 ≤ y3 ∧ y3 < 320) ∧
∀ h21 : zH, h21 = zw h 167 y3 (w32 (-y5)) →
∀ x3_22 : Int, x3_22 = w32 (y3 + 1) →
P_M_endAsked_J230 y1 y2 x3_22 y4 h21 Q k163
theorem W_M_endAsked_J218 (y1 : Int) (y2 : Int) (y3 : Int) (y4 : Int) (y5 : Int) (h : zH) (Q : Int → zH → Prop) (k163 : Int → Int → zH → Prop) (H163 : ∀ (v3 v4 : Int) (h' : zH), k163 v3 v4 h' → zV true zy_X3_endAsked 3 163 [zR 101, zI y1, zI y2, zI v3, zI v4, zU] [] h' (zQ0 Q)) (hP : P_M_endAsked_J218 y1 y2 y3 y4 y5 h Q k163) : zV true zy_X3_endAsked 3 218 [zR 101, zI y1, zI y2, zI y3, zI y4, zI y5] [] h (zQ0 Q) := by
  unfold P_M_endAsked_J218 at hP
  refine zV_aload_n dX3_endAsked_218 rfl ?_
  refine zV_sg dX3_endAsked_219 fm_101_101 sa_101 (by decide) fl_X3_207_3 rfl ?_
  refine zV_iload_n dX3_endAsked_222 rfl ?_
  refine zV_iload dX3_endAsked_223 rfl ?_
  refine zV_ineg dX3_endAsked_225 ?_
  obtain ⟨ob, hP⟩ := hP
  refine zV_ias dX3_endAsked_226 sa_167 ob (fun h21 e_h21 => ?_)
  have hP := hP h21 e_h21
  refine zV_inc (ls' := fun z => [zR 101, zI y1, zI y2, zI z, zI y4, zI y5]) dX3_endAsked_227 (Nat.le_of_ble_eq_true rfl) rfl rfl (fun _ => rfl) (fun x3_22 e_x3_22 => ?_)
  have hP := hP x3_22 e_x3_22
  refine zV_mask [true, true, true, true, true, false] (ls' := [zR 101, zI y1, zI y2, zI x3_22, zI y4, zU]) rfl ?_
  exact W_M_endAsked_J230 _ _ _ _ _ _ _ H163 hP
def P_M_endAsked_L163 (y1 : Int) (y2 : Int) (Q : Int → zH → Prop) (k236 : Int → zH → Prop) : Nat → Int → Int → zH → Prop
| 0, _, _, _ => False
| n163 + 1, y3, y4, h =>
(0 ≤ y1 ∧ y1 < 2) ∧
if zd h 141 y1 ≤ y4 then
(k236 y3 h)
else
((0 ≤ w32 ((w32 (20 * y1)) + y4) ∧ w32 ((w32 (20 * y1)) + y4) < 40) ∧
∀ x5_20 : Int, x5_20 = (zd h 140 (w32 ((w32 (20 * y1)) + y4))) →
if x5_20 = y2 then
(P_M_endAsked_J218 y1 y2 y3 y4 x5_20 h Q (P_M_endAsked_L163 y1 y2 Q k236 n163))
else
(P_M_nameOf x5_20 h (fun r24 h25 =>
(0 ≤ r24 ∧ r24 < 301) ∧
if zd h25 169 r24 = 0 then
(P_M_endAsked_J230 y1 y2 y3 y4 h25 Q (P_M_endAsked_L163 y1 y2 Q k236 n163))
else
(P_M_stateOf y1 x5_20 h25 (fun r26 h27 =>
if r26 = 1 then
(P_M_endAsked_J218 y1 y2 y3 y4 x5_20 h27 Q (P_M_endAsked_L163 y1 y2 Q k236 n163))
else
(P_M_endAsked_J230 y1 y2 y3 y4 h27 Q (P_M_endAsked_L163 y1 y2 Q k236 n163)))))))
theorem W_M_endAsked_L163 (y1 : Int) (y2 : Int) (Q : Int → zH → Prop) (k236 : Int → zH → Prop) (H236 : ∀ (v3 : Int) (h' : zH), k236 v3 h' → zV true zy_X3_endAsked 3 236 [zR 101, zI y1, zU, zI v3, zU, zU] [] h' (zQ0 Q)) : ∀ (n163 : Nat) (y3 y4 : Int) (h : zH), P_M_endAsked_L163 y1 y2 Q k236 n163 y3 y4 h → zV true zy_X3_endAsked 3 163 [zR 101, zI y1, zI y2, zI y3, zI y4, zU] [] h (zQ0 Q) := by
  intro n163
  induction n163 with
  | zero => intro y3 y4 h hP; exact absurd hP id
  | succ n163 ih =>
    intro y3 y4 h hP
    unfold P_M_endAsked_L163 at hP
    refine zV_iload dX3_endAsked_163 rfl ?_
    refine zV_aload_n dX3_endAsked_165 rfl ?_
    refine zV_sg dX3_endAsked_166 fm_101_65 sa_101 (by decide) fl_X3_128_3 rfl ?_
    refine zV_iload_n dX3_endAsked_169 rfl ?_
    obtain ⟨ob, hP⟩ := hP
    refine zV_ia dX3_endAsked_170 sa_141 ob ?_
    refine zV_icmp_ge (tgt := 236) dX3_endAsked_171 (by decide) (fun c => ?_) (fun c => ?_)
    · have hP := zif_p hP c
      refine zV_mask [true, true, false, true, false, true] (ls' := [zR 101, zI y1, zU, zI y3, zU, zU]) rfl ?_
      exact H236 _ _ hP
    · have hP := zif_n hP c
      refine zV_aload_n dX3_endAsked_174 rfl ?_
      refine zV_sg dX3_endAsked_175 fm_101_64 sa_101 (by decide) fl_X3_125_3 rfl ?_
      refine zV_bipush dX3_endAsked_178 ⟨by decide, by decide, by decide⟩ ?_
      refine zV_iload_n dX3_endAsked_180 rfl ?_
      refine zV_imul dX3_endAsked_181 ?_
      refine zV_iload dX3_endAsked_182 rfl ?_
      refine zV_iadd dX3_endAsked_184 ?_
      obtain ⟨ob, hP⟩ := hP
      refine zV_ia dX3_endAsked_185 sa_140 ob ?_
      refine zV_top (fun x5_20 e_x5_20 => ?_)
      have hP := hP x5_20 e_x5_20
      refine zV_istore (ls' := [zR 101, zI y1, zI y2, zI y3, zI y4, zI x5_20]) dX3_endAsked_186 (Nat.le_of_ble_eq_true rfl) rfl rfl ?_
      refine zV_iload dX3_endAsked_188 rfl ?_
      refine zV_iload_n dX3_endAsked_190 rfl ?_
      refine zV_icmp_eq (tgt := 218) dX3_endAsked_191 (by decide) (fun c => ?_) (fun c => ?_)
      · have hP := zif_p hP c
        exact W_M_endAsked_J218 _ _ _ _ _ _ _ _ ih hP
      · have hP := zif_n hP c
        refine zV_aload_n dX3_endAsked_194 rfl ?_
        refine zV_sg dX3_endAsked_195 fm_101_103 sa_101 (by decide) fl_X3_213_3 rfl ?_
        refine zV_iload dX3_endAsked_198 rfl ?_
        refine zV_cSk (As := [zI x5_20]) (rest := [zR 169]) dX3_endAsked_200 (W_M_nameOf _ _ _ hP) mi_X3_nameOf ml_X3_289 (by decide) (Nat.le_of_ble_eq_true rfl) rfl rfl rfl (fun r24 h25 hP => ?_)
        obtain ⟨ob, hP⟩ := hP
        refine zV_za dX3_endAsked_203 sa_169 ob ?_
        refine zV_if_eq (tgt := 230) dX3_endAsked_204 (by decide) (fun c => ?_) (fun c => ?_)
        · have hP := zif_p hP c
          refine zV_mask [true, true, true, true, true, false] (ls' := [zR 101, zI y1, zI y2, zI y3, zI y4, zU]) rfl ?_
          exact W_M_endAsked_J230 _ _ _ _ _ _ _ ih hP
        · have hP := zif_n hP c
          refine zV_aload_n dX3_endAsked_207 rfl ?_
          refine zV_iload_n dX3_endAsked_208 rfl ?_
          refine zV_iload dX3_endAsked_209 rfl ?_
          refine zV_cVk (As := [zI y1, zI x5_20]) (rest := []) dX3_endAsked_211 sa_101 (W_M_stateOf _ _ _ _ hP) mi_X3_stateOf ml_X3_445 (by decide) (Nat.le_of_ble_eq_true rfl) rfl rfl rfl (fun r26 h27 hP => ?_)
          refine zV_iconst dX3_endAsked_214 ⟨by decide, by decide⟩ ?_
          refine zV_icmp_ne (tgt := 230) dX3_endAsked_215 (by decide) (fun c => ?_) (fun c => ?_)
          · have hP := zif_n hP c
            refine zV_mask [true, true, true, true, true, false] (ls' := [zR 101, zI y1, zI y2, zI y3, zI y4, zU]) rfl ?_
            exact W_M_endAsked_J230 _ _ _ _ _ _ _ ih hP
          · have hP := zif_p hP c
            exact W_M_endAsked_J218 _ _ _ _ _ _ _ _ ih hP
def P_M_endAsked_L263 (y1 : Int) (y3 : Int) (Q : Int → zH → Prop) : Nat → Int → zH → Prop
| 0, _, _ => False
| n263 + 1, y4, h =>
if y3 ≤ y4 then
(Q 0 h)
else
(if y1 = 0 then
((0 ≤ y4 ∧ y4 < 320) ∧
(0 ≤ y4 ∧ y4 < 20) ∧
∀ h35 : zH, h35 = zw h 166 y4 (w32 (-(zd h 167 y4))) →
∀ h36 : zH, h36 = zw h35 101 96 (w32 (y4 + 1)) →
∀ x4_37 : Int, x4_37 = w32 (y4 + 1) →
P_M_endAsked_L263 y1 y3 Q n263 x4_37 h36)
else
(Q 0 h))
theorem W_M_endAsked_L263 (y1 : Int) (y3 : Int) (Q : Int → zH → Prop) : ∀ (n263 : Nat) (y4 : Int) (h : zH), P_M_endAsked_L263 y1 y3 Q n263 y4 h → zV true zy_X3_endAsked 3 263 [zR 101, zI y1, zU, zI y3, zI y4, zU] [] h (zQ0 Q) := by
  intro n263
  induction n263 with
  | zero => intro y4 h hP; exact absurd hP id
  | succ n263 ih =>
    intro y4 h hP
    unfold P_M_endAsked_L263 at hP
    refine zV_iload dX3_endAsked_263 rfl ?_
    refine zV_iload_n dX3_endAsked_265 rfl ?_
    refine zV_icmp_ge (tgt := 302) dX3_endAsked_266 (by decide) (fun c => ?_) (fun c => ?_)
    · have hP := zif_p hP c
      refine zV_iconst dX3_endAsked_302 ⟨by decide, by decide⟩ ?_
      exact zV_ireturn dX3_endAsked_303 rfl rfl rfl ⟨rfl, hP⟩
    · have hP := zif_n hP c
      refine zV_iload_n dX3_endAsked_269 rfl ?_
      refine zV_if_ne (tgt := 302) dX3_endAsked_270 (by decide) (fun c => ?_) (fun c => ?_)
      · have hP := zif_n hP c
        refine zV_iconst dX3_endAsked_302 ⟨by decide, by decide⟩ ?_
        exact zV_ireturn dX3_endAsked_303 rfl rfl rfl ⟨rfl, hP⟩
      · have hP := zif_p hP c
        refine zV_aload_n dX3_endAsked_273 rfl ?_
        refine zV_sg dX3_endAsked_274 fm_101_95 sa_101 (by decide) fl_X3_204_3 rfl ?_
        refine zV_iload dX3_endAsked_277 rfl ?_
        refine zV_aload_n dX3_endAsked_279 rfl ?_
        refine zV_sg dX3_endAsked_280 fm_101_101 sa_101 (by decide) fl_X3_207_3 rfl ?_
        refine zV_iload dX3_endAsked_283 rfl ?_
        obtain ⟨ob, hP⟩ := hP
        refine zV_ia dX3_endAsked_285 sa_167 ob ?_
        refine zV_ineg dX3_endAsked_286 ?_
        obtain ⟨ob, hP⟩ := hP
        refine zV_ias dX3_endAsked_287 sa_166 ob (fun h35 e_h35 => ?_)
        have hP := hP h35 e_h35
        refine zV_aload_n dX3_endAsked_288 rfl ?_
        refine zV_iload dX3_endAsked_289 rfl ?_
        refine zV_iconst dX3_endAsked_291 ⟨by decide, by decide⟩ ?_
        refine zV_iadd dX3_endAsked_292 ?_
        refine zV_pf dX3_endAsked_293 sa_101 (by decide) fl_X3_526_3 rfl rfl trivial (ki := 96) rfl (fun h36 e_h36 => ?_)
        have hP := hP h36 e_h36
        refine zV_inc (ls' := fun z => [zR 101, zI y1, zU, zI y3, zI z, zU]) dX3_endAsked_296 (Nat.le_of_ble_eq_true rfl) rfl rfl (fun _ => rfl) (fun x4_37 e_x4_37 => ?_)
        have hP := hP x4_37 e_x4_37
        refine zV_goto (tgt := 263) dX3_endAsked_299 (by decide) ?_
        exact ih _ _ hP
def P_M_endAsked (a1 : Int) (a2 : Int) (h : zH) (Q : Int → zH → Prop) : Prop :=
P_M_clearMarks h (fun r1 h2 =>
P_M_clearSources h2 (fun r3 h4 =>
P_M_nameOf a2 h4 (fun r5 h6 =>
(0 ≤ r5 ∧ r5 < 301) ∧
∀ h7 : zH, h7 = zw h6 168 r5 (zbit 1) →
(0 ≤ a1 ∧ a1 < 2) ∧
∀ x3_8 : Int, x3_8 = (w32 ((zd h7 150 a1) - 1)) →
∃ n27, P_M_endAsked_L27 a1 a2 Q (fun h19 =>
∃ n163, P_M_endAsked_L163 a1 a2 Q (fun u3_236 h28 =>
P_M_hasRoom a1 u3_236 h28 (fun r29 h30 =>
if r29 = 0 then
(Q (-1003) h30)
else
(P_M_record a1 u3_236 h30 (fun r31 h32 =>
P_M_keepCore a1 h32 (fun r33 h34 =>
∃ n263, P_M_endAsked_L263 a1 u3_236 Q n263 0 h34))))) n163 0 0 h19) n27 x3_8 h7)))
theorem W_M_endAsked (a1 : Int) (a2 : Int) (h : zH) (Q : Int → zH → Prop) (hP : P_M_endAsked a1 a2 h Q) : zC true zy_X3_endAsked 3 [zR 101, zI a1, zI a2] h (zQ0 Q) := by
  unfold P_M_endAsked at hP
  refine zC.of (by decide) (Nat.le_of_ble_eq_true rfl) ?_
  show zV true zy_X3_endAsked 3 0 [zR 101, zI a1, zI a2, zU, zU, zU] [] h (zQ0 Q)
  refine zV_aload_n dX3_endAsked_0 rfl ?_
  refine zV_cVv (As := []) (rest := []) dX3_endAsked_1 sa_101 (W_M_clearMarks _ _ hP) mi_X3_clearMarks ml_X3_536 (by decide) (Nat.le_of_ble_eq_true rfl) rfl rfl (fun r1 h2 hP => ?_)
  refine zV_aload_n dX3_endAsked_4 rfl ?_
  refine zV_cVv (As := []) (rest := []) dX3_endAsked_5 sa_101 (W_M_clearSources _ _ hP) mi_X3_clearSources ml_X3_476 (by decide) (Nat.le_of_ble_eq_true rfl) rfl rfl (fun r3 h4 hP => ?_)
  refine zV_aload_n dX3_endAsked_8 rfl ?_
  refine zV_sg dX3_endAsked_9 fm_101_102 sa_101 (by decide) fl_X3_210_3 rfl ?_
  refine zV_iload_n dX3_endAsked_12 rfl ?_
  refine zV_cSk (As := [zI a2]) (rest := [zR 168]) dX3_endAsked_13 (W_M_nameOf _ _ _ hP) mi_X3_nameOf ml_X3_289 (by decide) (Nat.le_of_ble_eq_true rfl) rfl rfl rfl (fun r5 h6 hP => ?_)
  refine zV_iconst dX3_endAsked_16 ⟨by decide, by decide⟩ ?_
  obtain ⟨ob, hP⟩ := hP
  refine zV_zas dX3_endAsked_17 sa_168 ob (fun h7 e_h7 => ?_)
  have hP := hP h7 e_h7
  refine zV_aload_n dX3_endAsked_18 rfl ?_
  refine zV_sg dX3_endAsked_19 fm_101_76 sa_101 (by decide) fl_X3_156_3 rfl ?_
  refine zV_iload_n dX3_endAsked_22 rfl ?_
  obtain ⟨ob, hP⟩ := hP
  refine zV_ia dX3_endAsked_23 sa_150 ob ?_
  refine zV_iconst dX3_endAsked_24 ⟨by decide, by decide⟩ ?_
  refine zV_isub dX3_endAsked_25 ?_
  refine zV_top (fun x3_8 e_x3_8 => ?_)
  have hP := hP x3_8 e_x3_8
  refine zV_istore_n (ls' := [zR 101, zI a1, zI a2, zI x3_8, zU, zU]) dX3_endAsked_26 rfl (Nat.le_of_ble_eq_true rfl) rfl rfl ?_
  obtain ⟨n27, hP⟩ := hP
  refine W_M_endAsked_L27 _ _ _ _ (fun h19 hP => ?_) n27 _ _ hP
  refine zV_iconst dX3_endAsked_158 ⟨by decide, by decide⟩ ?_
  refine zV_istore_n (ls' := [zR 101, zI a1, zI a2, zI 0, zU, zU]) dX3_endAsked_159 rfl (Nat.le_of_ble_eq_true rfl) rfl rfl ?_
  refine zV_iconst dX3_endAsked_160 ⟨by decide, by decide⟩ ?_
  refine zV_istore (ls' := [zR 101, zI a1, zI a2, zI 0, zI 0, zU]) dX3_endAsked_161 (Nat.le_of_ble_eq_true rfl) rfl rfl ?_
  obtain ⟨n163, hP⟩ := hP
  refine W_M_endAsked_L163 _ _ _ _ (fun u3_236 h28 hP => ?_) n163 _ _ _ hP
  refine zV_aload_n dX3_endAsked_236 rfl ?_
  refine zV_iload_n dX3_endAsked_237 rfl ?_
  refine zV_iload_n dX3_endAsked_238 rfl ?_
  refine zV_cVk (As := [zI a1, zI u3_236]) (rest := []) dX3_endAsked_239 sa_101 (W_M_hasRoom _ _ _ _ hP) mi_X3_hasRoom ml_X3_517 (by decide) (Nat.le_of_ble_eq_true rfl) rfl rfl rfl (fun r29 h30 hP => ?_)
  refine zV_if_ne (tgt := 249) dX3_endAsked_242 (by decide) (fun c => ?_) (fun c => ?_)
  · have hP := zif_n hP c
    refine zV_aload_n dX3_endAsked_249 rfl ?_
    refine zV_iload_n dX3_endAsked_250 rfl ?_
    refine zV_iload_n dX3_endAsked_251 rfl ?_
    refine zV_cVv (As := [zI a1, zI u3_236]) (rest := []) dX3_endAsked_252 sa_101 (W_M_record _ _ _ _ hP) mi_X3_record ml_X3_520 (by decide) (Nat.le_of_ble_eq_true rfl) rfl rfl (fun r31 h32 hP => ?_)
    refine zV_aload_n dX3_endAsked_255 rfl ?_
    refine zV_iload_n dX3_endAsked_256 rfl ?_
    refine zV_cVv (As := [zI a1]) (rest := []) dX3_endAsked_257 sa_101 (W_M_keepCore _ _ _ hP) mi_X3_keepCore ml_X3_523 (by decide) (Nat.le_of_ble_eq_true rfl) rfl rfl (fun r33 h34 hP => ?_)
    refine zV_iconst dX3_endAsked_260 ⟨by decide, by decide⟩ ?_
    refine zV_istore (ls' := [zR 101, zI a1, zU, zI u3_236, zI 0, zU]) dX3_endAsked_261 (Nat.le_of_ble_eq_true rfl) rfl rfl ?_
    obtain ⟨n263, hP⟩ := hP
    refine W_M_endAsked_L263 _ _ _ n263 _ _ hP
  · have hP := zif_p hP c
    refine zV_sipush dX3_endAsked_245 ⟨by decide, by decide, by decide⟩ ?_
    exact zV_ireturn dX3_endAsked_248 rfl rfl rfl ⟨rfl, hP⟩
def P_M_heaviest_J64 (y1 : Int) (y2 : Int) (y3 : Int) (h : zH) (Q : Int → zH → Prop) (k4 : Int → Int → zH → Prop) : Prop :=
∀ x3_1 : Int, x3_1 = w32 (y3 + 1) →
k4 y2 x3_1 h
theorem W_M_heaviest_J64 (y1 : Int) (y2 : Int) (y3 : Int) (h : zH) (Q : Int → zH → Prop) (k4 : Int → Int → zH → Prop) (H4 : ∀ (v2 v3 : Int) (h' : zH), k4 v2 v3 h' → zV true zy_X3_heaviest 1 4 [zR 101, zI y1, zI v2, zI v3] [] h' (zQ0 Q)) (hP : P_M_heaviest_J64 y1 y2 y3 h Q k4) : zV true zy_X3_heaviest 1 64 [zR 101, zI y1, zI y2, zI y3] [] h (zQ0 Q) := by
  unfold P_M_heaviest_J64 at hP
  refine zV_inc (ls' := fun z => [zR 101, zI y1, zI y2, zI z]) dX3_heaviest_64 (Nat.le_of_ble_eq_true rfl) rfl rfl (fun _ => rfl) (fun x3_1 e_x3_1 => ?_)
  have hP := hP x3_1 e_x3_1
  refine zV_goto (tgt := 4) dX3_heaviest_67 (by decide) ?_
  exact H4 _ _ _ hP
def P_M_heaviest_J62 (y1 : Int) (y3 : Int) (h : zH) (Q : Int → zH → Prop) (k4 : Int → Int → zH → Prop) : Prop :=
P_M_heaviest_J64 y1 y3 y3 h Q k4
theorem W_M_heaviest_J62 (y1 : Int) (y3 : Int) (h : zH) (Q : Int → zH → Prop) (k4 : Int → Int → zH → Prop) (H4 : ∀ (v2 v3 : Int) (h' : zH), k4 v2 v3 h' → zV true zy_X3_heaviest 1 4 [zR 101, zI y1, zI v2, zI v3] [] h' (zQ0 Q)) (hP : P_M_heaviest_J62 y1 y3 h Q k4) : zV true zy_X3_heaviest 1 62 [zR 101, zI y1, zU, zI y3] [] h (zQ0 Q) := by
  unfold P_M_heaviest_J62 at hP
  refine zV_iload_n dX3_heaviest_62 rfl ?_
  refine zV_istore_n (ls' := [zR 101, zI y1, zI y3, zI y3]) dX3_heaviest_63 rfl (Nat.le_of_ble_eq_true rfl) rfl rfl ?_
  exact W_M_heaviest_J64 _ _ _ _ _ _ H4 hP
def P_M_heaviest_L4 (y1 : Int) (Q : Int → zH → Prop) (k70 : Int → zH → Prop) : Nat → Int → Int → zH → Prop
| 0, _, _, _ => False
| n4 + 1, y2, y3, h =>
(0 ≤ y1 ∧ y1 < 2) ∧
if zd h 137 y1 < y3 then
(k70 y2 h)
else
((0 ≤ w32 ((w32 (301 * y1)) + y3) ∧ w32 ((w32 (301 * y1)) + y3) < 602) ∧
if zd h 143 (w32 ((w32 (301 * y1)) + y3)) = 2 then
(if y2 = 0 then
(P_M_heaviest_J62 y1 y3 h Q (P_M_heaviest_L4 y1 Q k70 n4))
else
((0 ≤ w32 ((w32 (301 * y1)) + y3) ∧ w32 ((w32 (301 * y1)) + y3) < 602) ∧
(0 ≤ w32 ((w32 (301 * y1)) + y2) ∧ w32 ((w32 (301 * y1)) + y2) < 602) ∧
if zcmp (zd h 147 (w32 ((w32 (301 * y1)) + y3))) (zd h 147 (w32 ((w32 (301 * y1)) + y2))) ≤ 0 then
(P_M_heaviest_J64 y1 y2 y3 h Q (P_M_heaviest_L4 y1 Q k70 n4))
else
(P_M_heaviest_J62 y1 y3 h Q (P_M_heaviest_L4 y1 Q k70 n4))))
else
(P_M_heaviest_J64 y1 y2 y3 h Q (P_M_heaviest_L4 y1 Q k70 n4)))
theorem W_M_heaviest_L4 (y1 : Int) (Q : Int → zH → Prop) (k70 : Int → zH → Prop) (H70 : ∀ (v2 : Int) (h' : zH), k70 v2 h' → zV true zy_X3_heaviest 1 70 [zR 101, zI y1, zI v2, zU] [] h' (zQ0 Q)) : ∀ (n4 : Nat) (y2 y3 : Int) (h : zH), P_M_heaviest_L4 y1 Q k70 n4 y2 y3 h → zV true zy_X3_heaviest 1 4 [zR 101, zI y1, zI y2, zI y3] [] h (zQ0 Q) := by
  intro n4
  induction n4 with
  | zero => intro y2 y3 h hP; exact absurd hP id
  | succ n4 ih =>
    intro y2 y3 h hP
    unfold P_M_heaviest_L4 at hP
    refine zV_iload_n dX3_heaviest_4 rfl ?_
    refine zV_aload_n dX3_heaviest_5 rfl ?_
    refine zV_sg dX3_heaviest_6 fm_101_61 sa_101 (by decide) fl_X3_116_3 rfl ?_
    refine zV_iload_n dX3_heaviest_9 rfl ?_
    obtain ⟨ob, hP⟩ := hP
    refine zV_ia dX3_heaviest_10 sa_137 ob ?_
    refine zV_icmp_gt (tgt := 70) dX3_heaviest_11 (by decide) (fun c => ?_) (fun c => ?_)
    · have hP := zif_p hP c
      refine zV_mask [true, true, true, false] (ls' := [zR 101, zI y1, zI y2, zU]) rfl ?_
      exact H70 _ _ hP
    · have hP := zif_n hP c
      refine zV_aload_n dX3_heaviest_14 rfl ?_
      refine zV_sg dX3_heaviest_15 fm_101_69 sa_101 (by decide) fl_X3_134_3 rfl ?_
      refine zV_sipush dX3_heaviest_18 ⟨by decide, by decide, by decide⟩ ?_
      refine zV_iload_n dX3_heaviest_21 rfl ?_
      refine zV_imul dX3_heaviest_22 ?_
      refine zV_iload_n dX3_heaviest_23 rfl ?_
      refine zV_iadd dX3_heaviest_24 ?_
      obtain ⟨ob, hP⟩ := hP
      refine zV_ia dX3_heaviest_25 sa_143 ob ?_
      refine zV_iconst dX3_heaviest_26 ⟨by decide, by decide⟩ ?_
      refine zV_icmp_ne (tgt := 64) dX3_heaviest_27 (by decide) (fun c => ?_) (fun c => ?_)
      · have hP := zif_n hP c
        exact W_M_heaviest_J64 _ _ _ _ _ _ ih hP
      · have hP := zif_p hP c
        refine zV_iload_n dX3_heaviest_30 rfl ?_
        refine zV_if_eq (tgt := 62) dX3_heaviest_31 (by decide) (fun c => ?_) (fun c => ?_)
        · have hP := zif_p hP c
          refine zV_mask [true, true, false, true] (ls' := [zR 101, zI y1, zU, zI y3]) rfl ?_
          exact W_M_heaviest_J62 _ _ _ _ _ ih hP
        · have hP := zif_n hP c
          refine zV_aload_n dX3_heaviest_34 rfl ?_
          refine zV_sg dX3_heaviest_35 fm_101_73 sa_101 (by decide) fl_X3_146_3 rfl ?_
          refine zV_sipush dX3_heaviest_38 ⟨by decide, by decide, by decide⟩ ?_
          refine zV_iload_n dX3_heaviest_41 rfl ?_
          refine zV_imul dX3_heaviest_42 ?_
          refine zV_iload_n dX3_heaviest_43 rfl ?_
          refine zV_iadd dX3_heaviest_44 ?_
          obtain ⟨ob, hP⟩ := hP
          refine zV_la dX3_heaviest_45 sa_147 ob ?_
          refine zV_aload_n dX3_heaviest_46 rfl ?_
          refine zV_sg dX3_heaviest_47 fm_101_73 sa_101 (by decide) fl_X3_146_3 rfl ?_
          refine zV_sipush dX3_heaviest_50 ⟨by decide, by decide, by decide⟩ ?_
          refine zV_iload_n dX3_heaviest_53 rfl ?_
          refine zV_imul dX3_heaviest_54 ?_
          refine zV_iload_n dX3_heaviest_55 rfl ?_
          refine zV_iadd dX3_heaviest_56 ?_
          obtain ⟨ob, hP⟩ := hP
          refine zV_la dX3_heaviest_57 sa_147 ob ?_
          refine zV_lcmp dX3_heaviest_58 ?_
          refine zV_if_le (tgt := 64) dX3_heaviest_59 (by decide) (fun c => ?_) (fun c => ?_)
          · have hP := zif_p hP c
            exact W_M_heaviest_J64 _ _ _ _ _ _ ih hP
          · have hP := zif_n hP c
            refine zV_mask [true, true, false, true] (ls' := [zR 101, zI y1, zU, zI y3]) rfl ?_
            exact W_M_heaviest_J62 _ _ _ _ _ ih hP
def P_M_heaviest (a1 : Int) (h : zH) (Q : Int → zH → Prop) : Prop :=
∃ n4, P_M_heaviest_L4 a1 Q (fun u2_70 h2 =>
(0 ≤ w32 ((w32 (301 * a1)) + u2_70) ∧ w32 ((w32 (301 * a1)) + u2_70) < 602) ∧
Q (if zd h2 146 (w32 ((w32 (301 * a1)) + u2_70)) = 1 then u2_70 else w32 (-u2_70)) h2) n4 0 1 h
theorem W_M_heaviest (a1 : Int) (h : zH) (Q : Int → zH → Prop) (hP : P_M_heaviest a1 h Q) : zC true zy_X3_heaviest 1 [zR 101, zI a1] h (zQ0 Q) := by
  unfold P_M_heaviest at hP
  refine zC.of (by decide) (Nat.le_of_ble_eq_true rfl) ?_
  show zV true zy_X3_heaviest 1 0 [zR 101, zI a1, zU, zU] [] h (zQ0 Q)
  refine zV_iconst dX3_heaviest_0 ⟨by decide, by decide⟩ ?_
  refine zV_istore_n (ls' := [zR 101, zI a1, zI 0, zU]) dX3_heaviest_1 rfl (Nat.le_of_ble_eq_true rfl) rfl rfl ?_
  refine zV_iconst dX3_heaviest_2 ⟨by decide, by decide⟩ ?_
  refine zV_istore_n (ls' := [zR 101, zI a1, zI 0, zI 1]) dX3_heaviest_3 rfl (Nat.le_of_ble_eq_true rfl) rfl rfl ?_
  obtain ⟨n4, hP⟩ := hP
  refine W_M_heaviest_L4 _ _ _ (fun u2_70 h2 hP => ?_) n4 _ _ _ hP
  refine zV_aload_n dX3_heaviest_70 rfl ?_
  refine zV_sg dX3_heaviest_71 fm_101_72 sa_101 (by decide) fl_X3_143_3 rfl ?_
  refine zV_sipush dX3_heaviest_74 ⟨by decide, by decide, by decide⟩ ?_
  refine zV_iload_n dX3_heaviest_77 rfl ?_
  refine zV_imul dX3_heaviest_78 ?_
  refine zV_iload_n dX3_heaviest_79 rfl ?_
  refine zV_iadd dX3_heaviest_80 ?_
  obtain ⟨ob, hP⟩ := hP
  refine zV_ia dX3_heaviest_81 sa_146 ob ?_
  refine zV_iconst dX3_heaviest_82 ⟨by decide, by decide⟩ ?_
  have K : zV true zy_X3_heaviest 1 92 [zU, zU, zU, zU] [zI (if zd h2 146 (w32 ((w32 (301 * a1)) + u2_70)) = 1 then u2_70 else w32 (-u2_70))] h2 (zQ0 Q) := by
    exact zV_ireturn dX3_heaviest_92 rfl rfl rfl ⟨rfl, hP⟩
  clear hP
  refine zV_icmp_ne (tgt := 90) dX3_heaviest_83 (by decide) (fun c => ?_) (fun c => ?_)
  · try simp only [if_neg c] at K
    refine zV_iload_n dX3_heaviest_90 rfl ?_
    refine zV_ineg dX3_heaviest_91 ?_
    refine zV_mask [false, false, false, false] rfl ?_
    exact K
  · try simp only [if_pos c] at K
    refine zV_iload_n dX3_heaviest_86 rfl ?_
    refine zV_goto (tgt := 92) dX3_heaviest_87 (by decide) ?_
    refine zV_mask [false, false, false, false] rfl ?_
    exact K
def P_M_oneTurn_L5 (y1 : Int) (Q : Int → zH → Prop) (k67 : zH → Prop) : Nat → zH → Prop
| 0, _ => False
| n5 + 1, h =>
if 0 ≤ zd h 101 98 then
(k67 h)
else
(if zd h 101 99 < 0 then
(k67 h)
else
(P_M_takesStep y1 h (fun r3 h4 =>
if r3 = 0 then
(Q (-1004) h4)
else
((0 ≤ w32 ((w32 (10 * y1)) + 2) ∧ w32 ((w32 (10 * y1)) + 2) < 20) ∧
(0 ≤ w32 ((w32 (10 * y1)) + 2) ∧ w32 ((w32 (10 * y1)) + 2) < 20) ∧
∀ h5 : zH, h5 = zw h4 163 (w32 ((w32 (10 * y1)) + 2)) (w32 ((zd h4 163 (w32 ((w32 (10 * y1)) + 2))) + 1)) →
P_M_become y1 (zd h5 101 100) (zd h5 101 99) h5 (fun r6 h7 =>
P_M_find y1 h7 (fun r8 h9 =>
P_M_oneTurn_L5 y1 Q k67 n5 h9))))))
theorem W_M_oneTurn_L5 (y1 : Int) (Q : Int → zH → Prop) (k67 : zH → Prop) (H67 : ∀ (h' : zH), k67 h' → zV true zy_X3_oneTurn 6 67 [zR 101, zI y1, zU, zU, zU] [] h' (zQ0 Q)) : ∀ (n5 : Nat) (h : zH), P_M_oneTurn_L5 y1 Q k67 n5 h → zV true zy_X3_oneTurn 6 5 [zR 101, zI y1, zU, zU, zU] [] h (zQ0 Q) := by
  intro n5
  induction n5 with
  | zero => intro h hP; exact absurd hP id
  | succ n5 ih =>
    intro h hP
    unfold P_M_oneTurn_L5 at hP
    refine zV_aload_n dX3_oneTurn_5 rfl ?_
    refine zV_gf dX3_oneTurn_6 sa_101 (by decide) fl_X3_460_3 rfl (ki := 98) rfl ?_
    refine zV_if_ge (tgt := 67) dX3_oneTurn_9 (by decide) (fun c => ?_) (fun c => ?_)
    · have hP := zif_p hP c
      exact H67 _ hP
    · have hP := zif_n hP c
      refine zV_aload_n dX3_oneTurn_12 rfl ?_
      refine zV_gf dX3_oneTurn_13 sa_101 (by decide) fl_X3_454_3 rfl (ki := 99) rfl ?_
      refine zV_if_lt (tgt := 67) dX3_oneTurn_16 (by decide) (fun c => ?_) (fun c => ?_)
      · have hP := zif_p hP c
        exact H67 _ hP
      · have hP := zif_n hP c
        refine zV_aload_n dX3_oneTurn_19 rfl ?_
        refine zV_iload_n dX3_oneTurn_20 rfl ?_
        refine zV_cVk (As := [zI y1]) (rest := []) dX3_oneTurn_21 sa_101 (W_M_takesStep _ _ _ hP) mi_X3_takesStep ml_X3_496 (by decide) (Nat.le_of_ble_eq_true rfl) rfl rfl rfl (fun r3 h4 hP => ?_)
        refine zV_if_ne (tgt := 31) dX3_oneTurn_24 (by decide) (fun c => ?_) (fun c => ?_)
        · have hP := zif_n hP c
          refine zV_aload_n dX3_oneTurn_31 rfl ?_
          refine zV_sg dX3_oneTurn_32 fm_101_90 sa_101 (by decide) fl_X3_195_3 rfl ?_
          refine zV_bipush dX3_oneTurn_35 ⟨by decide, by decide, by decide⟩ ?_
          refine zV_iload_n dX3_oneTurn_37 rfl ?_
          refine zV_imul dX3_oneTurn_38 ?_
          refine zV_iconst dX3_oneTurn_39 ⟨by decide, by decide⟩ ?_
          refine zV_iadd dX3_oneTurn_40 ?_
          refine zV_dup2 dX3_oneTurn_41 (Nat.ne_of_beq_eq_false rfl) (Nat.ne_of_beq_eq_false rfl) ?_
          obtain ⟨ob, hP⟩ := hP
          refine zV_ia dX3_oneTurn_42 sa_163 ob ?_
          refine zV_iconst dX3_oneTurn_43 ⟨by decide, by decide⟩ ?_
          refine zV_iadd dX3_oneTurn_44 ?_
          obtain ⟨ob, hP⟩ := hP
          refine zV_ias dX3_oneTurn_45 sa_163 ob (fun h5 e_h5 => ?_)
          have hP := hP h5 e_h5
          refine zV_aload_n dX3_oneTurn_46 rfl ?_
          refine zV_iload_n dX3_oneTurn_47 rfl ?_
          refine zV_aload_n dX3_oneTurn_48 rfl ?_
          refine zV_gf dX3_oneTurn_49 sa_101 (by decide) fl_X3_457_3 rfl (ki := 100) rfl ?_
          refine zV_aload_n dX3_oneTurn_52 rfl ?_
          refine zV_gf dX3_oneTurn_53 sa_101 (by decide) fl_X3_454_3 rfl (ki := 99) rfl ?_
          refine zV_cVv (As := [zI y1, zI (zd h5 101 100), zI (zd h5 101 99)]) (rest := []) dX3_oneTurn_56 sa_101 (W_M_become _ _ _ _ _ hP) mi_X3_become ml_X3_499 (by decide) (Nat.le_of_ble_eq_true rfl) rfl rfl (fun r6 h7 hP => ?_)
          refine zV_aload_n dX3_oneTurn_59 rfl ?_
          refine zV_iload_n dX3_oneTurn_60 rfl ?_
          refine zV_cVv (As := [zI y1]) (rest := []) dX3_oneTurn_61 sa_101 (W_M_find _ _ _ hP) mi_X3_find ml_X3_493 (by decide) (Nat.le_of_ble_eq_true rfl) rfl rfl (fun r8 h9 hP => ?_)
          refine zV_goto (tgt := 5) dX3_oneTurn_64 (by decide) ?_
          exact ih _ hP
        · have hP := zif_p hP c
          refine zV_sipush dX3_oneTurn_27 ⟨by decide, by decide, by decide⟩ ?_
          exact zV_ireturn dX3_oneTurn_30 rfl rfl rfl ⟨rfl, hP⟩
def P_M_oneTurn_L104 (y1 : Int) (Q : Int → zH → Prop) (k146 : Int → Int → zH → Prop) : Nat → Int → Int → Int → zH → Prop
| 0, _, _, _, _ => False
| n104 + 1, y2, y3, y4, h =>
(0 ≤ y1 ∧ y1 < 2) ∧
if zd h 141 y1 ≤ y4 then
(k146 y2 y3 h)
else
(if y3 = 1 then
((0 ≤ w32 ((w32 (20 * y1)) + y4) ∧ w32 ((w32 (20 * y1)) + y4) < 40) ∧
∀ x2_11 : Int, x2_11 = (zd h 140 (w32 ((w32 (20 * y1)) + y4))) →
P_M_stateOf y1 x2_11 h (fun r12 h13 =>
∀ x4_14 : Int, x4_14 = w32 (y4 + 1) →
P_M_oneTurn_L104 y1 Q k146 n104 x2_11 r12 x4_14 h13))
else
(k146 y2 y3 h))
theorem W_M_oneTurn_L104 (y1 : Int) (Q : Int → zH → Prop) (k146 : Int → Int → zH → Prop) (H146 : ∀ (v2 v3 : Int) (h' : zH), k146 v2 v3 h' → zV true zy_X3_oneTurn 6 146 [zR 101, zI y1, zI v2, zI v3, zU] [] h' (zQ0 Q)) : ∀ (n104 : Nat) (y2 y3 y4 : Int) (h : zH), P_M_oneTurn_L104 y1 Q k146 n104 y2 y3 y4 h → zV true zy_X3_oneTurn 6 104 [zR 101, zI y1, zI y2, zI y3, zI y4] [] h (zQ0 Q) := by
  intro n104
  induction n104 with
  | zero => intro y2 y3 y4 h hP; exact absurd hP id
  | succ n104 ih =>
    intro y2 y3 y4 h hP
    unfold P_M_oneTurn_L104 at hP
    refine zV_iload dX3_oneTurn_104 rfl ?_
    refine zV_aload_n dX3_oneTurn_106 rfl ?_
    refine zV_sg dX3_oneTurn_107 fm_101_65 sa_101 (by decide) fl_X3_128_3 rfl ?_
    refine zV_iload_n dX3_oneTurn_110 rfl ?_
    obtain ⟨ob, hP⟩ := hP
    refine zV_ia dX3_oneTurn_111 sa_141 ob ?_
    refine zV_icmp_ge (tgt := 146) dX3_oneTurn_112 (by decide) (fun c => ?_) (fun c => ?_)
    · have hP := zif_p hP c
      refine zV_mask [true, true, true, true, false] (ls' := [zR 101, zI y1, zI y2, zI y3, zU]) rfl ?_
      exact H146 _ _ _ hP
    · have hP := zif_n hP c
      refine zV_iload_n dX3_oneTurn_115 rfl ?_
      refine zV_iconst dX3_oneTurn_116 ⟨by decide, by decide⟩ ?_
      refine zV_icmp_ne (tgt := 146) dX3_oneTurn_117 (by decide) (fun c => ?_) (fun c => ?_)
      · have hP := zif_n hP c
        refine zV_mask [true, true, true, true, false] (ls' := [zR 101, zI y1, zI y2, zI y3, zU]) rfl ?_
        exact H146 _ _ _ hP
      · have hP := zif_p hP c
        refine zV_aload_n dX3_oneTurn_120 rfl ?_
        refine zV_sg dX3_oneTurn_121 fm_101_64 sa_101 (by decide) fl_X3_125_3 rfl ?_
        refine zV_bipush dX3_oneTurn_124 ⟨by decide, by decide, by decide⟩ ?_
        refine zV_iload_n dX3_oneTurn_126 rfl ?_
        refine zV_imul dX3_oneTurn_127 ?_
        refine zV_iload dX3_oneTurn_128 rfl ?_
        refine zV_iadd dX3_oneTurn_130 ?_
        obtain ⟨ob, hP⟩ := hP
        refine zV_ia dX3_oneTurn_131 sa_140 ob ?_
        refine zV_top (fun x2_11 e_x2_11 => ?_)
        have hP := hP x2_11 e_x2_11
        refine zV_istore_n (ls' := [zR 101, zI y1, zI x2_11, zI y3, zI y4]) dX3_oneTurn_132 rfl (Nat.le_of_ble_eq_true rfl) rfl rfl ?_
        refine zV_aload_n dX3_oneTurn_133 rfl ?_
        refine zV_iload_n dX3_oneTurn_134 rfl ?_
        refine zV_iload_n dX3_oneTurn_135 rfl ?_
        refine zV_cVk (As := [zI y1, zI x2_11]) (rest := []) dX3_oneTurn_136 sa_101 (W_M_stateOf _ _ _ _ hP) mi_X3_stateOf ml_X3_445 (by decide) (Nat.le_of_ble_eq_true rfl) rfl rfl rfl (fun r12 h13 hP => ?_)
        refine zV_istore_n (ls' := [zR 101, zI y1, zI x2_11, zI r12, zI y4]) dX3_oneTurn_139 rfl (Nat.le_of_ble_eq_true rfl) rfl rfl ?_
        refine zV_inc (ls' := fun z => [zR 101, zI y1, zI x2_11, zI r12, zI z]) dX3_oneTurn_140 (Nat.le_of_ble_eq_true rfl) rfl rfl (fun _ => rfl) (fun x4_14 e_x4_14 => ?_)
        have hP := hP x4_14 e_x4_14
        refine zV_goto (tgt := 104) dX3_oneTurn_143 (by decide) ?_
        exact ih _ _ _ _ hP
def P_M_oneTurn_J168 (y1 : Int) (y2 : Int) (h : zH) (Q : Int → zH → Prop) : Prop :=
if y2 = 0 then
(Q 1 h)
else
(P_M_takesStep y1 h (fun r16 h17 =>
if r16 = 0 then
(Q (-1004) h17)
else
((0 ≤ w32 ((w32 (10 * y1)) + 3) ∧ w32 ((w32 (10 * y1)) + 3) < 20) ∧
(0 ≤ w32 ((w32 (10 * y1)) + 3) ∧ w32 ((w32 (10 * y1)) + 3) < 20) ∧
∀ h18 : zH, h18 = zw h17 163 (w32 ((w32 (10 * y1)) + 3)) (w32 ((zd h17 163 (w32 ((w32 (10 * y1)) + 3))) + 1)) →
(0 ≤ y1 ∧ y1 < 2) ∧
(0 ≤ y1 ∧ y1 < 2) ∧
∀ h19 : zH, h19 = zw h18 151 y1 (w32 ((zd h18 151 y1) + 1)) →
(0 ≤ w32 ((w32 (10 * y1)) + 9) ∧ w32 ((w32 (10 * y1)) + 9) < 20) ∧
(0 ≤ y1 ∧ y1 < 2) ∧
(if zd h19 163 (w32 ((w32 (10 * y1)) + 9)) ≤ zd h19 151 y1 then (0 ≤ y1 ∧ y1 < 2) ∧ True else (0 ≤ w32 ((w32 (10 * y1)) + 9) ∧ w32 ((w32 (10 * y1)) + 9) < 20) ∧ True) ∧
(0 ≤ w32 ((w32 (10 * y1)) + 9) ∧ w32 ((w32 (10 * y1)) + 9) < 20) ∧
∀ h20 : zH, h20 = zw h19 163 (w32 ((w32 (10 * y1)) + 9)) (if zd h19 163 (w32 ((w32 (10 * y1)) + 9)) ≤ zd h19 151 y1 then zd h19 151 y1 else zd h19 163 (w32 ((w32 (10 * y1)) + 9))) →
P_M_become y1 y2 (-7) h20 (fun r21 h22 =>
Q 7 h22))))
theorem W_M_oneTurn_J168 (y1 : Int) (y2 : Int) (h : zH) (Q : Int → zH → Prop) (hP : P_M_oneTurn_J168 y1 y2 h Q) : zV true zy_X3_oneTurn 6 168 [zR 101, zI y1, zI y2, zU, zU] [] h (zQ0 Q) := by
  unfold P_M_oneTurn_J168 at hP
  refine zV_iload_n dX3_oneTurn_168 rfl ?_
  refine zV_if_ne (tgt := 174) dX3_oneTurn_169 (by decide) (fun c => ?_) (fun c => ?_)
  · have hP := zif_n hP c
    refine zV_aload_n dX3_oneTurn_174 rfl ?_
    refine zV_iload_n dX3_oneTurn_175 rfl ?_
    refine zV_cVk (As := [zI y1]) (rest := []) dX3_oneTurn_176 sa_101 (W_M_takesStep _ _ _ hP) mi_X3_takesStep ml_X3_496 (by decide) (Nat.le_of_ble_eq_true rfl) rfl rfl rfl (fun r16 h17 hP => ?_)
    refine zV_if_ne (tgt := 186) dX3_oneTurn_179 (by decide) (fun c => ?_) (fun c => ?_)
    · have hP := zif_n hP c
      refine zV_aload_n dX3_oneTurn_186 rfl ?_
      refine zV_sg dX3_oneTurn_187 fm_101_90 sa_101 (by decide) fl_X3_195_3 rfl ?_
      refine zV_bipush dX3_oneTurn_190 ⟨by decide, by decide, by decide⟩ ?_
      refine zV_iload_n dX3_oneTurn_192 rfl ?_
      refine zV_imul dX3_oneTurn_193 ?_
      refine zV_iconst dX3_oneTurn_194 ⟨by decide, by decide⟩ ?_
      refine zV_iadd dX3_oneTurn_195 ?_
      refine zV_dup2 dX3_oneTurn_196 (Nat.ne_of_beq_eq_false rfl) (Nat.ne_of_beq_eq_false rfl) ?_
      obtain ⟨ob, hP⟩ := hP
      refine zV_ia dX3_oneTurn_197 sa_163 ob ?_
      refine zV_iconst dX3_oneTurn_198 ⟨by decide, by decide⟩ ?_
      refine zV_iadd dX3_oneTurn_199 ?_
      obtain ⟨ob, hP⟩ := hP
      refine zV_ias dX3_oneTurn_200 sa_163 ob (fun h18 e_h18 => ?_)
      have hP := hP h18 e_h18
      refine zV_aload_n dX3_oneTurn_201 rfl ?_
      refine zV_sg dX3_oneTurn_202 fm_101_77 sa_101 (by decide) fl_X3_159_3 rfl ?_
      refine zV_iload_n dX3_oneTurn_205 rfl ?_
      refine zV_dup2 dX3_oneTurn_206 (Nat.ne_of_beq_eq_false rfl) (Nat.ne_of_beq_eq_false rfl) ?_
      obtain ⟨ob, hP⟩ := hP
      refine zV_ia dX3_oneTurn_207 sa_151 ob ?_
      refine zV_iconst dX3_oneTurn_208 ⟨by decide, by decide⟩ ?_
      refine zV_iadd dX3_oneTurn_209 ?_
      obtain ⟨ob, hP⟩ := hP
      refine zV_ias dX3_oneTurn_210 sa_151 ob (fun h19 e_h19 => ?_)
      have hP := hP h19 e_h19
      refine zV_aload_n dX3_oneTurn_211 rfl ?_
      refine zV_sg dX3_oneTurn_212 fm_101_90 sa_101 (by decide) fl_X3_195_3 rfl ?_
      refine zV_bipush dX3_oneTurn_215 ⟨by decide, by decide, by decide⟩ ?_
      refine zV_iload_n dX3_oneTurn_217 rfl ?_
      refine zV_imul dX3_oneTurn_218 ?_
      refine zV_bipush dX3_oneTurn_219 ⟨by decide, by decide, by decide⟩ ?_
      refine zV_iadd dX3_oneTurn_221 ?_
      refine zV_aload_n dX3_oneTurn_222 rfl ?_
      refine zV_sg dX3_oneTurn_223 fm_101_90 sa_101 (by decide) fl_X3_195_3 rfl ?_
      refine zV_bipush dX3_oneTurn_226 ⟨by decide, by decide, by decide⟩ ?_
      refine zV_iload_n dX3_oneTurn_228 rfl ?_
      refine zV_imul dX3_oneTurn_229 ?_
      refine zV_bipush dX3_oneTurn_230 ⟨by decide, by decide, by decide⟩ ?_
      refine zV_iadd dX3_oneTurn_232 ?_
      obtain ⟨ob, hP⟩ := hP
      refine zV_ia dX3_oneTurn_233 sa_163 ob ?_
      refine zV_aload_n dX3_oneTurn_234 rfl ?_
      refine zV_sg dX3_oneTurn_235 fm_101_77 sa_101 (by decide) fl_X3_159_3 rfl ?_
      refine zV_iload_n dX3_oneTurn_238 rfl ?_
      obtain ⟨ob, hP⟩ := hP
      refine zV_ia dX3_oneTurn_239 sa_151 ob ?_
      obtain ⟨hO, hP⟩ := hP
      have K : zV true zy_X3_oneTurn 6 264 [zR 101, zI y1, zI y2, zU, zU] [zI (if zd h19 163 (w32 ((w32 (10 * y1)) + 9)) ≤ zd h19 151 y1 then zd h19 151 y1 else zd h19 163 (w32 ((w32 (10 * y1)) + 9))), zI (w32 ((w32 (10 * y1)) + 9)), zR 163] h19 (zQ0 Q) := by
        obtain ⟨ob, hP⟩ := hP
        refine zV_ias dX3_oneTurn_264 sa_163 ob (fun h20 e_h20 => ?_)
        have hP := hP h20 e_h20
        refine zV_aload_n dX3_oneTurn_265 rfl ?_
        refine zV_iload_n dX3_oneTurn_266 rfl ?_
        refine zV_iload_n dX3_oneTurn_267 rfl ?_
        refine zV_bipush dX3_oneTurn_268 ⟨by decide, by decide, by decide⟩ ?_
        refine zV_cVv (As := [zI y1, zI y2, zI (-7)]) (rest := []) dX3_oneTurn_270 sa_101 (W_M_become _ _ _ _ _ hP) mi_X3_become ml_X3_499 (by decide) (Nat.le_of_ble_eq_true rfl) rfl rfl (fun r21 h22 hP => ?_)
        refine zV_bipush dX3_oneTurn_273 ⟨by decide, by decide, by decide⟩ ?_
        exact zV_ireturn dX3_oneTurn_275 rfl rfl rfl ⟨rfl, hP⟩
      clear hP
      refine zV_icmp_le (tgt := 258) dX3_oneTurn_240 (by decide) (fun c => ?_) (fun c => ?_)
      · try simp only [if_pos c] at K
        have hO := zif_p hO c
        refine zV_aload_n dX3_oneTurn_258 rfl ?_
        refine zV_sg dX3_oneTurn_259 fm_101_77 sa_101 (by decide) fl_X3_159_3 rfl ?_
        refine zV_iload_n dX3_oneTurn_262 rfl ?_
        obtain ⟨ob, hO⟩ := hO
        refine zV_ia dX3_oneTurn_263 sa_151 ob ?_
        refine zV_mask [true, true, true, false, false] rfl ?_
        exact K
      · try simp only [if_neg c] at K
        have hO := zif_n hO c
        refine zV_aload_n dX3_oneTurn_243 rfl ?_
        refine zV_sg dX3_oneTurn_244 fm_101_90 sa_101 (by decide) fl_X3_195_3 rfl ?_
        refine zV_bipush dX3_oneTurn_247 ⟨by decide, by decide, by decide⟩ ?_
        refine zV_iload_n dX3_oneTurn_249 rfl ?_
        refine zV_imul dX3_oneTurn_250 ?_
        refine zV_bipush dX3_oneTurn_251 ⟨by decide, by decide, by decide⟩ ?_
        refine zV_iadd dX3_oneTurn_253 ?_
        obtain ⟨ob, hO⟩ := hO
        refine zV_ia dX3_oneTurn_254 sa_163 ob ?_
        refine zV_goto (tgt := 264) dX3_oneTurn_255 (by decide) ?_
        refine zV_mask [true, true, true, false, false] rfl ?_
        exact K
    · have hP := zif_p hP c
      refine zV_sipush dX3_oneTurn_182 ⟨by decide, by decide, by decide⟩ ?_
      exact zV_ireturn dX3_oneTurn_185 rfl rfl rfl ⟨rfl, hP⟩
  · have hP := zif_p hP c
    refine zV_iconst dX3_oneTurn_172 ⟨by decide, by decide⟩ ?_
    exact zV_ireturn dX3_oneTurn_173 rfl rfl rfl ⟨rfl, hP⟩
def P_M_oneTurn_J146 (y1 : Int) (y2 : Int) (y3 : Int) (h : zH) (Q : Int → zH → Prop) : Prop :=
if y3 = 0 then
(P_M_endAsked y1 y2 h (fun r25 h26 =>
Q r25 h26))
else
(if y3 = 1 then
(P_M_heaviest y1 h (fun r23 h24 =>
P_M_oneTurn_J168 y1 r23 h24 Q))
else
(P_M_oneTurn_J168 y1 y2 h Q))
theorem W_M_oneTurn_J146 (y1 : Int) (y2 : Int) (y3 : Int) (h : zH) (Q : Int → zH → Prop) (hP : P_M_oneTurn_J146 y1 y2 y3 h Q) : zV true zy_X3_oneTurn 6 146 [zR 101, zI y1, zI y2, zI y3, zU] [] h (zQ0 Q) := by
  unfold P_M_oneTurn_J146 at hP
  refine zV_iload_n dX3_oneTurn_146 rfl ?_
  refine zV_if_ne (tgt := 157) dX3_oneTurn_147 (by decide) (fun c => ?_) (fun c => ?_)
  · have hP := zif_n hP c
    refine zV_iload_n dX3_oneTurn_157 rfl ?_
    refine zV_iconst dX3_oneTurn_158 ⟨by decide, by decide⟩ ?_
    refine zV_icmp_ne (tgt := 168) dX3_oneTurn_159 (by decide) (fun c => ?_) (fun c => ?_)
    · have hP := zif_n hP c
      refine zV_mask [true, true, true, false, true] (ls' := [zR 101, zI y1, zI y2, zU, zU]) rfl ?_
      exact W_M_oneTurn_J168 _ _ _ _ hP
    · have hP := zif_p hP c
      refine zV_aload_n dX3_oneTurn_162 rfl ?_
      refine zV_iload_n dX3_oneTurn_163 rfl ?_
      refine zV_cVk (As := [zI y1]) (rest := []) dX3_oneTurn_164 sa_101 (W_M_heaviest _ _ _ hP) mi_X3_heaviest ml_X3_511 (by decide) (Nat.le_of_ble_eq_true rfl) rfl rfl rfl (fun r23 h24 hP => ?_)
      refine zV_istore_n (ls' := [zR 101, zI y1, zI r23, zI y3, zU]) dX3_oneTurn_167 rfl (Nat.le_of_ble_eq_true rfl) rfl rfl ?_
      refine zV_mask [true, true, true, false, true] (ls' := [zR 101, zI y1, zI r23, zU, zU]) rfl ?_
      exact W_M_oneTurn_J168 _ _ _ _ hP
  · have hP := zif_p hP c
    refine zV_aload_n dX3_oneTurn_150 rfl ?_
    refine zV_iload_n dX3_oneTurn_151 rfl ?_
    refine zV_iload_n dX3_oneTurn_152 rfl ?_
    refine zV_cVk (As := [zI y1, zI y2]) (rest := []) dX3_oneTurn_153 sa_101 (W_M_endAsked _ _ _ _ hP) mi_X3_endAsked ml_X3_508 (by decide) (Nat.le_of_ble_eq_true rfl) rfl rfl rfl (fun r25 h26 hP => ?_)
    exact zV_ireturn dX3_oneTurn_156 rfl rfl rfl ⟨rfl, hP⟩
def P_M_oneTurn_J67 (y1 : Int) (h : zH) (Q : Int → zH → Prop) : Prop :=
if zd h 101 98 < 0 then
(∃ n104, P_M_oneTurn_L104 y1 Q (fun u2_146 u3_146 h15 =>
P_M_oneTurn_J146 y1 u2_146 u3_146 h15 Q) n104 0 1 0 h)
else
((0 ≤ y1 ∧ y1 < 2) ∧
if zd h 151 y1 = 0 then
(P_M_endLow y1 h (fun r29 h30 =>
Q r29 h30))
else
(P_M_learn y1 h (fun r27 h28 =>
Q r27 h28)))
theorem W_M_oneTurn_J67 (y1 : Int) (h : zH) (Q : Int → zH → Prop) (hP : P_M_oneTurn_J67 y1 h Q) : zV true zy_X3_oneTurn 6 67 [zR 101, zI y1, zU, zU, zU] [] h (zQ0 Q) := by
  unfold P_M_oneTurn_J67 at hP
  refine zV_aload_n dX3_oneTurn_67 rfl ?_
  refine zV_gf dX3_oneTurn_68 sa_101 (by decide) fl_X3_460_3 rfl (ki := 98) rfl ?_
  refine zV_if_lt (tgt := 97) dX3_oneTurn_71 (by decide) (fun c => ?_) (fun c => ?_)
  · have hP := zif_p hP c
    refine zV_iconst dX3_oneTurn_97 ⟨by decide, by decide⟩ ?_
    refine zV_istore_n (ls' := [zR 101, zI y1, zI 0, zU, zU]) dX3_oneTurn_98 rfl (Nat.le_of_ble_eq_true rfl) rfl rfl ?_
    refine zV_iconst dX3_oneTurn_99 ⟨by decide, by decide⟩ ?_
    refine zV_istore_n (ls' := [zR 101, zI y1, zI 0, zI 1, zU]) dX3_oneTurn_100 rfl (Nat.le_of_ble_eq_true rfl) rfl rfl ?_
    refine zV_iconst dX3_oneTurn_101 ⟨by decide, by decide⟩ ?_
    refine zV_istore (ls' := [zR 101, zI y1, zI 0, zI 1, zI 0]) dX3_oneTurn_102 (Nat.le_of_ble_eq_true rfl) rfl rfl ?_
    obtain ⟨n104, hP⟩ := hP
    refine W_M_oneTurn_L104 _ _ _ (fun u2_146 u3_146 h15 hP => ?_) n104 _ _ _ _ hP
    exact W_M_oneTurn_J146 _ _ _ _ _ hP
  · have hP := zif_n hP c
    refine zV_aload_n dX3_oneTurn_74 rfl ?_
    refine zV_sg dX3_oneTurn_75 fm_101_77 sa_101 (by decide) fl_X3_159_3 rfl ?_
    refine zV_iload_n dX3_oneTurn_78 rfl ?_
    obtain ⟨ob, hP⟩ := hP
    refine zV_ia dX3_oneTurn_79 sa_151 ob ?_
    refine zV_if_ne (tgt := 91) dX3_oneTurn_80 (by decide) (fun c => ?_) (fun c => ?_)
    · have hP := zif_n hP c
      refine zV_aload_n dX3_oneTurn_91 rfl ?_
      refine zV_iload_n dX3_oneTurn_92 rfl ?_
      refine zV_cVk (As := [zI y1]) (rest := []) dX3_oneTurn_93 sa_101 (W_M_learn _ _ _ hP) mi_X3_learn ml_X3_505 (by decide) (Nat.le_of_ble_eq_true rfl) rfl rfl rfl (fun r27 h28 hP => ?_)
      exact zV_ireturn dX3_oneTurn_96 rfl rfl rfl ⟨rfl, hP⟩
    · have hP := zif_p hP c
      refine zV_aload_n dX3_oneTurn_83 rfl ?_
      refine zV_iload_n dX3_oneTurn_84 rfl ?_
      refine zV_cVk (As := [zI y1]) (rest := []) dX3_oneTurn_85 sa_101 (W_M_endLow _ _ _ hP) mi_X3_endLow ml_X3_502 (by decide) (Nat.le_of_ble_eq_true rfl) rfl rfl rfl (fun r29 h30 hP => ?_)
      refine zV_goto (tgt := 96) dX3_oneTurn_88 (by decide) ?_
      exact zV_ireturn dX3_oneTurn_96 rfl rfl rfl ⟨rfl, hP⟩
def P_M_oneTurn (a1 : Int) (h : zH) (Q : Int → zH → Prop) : Prop :=
P_M_find a1 h (fun r1 h2 =>
∃ n5, P_M_oneTurn_L5 a1 Q (fun h10 =>
P_M_oneTurn_J67 a1 h10 Q) n5 h2)
theorem W_M_oneTurn (a1 : Int) (h : zH) (Q : Int → zH → Prop) (hP : P_M_oneTurn a1 h Q) : zC true zy_X3_oneTurn 6 [zR 101, zI a1] h (zQ0 Q) := by
  unfold P_M_oneTurn at hP
  refine zC.of (by decide) (Nat.le_of_ble_eq_true rfl) ?_
  show zV true zy_X3_oneTurn 6 0 [zR 101, zI a1, zU, zU, zU] [] h (zQ0 Q)
  refine zV_aload_n dX3_oneTurn_0 rfl ?_
  refine zV_iload_n dX3_oneTurn_1 rfl ?_
  refine zV_cVv (As := [zI a1]) (rest := []) dX3_oneTurn_2 sa_101 (W_M_find _ _ _ hP) mi_X3_find ml_X3_493 (by decide) (Nat.le_of_ble_eq_true rfl) rfl rfl (fun r1 h2 hP => ?_)
  obtain ⟨n5, hP⟩ := hP
  refine W_M_oneTurn_L5 _ _ _ (fun h10 hP => ?_) n5 _ hP
  exact W_M_oneTurn_J67 _ _ _ hP
def P_M_solving_L3 (y1 : Int) (Q : Int → zH → Prop) : Nat → Int → zH → Prop
| 0, _, _ => False
| n3 + 1, y2, h =>
if y2 = 7 then
(P_M_oneTurn y1 h (fun r1 h2 =>
P_M_solving_L3 y1 Q n3 r1 h2))
else
(Q y2 h)
theorem W_M_solving_L3 (y1 : Int) (Q : Int → zH → Prop) : ∀ (n3 : Nat) (y2 : Int) (h : zH), P_M_solving_L3 y1 Q n3 y2 h → zV true zy_X3_solving 7 3 [zR 101, zI y1, zI y2] [] h (zQ0 Q) := by
  intro n3
  induction n3 with
  | zero => intro y2 h hP; exact absurd hP id
  | succ n3 ih =>
    intro y2 h hP
    unfold P_M_solving_L3 at hP
    refine zV_iload_n dX3_solving_3 rfl ?_
    refine zV_bipush dX3_solving_4 ⟨by decide, by decide, by decide⟩ ?_
    refine zV_icmp_ne (tgt := 18) dX3_solving_6 (by decide) (fun c => ?_) (fun c => ?_)
    · have hP := zif_n hP c
      refine zV_iload_n dX3_solving_18 rfl ?_
      exact zV_ireturn dX3_solving_19 rfl rfl rfl ⟨rfl, hP⟩
    · have hP := zif_p hP c
      refine zV_aload_n dX3_solving_9 rfl ?_
      refine zV_iload_n dX3_solving_10 rfl ?_
      refine zV_cVk (As := [zI y1]) (rest := []) dX3_solving_11 sa_101 (W_M_oneTurn _ _ _ hP) mi_X3_oneTurn ml_X3_487 (by decide) (Nat.le_of_ble_eq_true rfl) rfl rfl rfl (fun r1 h2 hP => ?_)
      refine zV_istore_n (ls' := [zR 101, zI y1, zI r1]) dX3_solving_14 rfl (Nat.le_of_ble_eq_true rfl) rfl rfl ?_
      refine zV_goto (tgt := 3) dX3_solving_15 (by decide) ?_
      exact ih _ _ hP
def P_M_solving (a1 : Int) (h : zH) (Q : Int → zH → Prop) : Prop :=
∃ n3, P_M_solving_L3 a1 Q n3 7 h
theorem W_M_solving (a1 : Int) (h : zH) (Q : Int → zH → Prop) (hP : P_M_solving a1 h Q) : zC true zy_X3_solving 7 [zR 101, zI a1] h (zQ0 Q) := by
  unfold P_M_solving at hP
  refine zC.of (by decide) (Nat.le_of_ble_eq_true rfl) ?_
  show zV true zy_X3_solving 7 0 [zR 101, zI a1, zU] [] h (zQ0 Q)
  refine zV_bipush dX3_solving_0 ⟨by decide, by decide, by decide⟩ ?_
  refine zV_istore_n (ls' := [zR 101, zI a1, zI 7]) dX3_solving_2 rfl (Nat.le_of_ble_eq_true rfl) rfl rfl ?_
  obtain ⟨n3, hP⟩ := hP
  refine W_M_solving_L3 _ _ n3 _ _ hP
def P_M_ended_L25 (y1 : Int) (Q : Int → zH → Prop) : Nat → Int → zH → Prop
| 0, _, _ => False
| n25 + 1, y2, h =>
if zd h 137 0 < y2 then
(Q y1 h)
else
(if y1 = 1 then
((0 ≤ y2 ∧ y2 < 602) ∧
(0 ≤ y2 ∧ y2 < 301) ∧
∀ h3 : zH, h3 = zw h 136 y2 (zd h 143 y2) →
∀ x2_4 : Int, x2_4 = w32 (y2 + 1) →
P_M_ended_L25 y1 Q n25 x2_4 h3)
else
(Q y1 h))
theorem W_M_ended_L25 (y1 : Int) (Q : Int → zH → Prop) : ∀ (n25 : Nat) (y2 : Int) (h : zH), P_M_ended_L25 y1 Q n25 y2 h → zV true zy_X3_ended 1 25 [zR 101, zI y1, zI y2] [] h (zQ0 Q) := by
  intro n25
  induction n25 with
  | zero => intro y2 h hP; exact absurd hP id
  | succ n25 ih =>
    intro y2 h hP
    unfold P_M_ended_L25 at hP
    refine zV_iload_n dX3_ended_25 rfl ?_
    refine zV_aload_n dX3_ended_26 rfl ?_
    refine zV_sg dX3_ended_27 fm_101_61 sa_101 (by decide) fl_X3_116_3 rfl ?_
    refine zV_iconst dX3_ended_30 ⟨by decide, by decide⟩ ?_
    refine zV_ia dX3_ended_31 sa_137 (by decide) ?_
    refine zV_icmp_gt (tgt := 58) dX3_ended_32 (by decide) (fun c => ?_) (fun c => ?_)
    · have hP := zif_p hP c
      refine zV_iload_n dX3_ended_58 rfl ?_
      exact zV_ireturn dX3_ended_59 rfl rfl rfl ⟨rfl, hP⟩
    · have hP := zif_n hP c
      refine zV_iload_n dX3_ended_35 rfl ?_
      refine zV_iconst dX3_ended_36 ⟨by decide, by decide⟩ ?_
      refine zV_icmp_ne (tgt := 58) dX3_ended_37 (by decide) (fun c => ?_) (fun c => ?_)
      · have hP := zif_n hP c
        refine zV_iload_n dX3_ended_58 rfl ?_
        exact zV_ireturn dX3_ended_59 rfl rfl rfl ⟨rfl, hP⟩
      · have hP := zif_p hP c
        refine zV_aload_n dX3_ended_40 rfl ?_
        refine zV_sg dX3_ended_41 fm_101_60 sa_101 (by decide) fl_X3_113_3 rfl ?_
        refine zV_iload_n dX3_ended_44 rfl ?_
        refine zV_aload_n dX3_ended_45 rfl ?_
        refine zV_sg dX3_ended_46 fm_101_69 sa_101 (by decide) fl_X3_134_3 rfl ?_
        refine zV_iload_n dX3_ended_49 rfl ?_
        obtain ⟨ob, hP⟩ := hP
        refine zV_ia dX3_ended_50 sa_143 ob ?_
        obtain ⟨ob, hP⟩ := hP
        refine zV_ias dX3_ended_51 sa_136 ob (fun h3 e_h3 => ?_)
        have hP := hP h3 e_h3
        refine zV_inc (ls' := fun z => [zR 101, zI y1, zI z]) dX3_ended_52 (Nat.le_of_ble_eq_true rfl) rfl rfl (fun _ => rfl) (fun x2_4 e_x2_4 => ?_)
        have hP := hP x2_4 e_x2_4
        refine zV_goto (tgt := 25) dX3_ended_55 (by decide) ?_
        exact ih _ _ hP
def P_M_ended_J20 (y1 : Int) (s0 : Int) (h : zH) (Q : Int → zH → Prop) : Prop :=
(s0 = 0 ∨ s0 = 1) ∧
∀ h2 : zH, h2 = zw h 101 57 s0 →
∃ n25, P_M_ended_L25 y1 Q n25 1 h2
theorem W_M_ended_J20 (y1 : Int) (s0 : Int) (h : zH) (Q : Int → zH → Prop) (hP : P_M_ended_J20 y1 s0 h Q) : zV true zy_X3_ended 1 20 [zR 101, zI y1, zU] [zI s0, zR 101] h (zQ0 Q) := by
  unfold P_M_ended_J20 at hP
  obtain ⟨ob, hP⟩ := hP
  refine zV_pf dX3_ended_20 sa_101 (by decide) fl_X3_249_3 rfl rfl ob (ki := 57) rfl (fun h2 e_h2 => ?_)
  have hP := hP h2 e_h2
  refine zV_iconst dX3_ended_23 ⟨by decide, by decide⟩ ?_
  refine zV_istore_n (ls' := [zR 101, zI y1, zI 1]) dX3_ended_24 rfl (Nat.le_of_ble_eq_true rfl) rfl rfl ?_
  obtain ⟨n25, hP⟩ := hP
  refine W_M_ended_L25 _ _ n25 _ _ hP
def P_M_ended (a1 : Int) (h : zH) (Q : Int → zH → Prop) : Prop :=
∀ h1 : zH, h1 = zw h 142 0 a1 →
P_M_ended_J20 a1 (if a1 = (-1004) then 1 else 0) h1 Q
theorem W_M_ended (a1 : Int) (h : zH) (Q : Int → zH → Prop) (hP : P_M_ended a1 h Q) : zC true zy_X3_ended 1 [zR 101, zI a1] h (zQ0 Q) := by
  unfold P_M_ended at hP
  refine zC.of (by decide) (Nat.le_of_ble_eq_true rfl) ?_
  show zV true zy_X3_ended 1 0 [zR 101, zI a1, zU] [] h (zQ0 Q)
  refine zV_aload_n dX3_ended_0 rfl ?_
  refine zV_sg dX3_ended_1 fm_101_68 sa_101 (by decide) fl_X3_131_3 rfl ?_
  refine zV_iconst dX3_ended_4 ⟨by decide, by decide⟩ ?_
  refine zV_iload_n dX3_ended_5 rfl ?_
  refine zV_ias dX3_ended_6 sa_142 (by decide) (fun h1 e_h1 => ?_)
  have hP := hP h1 e_h1
  refine zV_aload_n dX3_ended_7 rfl ?_
  refine zV_iload_n dX3_ended_8 rfl ?_
  refine zV_sipush dX3_ended_9 ⟨by decide, by decide, by decide⟩ ?_
  have K : zV true zy_X3_ended 1 20 [zR 101, zI a1, zU] [zI (if a1 = (-1004) then 1 else 0), zR 101] h1 (zQ0 Q) := by
    exact W_M_ended_J20 _ _ _ _ hP
  clear hP
  refine zV_icmp_ne (tgt := 19) dX3_ended_12 (by decide) (fun c => ?_) (fun c => ?_)
  · try simp only [if_neg c] at K
    refine zV_iconst dX3_ended_19 ⟨by decide, by decide⟩ ?_
    refine zV_mask [true, true, false] rfl ?_
    exact K
  · try simp only [if_pos c] at K
    refine zV_iconst dX3_ended_15 ⟨by decide, by decide⟩ ?_
    refine zV_goto (tgt := 20) dX3_ended_16 (by decide) ?_
    refine zV_mask [true, true, false] rfl ?_
    exact K
def P_M_solve (a1 : Int) (h : zH) (Q : Int → zH → Prop) : Prop :=
P_M_areSteps a1 h (fun r1 h2 =>
if r1 = 0 then
(P_M_fail (-1001) h2 (fun r15 h16 =>
Q r15 h16))
else
(P_M_prepare 0 h2 (fun r3 h4 =>
P_M_askAll 0 h4 (fun r5 h6 =>
∀ h7 : zH, h7 = zw h6 101 58 0 →
∀ h8 : zH, h8 = zw h7 101 59 (zd h7 101 11) →
∀ h9 : zH, h9 = zw h8 101 91 0 →
∀ h10 : zH, h10 = zw h9 101 89 a1 →
P_M_solving 0 h10 (fun r11 h12 =>
P_M_ended r11 h12 (fun r13 h14 =>
Q r13 h14))))))
theorem W_M_solve (a1 : Int) (h : zH) (Q : Int → zH → Prop) (hP : P_M_solve a1 h Q) : zC true zy_X3_solve 8 [zR 101, zI a1] h (zQ0 Q) := by
  unfold P_M_solve at hP
  refine zC.of (by decide) (Nat.le_of_ble_eq_true rfl) ?_
  show zV true zy_X3_solve 8 0 [zR 101, zI a1] [] h (zQ0 Q)
  refine zV_iload_n dX3_solve_0 rfl ?_
  refine zV_cSk (As := [zI a1]) (rest := []) dX3_solve_1 (W_M_areSteps _ _ _ hP) mi_X3_areSteps ml_X3_578 (by decide) (Nat.le_of_ble_eq_true rfl) rfl rfl rfl (fun r1 h2 hP => ?_)
  refine zV_if_ne (tgt := 15) dX3_solve_4 (by decide) (fun c => ?_) (fun c => ?_)
  · have hP := zif_n hP c
    refine zV_aload_n dX3_solve_15 rfl ?_
    refine zV_iconst dX3_solve_16 ⟨by decide, by decide⟩ ?_
    refine zV_cVv (As := [zI 0]) (rest := []) dX3_solve_17 sa_101 (W_M_prepare _ _ _ hP) mi_X3_prepare ml_X3_581 (by decide) (Nat.le_of_ble_eq_true rfl) rfl rfl (fun r3 h4 hP => ?_)
    refine zV_aload_n dX3_solve_20 rfl ?_
    refine zV_iconst dX3_solve_21 ⟨by decide, by decide⟩ ?_
    refine zV_cVv (As := [zI 0]) (rest := []) dX3_solve_22 sa_101 (W_M_askAll _ _ _ hP) mi_X3_askAll ml_X3_584 (by decide) (Nat.le_of_ble_eq_true rfl) rfl rfl (fun r5 h6 hP => ?_)
    refine zV_aload_n dX3_solve_25 rfl ?_
    refine zV_iconst dX3_solve_26 ⟨by decide, by decide⟩ ?_
    refine zV_pf dX3_solve_27 sa_101 (by decide) fl_X3_470_3 rfl rfl z0 (ki := 58) rfl (fun h7 e_h7 => ?_)
    have hP := hP h7 e_h7
    refine zV_aload_n dX3_solve_30 rfl ?_
    refine zV_aload_n dX3_solve_31 rfl ?_
    refine zV_gf dX3_solve_32 sa_101 (by decide) fl_X3_264_3 rfl (ki := 11) rfl ?_
    refine zV_pf dX3_solve_35 sa_101 (by decide) fl_X3_400_3 rfl rfl trivial (ki := 59) rfl (fun h8 e_h8 => ?_)
    have hP := hP h8 e_h8
    refine zV_aload_n dX3_solve_38 rfl ?_
    refine zV_iconst dX3_solve_39 ⟨by decide, by decide⟩ ?_
    refine zV_pf dX3_solve_40 sa_101 (by decide) fl_X3_533_3 rfl rfl z0 (ki := 91) rfl (fun h9 e_h9 => ?_)
    have hP := hP h9 e_h9
    refine zV_aload_n dX3_solve_43 rfl ?_
    refine zV_iload_n dX3_solve_44 rfl ?_
    refine zV_pf dX3_solve_45 sa_101 (by decide) fl_X3_490_3 rfl rfl trivial (ki := 89) rfl (fun h10 e_h10 => ?_)
    have hP := hP h10 e_h10
    refine zV_aload_n dX3_solve_48 rfl ?_
    refine zV_aload_n dX3_solve_49 rfl ?_
    refine zV_iconst dX3_solve_50 ⟨by decide, by decide⟩ ?_
    refine zV_cVk (As := [zI 0]) (rest := [zR 101]) dX3_solve_51 sa_101 (W_M_solving _ _ _ hP) mi_X3_solving ml_X3_587 (by decide) (Nat.le_of_ble_eq_true rfl) rfl rfl rfl (fun r11 h12 hP => ?_)
    refine zV_cVk (As := [zI r11]) (rest := []) dX3_solve_54 sa_101 (W_M_ended _ _ _ hP) mi_X3_ended ml_X3_590 (by decide) (Nat.le_of_ble_eq_true rfl) rfl rfl rfl (fun r13 h14 hP => ?_)
    exact zV_ireturn dX3_solve_57 rfl rfl rfl ⟨rfl, hP⟩
  · have hP := zif_p hP c
    refine zV_aload_n dX3_solve_7 rfl ?_
    refine zV_sipush dX3_solve_8 ⟨by decide, by decide, by decide⟩ ?_
    refine zV_cVk (As := [zI (-1001)]) (rest := []) dX3_solve_11 sa_101 (W_M_fail _ _ _ hP) mi_X3_fail ml_X3_242 (by decide) (Nat.le_of_ble_eq_true rfl) rfl rfl rfl (fun r15 h16 hP => ?_)
    exact zV_ireturn dX3_solve_14 rfl rfl rfl ⟨rfl, hP⟩
def P_M_goOn (a1 : Int) (h : zH) (Q : Int → zH → Prop) : Prop :=
P_M_areSteps a1 h (fun r1 h2 =>
if r1 = 0 then
(P_M_fail (-1001) h2 (fun r10 h11 =>
Q r10 h11))
else
(if zd h2 101 57 = 0 then
(P_M_fail (-1002) h2 (fun r8 h9 =>
Q r8 h9))
else
(∀ h3 : zH, h3 = zw h2 101 89 a1 →
P_M_solving 0 h3 (fun r4 h5 =>
P_M_ended r4 h5 (fun r6 h7 =>
Q r6 h7)))))
theorem W_M_goOn (a1 : Int) (h : zH) (Q : Int → zH → Prop) (hP : P_M_goOn a1 h Q) : zC true zy_X3_goOn 8 [zR 101, zI a1] h (zQ0 Q) := by
  unfold P_M_goOn at hP
  refine zC.of (by decide) (Nat.le_of_ble_eq_true rfl) ?_
  show zV true zy_X3_goOn 8 0 [zR 101, zI a1] [] h (zQ0 Q)
  refine zV_iload_n dX3_goOn_0 rfl ?_
  refine zV_cSk (As := [zI a1]) (rest := []) dX3_goOn_1 (W_M_areSteps _ _ _ hP) mi_X3_areSteps ml_X3_578 (by decide) (Nat.le_of_ble_eq_true rfl) rfl rfl rfl (fun r1 h2 hP => ?_)
  refine zV_if_ne (tgt := 15) dX3_goOn_4 (by decide) (fun c => ?_) (fun c => ?_)
  · have hP := zif_n hP c
    refine zV_aload_n dX3_goOn_15 rfl ?_
    refine zV_gf dX3_goOn_16 sa_101 (by decide) fl_X3_249_3 rfl (ki := 57) rfl ?_
    refine zV_if_ne (tgt := 30) dX3_goOn_19 (by decide) (fun c => ?_) (fun c => ?_)
    · have hP := zif_n hP c
      refine zV_aload_n dX3_goOn_30 rfl ?_
      refine zV_iload_n dX3_goOn_31 rfl ?_
      refine zV_pf dX3_goOn_32 sa_101 (by decide) fl_X3_490_3 rfl rfl trivial (ki := 89) rfl (fun h3 e_h3 => ?_)
      have hP := hP h3 e_h3
      refine zV_aload_n dX3_goOn_35 rfl ?_
      refine zV_aload_n dX3_goOn_36 rfl ?_
      refine zV_iconst dX3_goOn_37 ⟨by decide, by decide⟩ ?_
      refine zV_cVk (As := [zI 0]) (rest := [zR 101]) dX3_goOn_38 sa_101 (W_M_solving _ _ _ hP) mi_X3_solving ml_X3_587 (by decide) (Nat.le_of_ble_eq_true rfl) rfl rfl rfl (fun r4 h5 hP => ?_)
      refine zV_cVk (As := [zI r4]) (rest := []) dX3_goOn_41 sa_101 (W_M_ended _ _ _ hP) mi_X3_ended ml_X3_590 (by decide) (Nat.le_of_ble_eq_true rfl) rfl rfl rfl (fun r6 h7 hP => ?_)
      exact zV_ireturn dX3_goOn_44 rfl rfl rfl ⟨rfl, hP⟩
    · have hP := zif_p hP c
      refine zV_aload_n dX3_goOn_22 rfl ?_
      refine zV_sipush dX3_goOn_23 ⟨by decide, by decide, by decide⟩ ?_
      refine zV_cVk (As := [zI (-1002)]) (rest := []) dX3_goOn_26 sa_101 (W_M_fail _ _ _ hP) mi_X3_fail ml_X3_242 (by decide) (Nat.le_of_ble_eq_true rfl) rfl rfl rfl (fun r8 h9 hP => ?_)
      exact zV_ireturn dX3_goOn_29 rfl rfl rfl ⟨rfl, hP⟩
  · have hP := zif_p hP c
    refine zV_aload_n dX3_goOn_7 rfl ?_
    refine zV_sipush dX3_goOn_8 ⟨by decide, by decide, by decide⟩ ?_
    refine zV_cVk (As := [zI (-1001)]) (rest := []) dX3_goOn_11 sa_101 (W_M_fail _ _ _ hP) mi_X3_fail ml_X3_242 (by decide) (Nat.le_of_ble_eq_true rfl) rfl rfl rfl (fun r10 h11 hP => ?_)
    exact zV_ireturn dX3_goOn_14 rfl rfl rfl ⟨rfl, hP⟩
def P_M_truth (a1 : Int) (h : zH) (Q : Int → zH → Prop) : Prop :=
P_M_isName a1 h (fun r1 h2 =>
if r1 = 0 then
(P_M_fail (-1001) h2 (fun r5 h6 =>
Q r5 h6))
else
(if zd h2 142 0 = 1 then
((if zd h2 137 0 < a1 then True else (0 ≤ a1 ∧ a1 < 301) ∧ True) ∧
Q (if zd h2 137 0 < a1 then (-1005) else zd h2 136 a1) h2)
else
(P_M_fail (-1002) h2 (fun r3 h4 =>
Q r3 h4))))
theorem W_M_truth (a1 : Int) (h : zH) (Q : Int → zH → Prop) (hP : P_M_truth a1 h Q) : zC true zy_X3_truth 3 [zR 101, zI a1] h (zQ0 Q) := by
  unfold P_M_truth at hP
  refine zC.of (by decide) (Nat.le_of_ble_eq_true rfl) ?_
  show zV true zy_X3_truth 3 0 [zR 101, zI a1] [] h (zQ0 Q)
  refine zV_aload_n dX3_truth_0 rfl ?_
  refine zV_iload_n dX3_truth_1 rfl ?_
  refine zV_cVk (As := [zI a1]) (rest := []) dX3_truth_2 sa_101 (W_M_isName _ _ _ hP) mi_X3_isName ml_X3_433 (by decide) (Nat.le_of_ble_eq_true rfl) rfl rfl rfl (fun r1 h2 hP => ?_)
  refine zV_if_ne (tgt := 16) dX3_truth_5 (by decide) (fun c => ?_) (fun c => ?_)
  · have hP := zif_n hP c
    refine zV_aload_n dX3_truth_16 rfl ?_
    refine zV_sg dX3_truth_17 fm_101_68 sa_101 (by decide) fl_X3_131_3 rfl ?_
    refine zV_iconst dX3_truth_20 ⟨by decide, by decide⟩ ?_
    refine zV_ia dX3_truth_21 sa_142 (by decide) ?_
    refine zV_iconst dX3_truth_22 ⟨by decide, by decide⟩ ?_
    refine zV_icmp_eq (tgt := 34) dX3_truth_23 (by decide) (fun c => ?_) (fun c => ?_)
    · have hP := zif_p hP c
      refine zV_iload_n dX3_truth_34 rfl ?_
      refine zV_aload_n dX3_truth_35 rfl ?_
      refine zV_sg dX3_truth_36 fm_101_61 sa_101 (by decide) fl_X3_116_3 rfl ?_
      refine zV_iconst dX3_truth_39 ⟨by decide, by decide⟩ ?_
      refine zV_ia dX3_truth_40 sa_137 (by decide) ?_
      obtain ⟨hO, hP⟩ := hP
      have K : zV true zy_X3_truth 3 56 [zU, zU] [zI (if zd h2 137 0 < a1 then (-1005) else zd h2 136 a1)] h2 (zQ0 Q) := by
        exact zV_ireturn dX3_truth_56 rfl rfl rfl ⟨rfl, hP⟩
      clear hP
      refine zV_icmp_gt (tgt := 53) dX3_truth_41 (by decide) (fun c => ?_) (fun c => ?_)
      · try simp only [if_pos c] at K
        have hO := zif_p hO c
        refine zV_sipush dX3_truth_53 ⟨by decide, by decide, by decide⟩ ?_
        refine zV_mask [false, false] rfl ?_
        exact K
      · try simp only [if_neg c] at K
        have hO := zif_n hO c
        refine zV_aload_n dX3_truth_44 rfl ?_
        refine zV_sg dX3_truth_45 fm_101_60 sa_101 (by decide) fl_X3_113_3 rfl ?_
        refine zV_iload_n dX3_truth_48 rfl ?_
        obtain ⟨ob, hO⟩ := hO
        refine zV_ia dX3_truth_49 sa_136 ob ?_
        refine zV_goto (tgt := 56) dX3_truth_50 (by decide) ?_
        refine zV_mask [false, false] rfl ?_
        exact K
    · have hP := zif_n hP c
      refine zV_aload_n dX3_truth_26 rfl ?_
      refine zV_sipush dX3_truth_27 ⟨by decide, by decide, by decide⟩ ?_
      refine zV_cVk (As := [zI (-1002)]) (rest := []) dX3_truth_30 sa_101 (W_M_fail _ _ _ hP) mi_X3_fail ml_X3_242 (by decide) (Nat.le_of_ble_eq_true rfl) rfl rfl rfl (fun r3 h4 hP => ?_)
      exact zV_ireturn dX3_truth_33 rfl rfl rfl ⟨rfl, hP⟩
  · have hP := zif_p hP c
    refine zV_aload_n dX3_truth_8 rfl ?_
    refine zV_sipush dX3_truth_9 ⟨by decide, by decide, by decide⟩ ?_
    refine zV_cVk (As := [zI (-1001)]) (rest := []) dX3_truth_12 sa_101 (W_M_fail _ _ _ hP) mi_X3_fail ml_X3_242 (by decide) (Nat.le_of_ble_eq_true rfl) rfl rfl rfl (fun r5 h6 hP => ?_)
    exact zV_ireturn dX3_truth_15 rfl rfl rfl ⟨rfl, hP⟩
def P_M_solved (a1 : Int) (h : zH) (Q : Int → zH → Prop) : Prop :=
P_M_in a1 0 9 h (fun r1 h2 =>
if r1 = 0 then
(P_M_fail (-1001) h2 (fun r5 h6 =>
Q r5 h6))
else
(if a1 = 0 then
(Q (zd h2 142 0) h2)
else
(if a1 = 7 then
(P_M_thereOf 0 h2 (fun r3 h4 =>
Q r3 h4))
else
((if a1 = 8 then True else (0 ≤ a1 ∧ a1 < 20) ∧ True) ∧
Q (if a1 = 8 then zd h2 154 0 else zd h2 163 a1) h2))))
theorem W_M_solved (a1 : Int) (h : zH) (Q : Int → zH → Prop) (hP : P_M_solved a1 h Q) : zC true zy_X3_solved 2 [zR 101, zI a1] h (zQ0 Q) := by
  unfold P_M_solved at hP
  refine zC.of (by decide) (Nat.le_of_ble_eq_true rfl) ?_
  show zV true zy_X3_solved 2 0 [zR 101, zI a1] [] h (zQ0 Q)
  refine zV_iload_n dX3_solved_0 rfl ?_
  refine zV_iconst dX3_solved_1 ⟨by decide, by decide⟩ ?_
  refine zV_bipush dX3_solved_2 ⟨by decide, by decide, by decide⟩ ?_
  refine zV_cSk (As := [zI a1, zI 0, zI 9]) (rest := []) dX3_solved_4 (W_M_in _ _ _ _ _ hP) mi_X3_in ml_X3_238 (by decide) (Nat.le_of_ble_eq_true rfl) rfl rfl rfl (fun r1 h2 hP => ?_)
  refine zV_if_ne (tgt := 18) dX3_solved_7 (by decide) (fun c => ?_) (fun c => ?_)
  · have hP := zif_n hP c
    refine zV_iload_n dX3_solved_18 rfl ?_
    refine zV_if_ne (tgt := 31) dX3_solved_19 (by decide) (fun c => ?_) (fun c => ?_)
    · have hP := zif_n hP c
      refine zV_iload_n dX3_solved_31 rfl ?_
      refine zV_bipush dX3_solved_32 ⟨by decide, by decide, by decide⟩ ?_
      refine zV_icmp_ne (tgt := 45) dX3_solved_34 (by decide) (fun c => ?_) (fun c => ?_)
      · have hP := zif_n hP c
        refine zV_iload_n dX3_solved_45 rfl ?_
        refine zV_bipush dX3_solved_46 ⟨by decide, by decide, by decide⟩ ?_
        obtain ⟨hO, hP⟩ := hP
        have K : zV true zy_X3_solved 2 66 [zU, zU] [zI (if a1 = 8 then zd h2 154 0 else zd h2 163 a1)] h2 (zQ0 Q) := by
          exact zV_ireturn dX3_solved_66 rfl rfl rfl ⟨rfl, hP⟩
        clear hP
        refine zV_icmp_ne (tgt := 60) dX3_solved_48 (by decide) (fun c => ?_) (fun c => ?_)
        · try simp only [if_neg c] at K
          have hO := zif_n hO c
          refine zV_aload_n dX3_solved_60 rfl ?_
          refine zV_sg dX3_solved_61 fm_101_90 sa_101 (by decide) fl_X3_195_3 rfl ?_
          refine zV_iload_n dX3_solved_64 rfl ?_
          obtain ⟨ob, hO⟩ := hO
          refine zV_ia dX3_solved_65 sa_163 ob ?_
          refine zV_mask [false, false] rfl ?_
          exact K
        · try simp only [if_pos c] at K
          have hO := zif_p hO c
          refine zV_aload_n dX3_solved_51 rfl ?_
          refine zV_sg dX3_solved_52 fm_101_80 sa_101 (by decide) fl_X3_168_3 rfl ?_
          refine zV_iconst dX3_solved_55 ⟨by decide, by decide⟩ ?_
          refine zV_ia dX3_solved_56 sa_154 (by decide) ?_
          refine zV_goto (tgt := 66) dX3_solved_57 (by decide) ?_
          refine zV_mask [false, false] rfl ?_
          exact K
      · have hP := zif_p hP c
        refine zV_aload_n dX3_solved_37 rfl ?_
        refine zV_iconst dX3_solved_38 ⟨by decide, by decide⟩ ?_
        refine zV_cVk (As := [zI 0]) (rest := []) dX3_solved_39 sa_101 (W_M_thereOf _ _ _ hP) mi_X3_thereOf ml_X3_572 (by decide) (Nat.le_of_ble_eq_true rfl) rfl rfl rfl (fun r3 h4 hP => ?_)
        refine zV_goto (tgt := 66) dX3_solved_42 (by decide) ?_
        exact zV_ireturn dX3_solved_66 rfl rfl rfl ⟨rfl, hP⟩
    · have hP := zif_p hP c
      refine zV_aload_n dX3_solved_22 rfl ?_
      refine zV_sg dX3_solved_23 fm_101_68 sa_101 (by decide) fl_X3_131_3 rfl ?_
      refine zV_iconst dX3_solved_26 ⟨by decide, by decide⟩ ?_
      refine zV_ia dX3_solved_27 sa_142 (by decide) ?_
      refine zV_goto (tgt := 66) dX3_solved_28 (by decide) ?_
      exact zV_ireturn dX3_solved_66 rfl rfl rfl ⟨rfl, hP⟩
  · have hP := zif_p hP c
    refine zV_aload_n dX3_solved_10 rfl ?_
    refine zV_sipush dX3_solved_11 ⟨by decide, by decide, by decide⟩ ?_
    refine zV_cVk (As := [zI (-1001)]) (rest := []) dX3_solved_14 sa_101 (W_M_fail _ _ _ hP) mi_X3_fail ml_X3_242 (by decide) (Nat.le_of_ble_eq_true rfl) rfl rfl rfl (fun r5 h6 hP => ?_)
    exact zV_ireturn dX3_solved_17 rfl rfl rfl ⟨rfl, hP⟩
def P_M_quarrel (a1 : Int) (h : zH) (Q : Int → zH → Prop) : Prop :=
P_M_in a1 0 4 h (fun r1 h2 =>
if r1 = 0 then
(P_M_fail (-1001) h2 (fun r3 h4 =>
Q r3 h4))
else
((if zd h2 101 91 = 0 then True else (0 ≤ a1 ∧ a1 < 5) ∧ True) ∧
Q (if zd h2 101 91 = 0 then (-1005) else zd h2 164 a1) h2))
theorem W_M_quarrel (a1 : Int) (h : zH) (Q : Int → zH → Prop) (hP : P_M_quarrel a1 h Q) : zC true zy_X3_quarrel 2 [zR 101, zI a1] h (zQ0 Q) := by
  unfold P_M_quarrel at hP
  refine zC.of (by decide) (Nat.le_of_ble_eq_true rfl) ?_
  show zV true zy_X3_quarrel 2 0 [zR 101, zI a1] [] h (zQ0 Q)
  refine zV_iload_n dX3_quarrel_0 rfl ?_
  refine zV_iconst dX3_quarrel_1 ⟨by decide, by decide⟩ ?_
  refine zV_iconst dX3_quarrel_2 ⟨by decide, by decide⟩ ?_
  refine zV_cSk (As := [zI a1, zI 0, zI 4]) (rest := []) dX3_quarrel_3 (W_M_in _ _ _ _ _ hP) mi_X3_in ml_X3_238 (by decide) (Nat.le_of_ble_eq_true rfl) rfl rfl rfl (fun r1 h2 hP => ?_)
  refine zV_if_ne (tgt := 17) dX3_quarrel_6 (by decide) (fun c => ?_) (fun c => ?_)
  · have hP := zif_n hP c
    refine zV_aload_n dX3_quarrel_17 rfl ?_
    refine zV_gf dX3_quarrel_18 sa_101 (by decide) fl_X3_533_3 rfl (ki := 91) rfl ?_
    obtain ⟨hO, hP⟩ := hP
    have K : zV true zy_X3_quarrel 2 36 [zU, zU] [zI (if zd h2 101 91 = 0 then (-1005) else zd h2 164 a1)] h2 (zQ0 Q) := by
      exact zV_ireturn dX3_quarrel_36 rfl rfl rfl ⟨rfl, hP⟩
    clear hP
    refine zV_if_eq (tgt := 33) dX3_quarrel_21 (by decide) (fun c => ?_) (fun c => ?_)
    · try simp only [if_pos c] at K
      have hO := zif_p hO c
      refine zV_sipush dX3_quarrel_33 ⟨by decide, by decide, by decide⟩ ?_
      refine zV_mask [false, false] rfl ?_
      exact K
    · try simp only [if_neg c] at K
      have hO := zif_n hO c
      refine zV_aload_n dX3_quarrel_24 rfl ?_
      refine zV_sg dX3_quarrel_25 fm_101_92 sa_101 (by decide) fl_X3_198_3 rfl ?_
      refine zV_iload_n dX3_quarrel_28 rfl ?_
      obtain ⟨ob, hO⟩ := hO
      refine zV_ia dX3_quarrel_29 sa_164 ob ?_
      refine zV_goto (tgt := 36) dX3_quarrel_30 (by decide) ?_
      refine zV_mask [false, false] rfl ?_
      exact K
  · have hP := zif_p hP c
    refine zV_aload_n dX3_quarrel_9 rfl ?_
    refine zV_sipush dX3_quarrel_10 ⟨by decide, by decide, by decide⟩ ?_
    refine zV_cVk (As := [zI (-1001)]) (rest := []) dX3_quarrel_13 sa_101 (W_M_fail _ _ _ hP) mi_X3_fail ml_X3_242 (by decide) (Nat.le_of_ble_eq_true rfl) rfl rfl rfl (fun r3 h4 hP => ?_)
    exact zV_ireturn dX3_quarrel_16 rfl rfl rfl ⟨rfl, hP⟩
def P_M_hasCore (h : zH) (Q : Int → zH → Prop) : Prop :=
Q (if zd h 142 0 = 0 then if zd h 101 58 = 0 then 1 else 0 else 0) h
theorem W_M_hasCore (h : zH) (Q : Int → zH → Prop) (hP : P_M_hasCore  h Q) : zC true zy_X3_hasCore 1 [zR 101] h (zQ0 Q) := by
  unfold P_M_hasCore at hP
  refine zC.of (by decide) (Nat.le_of_ble_eq_true rfl) ?_
  show zV true zy_X3_hasCore 1 0 [zR 101] [] h (zQ0 Q)
  refine zV_aload_n dX3_hasCore_0 rfl ?_
  refine zV_sg dX3_hasCore_1 fm_101_68 sa_101 (by decide) fl_X3_131_3 rfl ?_
  refine zV_iconst dX3_hasCore_4 ⟨by decide, by decide⟩ ?_
  refine zV_ia dX3_hasCore_5 sa_142 (by decide) ?_
  have K : zV true zy_X3_hasCore 1 21 [zU] [zI (if zd h 142 0 = 0 then if zd h 101 58 = 0 then 1 else 0 else 0)] h (zQ0 Q) := by
    exact zV_ireturn dX3_hasCore_21 rfl rfl (z01 (z01_if (z01_if z1 z0) z0)) ⟨rfl, hP⟩
  clear hP
  refine zV_if_ne (tgt := 20) dX3_hasCore_6 (by decide) (fun c => ?_) (fun c => ?_)
  · try simp only [if_neg c] at K
    refine zV_iconst dX3_hasCore_20 ⟨by decide, by decide⟩ ?_
    refine zV_mask [false] rfl ?_
    exact K
  · try simp only [if_pos c] at K
    refine zV_aload_n dX3_hasCore_9 rfl ?_
    refine zV_gf dX3_hasCore_10 sa_101 (by decide) fl_X3_470_3 rfl (ki := 58) rfl ?_
    refine zV_if_ne (tgt := 20) dX3_hasCore_13 (by decide) (fun c => ?_) (fun c => ?_)
    · try simp only [if_neg c] at K
      refine zV_iconst dX3_hasCore_20 ⟨by decide, by decide⟩ ?_
      refine zV_mask [false] rfl ?_
      exact K
    · try simp only [if_pos c] at K
      refine zV_iconst dX3_hasCore_16 ⟨by decide, by decide⟩ ?_
      refine zV_goto (tgt := 21) dX3_hasCore_17 (by decide) ?_
      refine zV_mask [false] rfl ?_
      exact K
def P_M_core (a1 : Int) (h : zH) (Q : Int → zH → Prop) : Prop :=
P_M_in a1 0 1 h (fun r1 h2 =>
if r1 = 0 then
(P_M_fail (-1001) h2 (fun r7 h8 =>
Q r7 h8))
else
(P_M_hasCore h2 (fun r3 h4 =>
if r3 = 0 then
(P_M_fail (-1002) h4 (fun r5 h6 =>
Q r5 h6))
else
(Q (if a1 = 0 then zd h4 101 94 else zd h4 101 96) h4))))
theorem W_M_core (a1 : Int) (h : zH) (Q : Int → zH → Prop) (hP : P_M_core a1 h Q) : zC true zy_X3_core 2 [zR 101, zI a1] h (zQ0 Q) := by
  unfold P_M_core at hP
  refine zC.of (by decide) (Nat.le_of_ble_eq_true rfl) ?_
  show zV true zy_X3_core 2 0 [zR 101, zI a1] [] h (zQ0 Q)
  refine zV_iload_n dX3_core_0 rfl ?_
  refine zV_iconst dX3_core_1 ⟨by decide, by decide⟩ ?_
  refine zV_iconst dX3_core_2 ⟨by decide, by decide⟩ ?_
  refine zV_cSk (As := [zI a1, zI 0, zI 1]) (rest := []) dX3_core_3 (W_M_in _ _ _ _ _ hP) mi_X3_in ml_X3_238 (by decide) (Nat.le_of_ble_eq_true rfl) rfl rfl rfl (fun r1 h2 hP => ?_)
  refine zV_if_ne (tgt := 17) dX3_core_6 (by decide) (fun c => ?_) (fun c => ?_)
  · have hP := zif_n hP c
    refine zV_aload_n dX3_core_17 rfl ?_
    refine zV_cVk (As := []) (rest := []) dX3_core_18 sa_101 (W_M_hasCore _ _ hP) mi_X3_hasCore ml_X3_593 (by decide) (Nat.le_of_ble_eq_true rfl) rfl rfl rfl (fun r3 h4 hP => ?_)
    refine zV_if_ne (tgt := 32) dX3_core_21 (by decide) (fun c => ?_) (fun c => ?_)
    · have hP := zif_n hP c
      refine zV_iload_n dX3_core_32 rfl ?_
      have K : zV true zy_X3_core 2 47 [zU, zU] [zI (if a1 = 0 then zd h4 101 94 else zd h4 101 96)] h4 (zQ0 Q) := by
        exact zV_ireturn dX3_core_47 rfl rfl rfl ⟨rfl, hP⟩
      clear hP
      refine zV_if_ne (tgt := 43) dX3_core_33 (by decide) (fun c => ?_) (fun c => ?_)
      · try simp only [if_neg c] at K
        refine zV_aload_n dX3_core_43 rfl ?_
        refine zV_gf dX3_core_44 sa_101 (by decide) fl_X3_526_3 rfl (ki := 96) rfl ?_
        refine zV_mask [false, false] rfl ?_
        exact K
      · try simp only [if_pos c] at K
        refine zV_aload_n dX3_core_36 rfl ?_
        refine zV_gf dX3_core_37 sa_101 (by decide) fl_X3_514_3 rfl (ki := 94) rfl ?_
        refine zV_goto (tgt := 47) dX3_core_40 (by decide) ?_
        refine zV_mask [false, false] rfl ?_
        exact K
    · have hP := zif_p hP c
      refine zV_aload_n dX3_core_24 rfl ?_
      refine zV_sipush dX3_core_25 ⟨by decide, by decide, by decide⟩ ?_
      refine zV_cVk (As := [zI (-1002)]) (rest := []) dX3_core_28 sa_101 (W_M_fail _ _ _ hP) mi_X3_fail ml_X3_242 (by decide) (Nat.le_of_ble_eq_true rfl) rfl rfl rfl (fun r5 h6 hP => ?_)
      exact zV_ireturn dX3_core_31 rfl rfl rfl ⟨rfl, hP⟩
  · have hP := zif_p hP c
    refine zV_aload_n dX3_core_9 rfl ?_
    refine zV_sipush dX3_core_10 ⟨by decide, by decide, by decide⟩ ?_
    refine zV_cVk (As := [zI (-1001)]) (rest := []) dX3_core_13 sa_101 (W_M_fail _ _ _ hP) mi_X3_fail ml_X3_242 (by decide) (Nat.le_of_ble_eq_true rfl) rfl rfl rfl (fun r7 h8 hP => ?_)
    exact zV_ireturn dX3_core_16 rfl rfl rfl ⟨rfl, hP⟩
def P_M_coreAt (a1 : Int) (a2 : Int) (h : zH) (Q : Int → zH → Prop) : Prop :=
P_M_core a1 h (fun r1 h2 =>
if 0 ≤ r1 then
(P_M_in a2 0 (w32 (r1 - 1)) h2 (fun r3 h4 =>
(if r3 = 0 then True else (if a1 = 0 then (0 ≤ a2 ∧ a2 < 500) ∧ True else (0 ≤ a2 ∧ a2 < 20) ∧ True)) ∧
Q (if r3 = 0 then (-1005) else if a1 = 0 then zd h4 165 a2 else zd h4 166 a2) h4))
else
(Q r1 h2))
theorem W_M_coreAt (a1 : Int) (a2 : Int) (h : zH) (Q : Int → zH → Prop) (hP : P_M_coreAt a1 a2 h Q) : zC true zy_X3_coreAt 3 [zR 101, zI a1, zI a2] h (zQ0 Q) := by
  unfold P_M_coreAt at hP
  refine zC.of (by decide) (Nat.le_of_ble_eq_true rfl) ?_
  show zV true zy_X3_coreAt 3 0 [zR 101, zI a1, zI a2, zU] [] h (zQ0 Q)
  refine zV_aload_n dX3_coreAt_0 rfl ?_
  refine zV_iload_n dX3_coreAt_1 rfl ?_
  refine zV_cVk (As := [zI a1]) (rest := []) dX3_coreAt_2 sa_101 (W_M_core _ _ _ hP) mi_X3_core ml_X3_596 (by decide) (Nat.le_of_ble_eq_true rfl) rfl rfl rfl (fun r1 h2 hP => ?_)
  refine zV_istore_n (ls' := [zR 101, zI a1, zI a2, zI r1]) dX3_coreAt_5 rfl (Nat.le_of_ble_eq_true rfl) rfl rfl ?_
  refine zV_iload_n dX3_coreAt_6 rfl ?_
  refine zV_if_ge (tgt := 12) dX3_coreAt_7 (by decide) (fun c => ?_) (fun c => ?_)
  · have hP := zif_p hP c
    refine zV_iload_n dX3_coreAt_12 rfl ?_
    refine zV_iconst dX3_coreAt_13 ⟨by decide, by decide⟩ ?_
    refine zV_iload_n dX3_coreAt_14 rfl ?_
    refine zV_iconst dX3_coreAt_15 ⟨by decide, by decide⟩ ?_
    refine zV_isub dX3_coreAt_16 ?_
    refine zV_cSk (As := [zI a2, zI 0, zI (w32 (r1 - 1))]) (rest := []) dX3_coreAt_17 (W_M_in _ _ _ _ _ hP) mi_X3_in ml_X3_238 (by decide) (Nat.le_of_ble_eq_true rfl) rfl rfl rfl (fun r3 h4 hP => ?_)
    obtain ⟨hO, hP⟩ := hP
    have K : zV true zy_X3_coreAt 3 48 [zU, zU, zU, zU] [zI (if r3 = 0 then (-1005) else if a1 = 0 then zd h4 165 a2 else zd h4 166 a2)] h4 (zQ0 Q) := by
      exact zV_ireturn dX3_coreAt_48 rfl rfl rfl ⟨rfl, hP⟩
    clear hP
    refine zV_if_ne (tgt := 29) dX3_coreAt_20 (by decide) (fun c => ?_) (fun c => ?_)
    · try simp only [if_neg c] at K
      have hO := zif_n hO c
      refine zV_iload_n dX3_coreAt_29 rfl ?_
      refine zV_if_ne (tgt := 42) dX3_coreAt_30 (by decide) (fun c => ?_) (fun c => ?_)
      · try simp only [if_neg c] at K
        have hO := zif_n hO c
        refine zV_aload_n dX3_coreAt_42 rfl ?_
        refine zV_sg dX3_coreAt_43 fm_101_95 sa_101 (by decide) fl_X3_204_3 rfl ?_
        refine zV_iload_n dX3_coreAt_46 rfl ?_
        obtain ⟨ob, hO⟩ := hO
        refine zV_ia dX3_coreAt_47 sa_166 ob ?_
        refine zV_mask [false, false, false, false] rfl ?_
        exact K
      · try simp only [if_pos c] at K
        have hO := zif_p hO c
        refine zV_aload_n dX3_coreAt_33 rfl ?_
        refine zV_sg dX3_coreAt_34 fm_101_93 sa_101 (by decide) fl_X3_201_3 rfl ?_
        refine zV_iload_n dX3_coreAt_37 rfl ?_
        obtain ⟨ob, hO⟩ := hO
        refine zV_ia dX3_coreAt_38 sa_165 ob ?_
        refine zV_goto (tgt := 48) dX3_coreAt_39 (by decide) ?_
        refine zV_mask [false, false, false, false] rfl ?_
        exact K
    · try simp only [if_pos c] at K
      have hO := zif_p hO c
      refine zV_sipush dX3_coreAt_23 ⟨by decide, by decide, by decide⟩ ?_
      refine zV_goto (tgt := 48) dX3_coreAt_26 (by decide) ?_
      refine zV_mask [false, false, false, false] rfl ?_
      exact K
  · have hP := zif_n hP c
    refine zV_iload_n dX3_coreAt_10 rfl ?_
    exact zV_ireturn dX3_coreAt_11 rfl rfl rfl ⟨rfl, hP⟩
def P_M_tried_L8 (y1 : Int) (y2 : Int) (y3 : Int) (Q : Int → zH → Prop) (k34 : zH → Prop) : Nat → Int → zH → Prop
| 0, _, _ => False
| n8 + 1, y4, h =>
if 500 ≤ y4 then
(k34 h)
else
((0 ≤ w32 (500 + y4) ∧ w32 (500 + y4) < 1000) ∧
∀ h3 : zH, h3 = zw h 139 (w32 (500 + y4)) (zbit 0) →
∀ x4_4 : Int, x4_4 = w32 (y4 + 1) →
P_M_tried_L8 y1 y2 y3 Q k34 n8 x4_4 h3)
theorem W_M_tried_L8 (y1 : Int) (y2 : Int) (y3 : Int) (Q : Int → zH → Prop) (k34 : zH → Prop) (H34 : ∀ (h' : zH), k34 h' → zV true zy_X3_tried 8 34 [zR 101, zI y1, zI y2, zI y3, zU] [] h' (zQ0 Q)) : ∀ (n8 : Nat) (y4 : Int) (h : zH), P_M_tried_L8 y1 y2 y3 Q k34 n8 y4 h → zV true zy_X3_tried 8 8 [zR 101, zI y1, zI y2, zI y3, zI y4] [] h (zQ0 Q) := by
  intro n8
  induction n8 with
  | zero => intro y4 h hP; exact absurd hP id
  | succ n8 ih =>
    intro y4 h hP
    unfold P_M_tried_L8 at hP
    refine zV_iload dX3_tried_8 rfl ?_
    refine zV_sipush dX3_tried_10 ⟨by decide, by decide, by decide⟩ ?_
    refine zV_icmp_ge (tgt := 34) dX3_tried_13 (by decide) (fun c => ?_) (fun c => ?_)
    · have hP := zif_p hP c
      refine zV_mask [true, true, true, true, false] (ls' := [zR 101, zI y1, zI y2, zI y3, zU]) rfl ?_
      exact H34 _ hP
    · have hP := zif_n hP c
      refine zV_aload_n dX3_tried_16 rfl ?_
      refine zV_sg dX3_tried_17 fm_101_63 sa_101 (by decide) fl_X3_122_3 rfl ?_
      refine zV_sipush dX3_tried_20 ⟨by decide, by decide, by decide⟩ ?_
      refine zV_iload dX3_tried_23 rfl ?_
      refine zV_iadd dX3_tried_25 ?_
      refine zV_iconst dX3_tried_26 ⟨by decide, by decide⟩ ?_
      obtain ⟨ob, hP⟩ := hP
      refine zV_zas dX3_tried_27 sa_139 ob (fun h3 e_h3 => ?_)
      have hP := hP h3 e_h3
      refine zV_inc (ls' := fun z => [zR 101, zI y1, zI y2, zI y3, zI z]) dX3_tried_28 (Nat.le_of_ble_eq_true rfl) rfl rfl (fun _ => rfl) (fun x4_4 e_x4_4 => ?_)
      have hP := hP x4_4 e_x4_4
      refine zV_goto (tgt := 8) dX3_tried_31 (by decide) ?_
      exact ih _ _ hP
def P_M_tried_J86 (y1 : Int) (y2 : Int) (y3 : Int) (y4 : Int) (s0 : Int) (s1 : Int) (h : zH) (Q : Int → zH → Prop) (k37 : Int → zH → Prop) : Prop :=
(0 ≤ s1 ∧ s1 < 1000) ∧
∀ h6 : zH, h6 = zw h 139 s1 (zbit s0) →
∀ x4_7 : Int, x4_7 = w32 (y4 + 1) →
k37 x4_7 h6
theorem W_M_tried_J86 (y1 : Int) (y2 : Int) (y3 : Int) (y4 : Int) (s0 : Int) (s1 : Int) (h : zH) (Q : Int → zH → Prop) (k37 : Int → zH → Prop) (H37 : ∀ (v4 : Int) (h' : zH), k37 v4 h' → zV true zy_X3_tried 8 37 [zR 101, zI y1, zI y2, zI y3, zI v4] [] h' (zQ0 Q)) (hP : P_M_tried_J86 y1 y2 y3 y4 s0 s1 h Q k37) : zV true zy_X3_tried 8 86 [zR 101, zI y1, zI y2, zI y3, zI y4] [zI s0, zI s1, zR 139] h (zQ0 Q) := by
  unfold P_M_tried_J86 at hP
  obtain ⟨ob, hP⟩ := hP
  refine zV_zas dX3_tried_86 sa_139 ob (fun h6 e_h6 => ?_)
  have hP := hP h6 e_h6
  refine zV_inc (ls' := fun z => [zR 101, zI y1, zI y2, zI y3, zI z]) dX3_tried_87 (Nat.le_of_ble_eq_true rfl) rfl rfl (fun _ => rfl) (fun x4_7 e_x4_7 => ?_)
  have hP := hP x4_7 e_x4_7
  refine zV_goto (tgt := 37) dX3_tried_90 (by decide) ?_
  exact H37 _ _ hP
def P_M_tried_L37 (y1 : Int) (y2 : Int) (y3 : Int) (Q : Int → zH → Prop) (k93 : zH → Prop) : Nat → Int → zH → Prop
| 0, _, _ => False
| n37 + 1, y4, h =>
if zd h 101 94 ≤ y4 then
(k93 h)
else
((0 ≤ y4 ∧ y4 < 500) ∧
P_M_tried_J86 y1 y2 y3 y4 (if y4 = y1 then 0 else if y3 < 0 then 1 else if zand (zshr y3 y4) 1 = 1 then 1 else 0) (w32 (500 + (zd h 165 y4))) h Q (P_M_tried_L37 y1 y2 y3 Q k93 n37))
theorem W_M_tried_L37 (y1 : Int) (y2 : Int) (y3 : Int) (Q : Int → zH → Prop) (k93 : zH → Prop) (H93 : ∀ (h' : zH), k93 h' → zV true zy_X3_tried 8 93 [zR 101, zU, zI y2, zU, zU] [] h' (zQ0 Q)) : ∀ (n37 : Nat) (y4 : Int) (h : zH), P_M_tried_L37 y1 y2 y3 Q k93 n37 y4 h → zV true zy_X3_tried 8 37 [zR 101, zI y1, zI y2, zI y3, zI y4] [] h (zQ0 Q) := by
  intro n37
  induction n37 with
  | zero => intro y4 h hP; exact absurd hP id
  | succ n37 ih =>
    intro y4 h hP
    unfold P_M_tried_L37 at hP
    refine zV_iload dX3_tried_37 rfl ?_
    refine zV_aload_n dX3_tried_39 rfl ?_
    refine zV_gf dX3_tried_40 sa_101 (by decide) fl_X3_514_3 rfl (ki := 94) rfl ?_
    refine zV_icmp_ge (tgt := 93) dX3_tried_43 (by decide) (fun c => ?_) (fun c => ?_)
    · have hP := zif_p hP c
      refine zV_mask [true, false, true, false, false] (ls' := [zR 101, zU, zI y2, zU, zU]) rfl ?_
      exact H93 _ hP
    · have hP := zif_n hP c
      refine zV_aload_n dX3_tried_46 rfl ?_
      refine zV_sg dX3_tried_47 fm_101_63 sa_101 (by decide) fl_X3_122_3 rfl ?_
      refine zV_sipush dX3_tried_50 ⟨by decide, by decide, by decide⟩ ?_
      refine zV_aload_n dX3_tried_53 rfl ?_
      refine zV_sg dX3_tried_54 fm_101_93 sa_101 (by decide) fl_X3_201_3 rfl ?_
      refine zV_iload dX3_tried_57 rfl ?_
      obtain ⟨ob, hP⟩ := hP
      refine zV_ia dX3_tried_59 sa_165 ob ?_
      refine zV_iadd dX3_tried_60 ?_
      refine zV_iload dX3_tried_61 rfl ?_
      refine zV_iload_n dX3_tried_63 rfl ?_
      have K : zV true zy_X3_tried 8 86 [zR 101, zI y1, zI y2, zI y3, zI y4] [zI (if y4 = y1 then 0 else if y3 < 0 then 1 else if zand (zshr y3 y4) 1 = 1 then 1 else 0), zI (w32 (500 + (zd h 165 y4))), zR 139] h (zQ0 Q) := by
        exact W_M_tried_J86 _ _ _ _ _ _ _ _ _ ih hP
      clear hP
      refine zV_icmp_eq (tgt := 85) dX3_tried_64 (by decide) (fun c => ?_) (fun c => ?_)
      · try simp only [if_pos c] at K
        refine zV_iconst dX3_tried_85 ⟨by decide, by decide⟩ ?_
        refine zV_mask [true, true, true, true, true] rfl ?_
        exact K
      · try simp only [if_neg c] at K
        refine zV_iload_n dX3_tried_67 rfl ?_
        refine zV_if_lt (tgt := 81) dX3_tried_68 (by decide) (fun c => ?_) (fun c => ?_)
        · try simp only [if_pos c] at K
          refine zV_iconst dX3_tried_81 ⟨by decide, by decide⟩ ?_
          refine zV_goto (tgt := 86) dX3_tried_82 (by decide) ?_
          refine zV_mask [true, true, true, true, true] rfl ?_
          exact K
        · try simp only [if_neg c] at K
          refine zV_iload_n dX3_tried_71 rfl ?_
          refine zV_iload dX3_tried_72 rfl ?_
          refine zV_ishr dX3_tried_74 ?_
          refine zV_iconst dX3_tried_75 ⟨by decide, by decide⟩ ?_
          refine zV_iand dX3_tried_76 ?_
          refine zV_iconst dX3_tried_77 ⟨by decide, by decide⟩ ?_
          refine zV_icmp_ne (tgt := 85) dX3_tried_78 (by decide) (fun c => ?_) (fun c => ?_)
          · try simp only [if_neg c] at K
            refine zV_iconst dX3_tried_85 ⟨by decide, by decide⟩ ?_
            refine zV_mask [true, true, true, true, true] rfl ?_
            exact K
          · try simp only [if_pos c] at K
            refine zV_iconst dX3_tried_81 ⟨by decide, by decide⟩ ?_
            refine zV_goto (tgt := 86) dX3_tried_82 (by decide) ?_
            refine zV_mask [true, true, true, true, true] rfl ?_
            exact K
def P_M_tried_J142 (y2 : Int) (y4 : Int) (h : zH) (Q : Int → zH → Prop) (k96 : Int → zH → Prop) : Prop :=
∀ x4_11 : Int, x4_11 = w32 (y4 + 1) →
k96 x4_11 h
theorem W_M_tried_J142 (y2 : Int) (y4 : Int) (h : zH) (Q : Int → zH → Prop) (k96 : Int → zH → Prop) (H96 : ∀ (v4 : Int) (h' : zH), k96 v4 h' → zV true zy_X3_tried 8 96 [zR 101, zU, zI y2, zU, zI v4] [] h' (zQ0 Q)) (hP : P_M_tried_J142 y2 y4 h Q k96) : zV true zy_X3_tried 8 142 [zR 101, zU, zI y2, zU, zI y4] [] h (zQ0 Q) := by
  unfold P_M_tried_J142 at hP
  refine zV_inc (ls' := fun z => [zR 101, zU, zI y2, zU, zI z]) dX3_tried_142 (Nat.le_of_ble_eq_true rfl) rfl rfl (fun _ => rfl) (fun x4_11 e_x4_11 => ?_)
  have hP := hP x4_11 e_x4_11
  refine zV_goto (tgt := 96) dX3_tried_145 (by decide) ?_
  exact H96 _ _ hP
def P_M_tried_L96 (y2 : Int) (Q : Int → zH → Prop) : Nat → Int → zH → Prop
| 0, _, _ => False
| n96 + 1, y4, h =>
if zd h 101 96 ≤ y4 then
(P_M_solving 1 h (fun r9 h10 =>
Q r9 h10))
else
(if y4 = y2 then
(P_M_tried_J142 y2 y4 h Q (P_M_tried_L96 y2 Q n96))
else
((0 ≤ y4 ∧ y4 < 20) ∧
(0 ≤ w32 (20 + (zd h 141 1)) ∧ w32 (20 + (zd h 141 1)) < 40) ∧
∀ h12 : zH, h12 = zw h 140 (w32 (20 + (zd h 141 1))) (zd h 166 y4) →
∀ h13 : zH, h13 = zw h12 141 1 (w32 ((zd h12 141 1) + 1)) →
P_M_tried_J142 y2 y4 h13 Q (P_M_tried_L96 y2 Q n96)))
theorem W_M_tried_L96 (y2 : Int) (Q : Int → zH → Prop) : ∀ (n96 : Nat) (y4 : Int) (h : zH), P_M_tried_L96 y2 Q n96 y4 h → zV true zy_X3_tried 8 96 [zR 101, zU, zI y2, zU, zI y4] [] h (zQ0 Q) := by
  intro n96
  induction n96 with
  | zero => intro y4 h hP; exact absurd hP id
  | succ n96 ih =>
    intro y4 h hP
    unfold P_M_tried_L96 at hP
    refine zV_iload dX3_tried_96 rfl ?_
    refine zV_aload_n dX3_tried_98 rfl ?_
    refine zV_gf dX3_tried_99 sa_101 (by decide) fl_X3_526_3 rfl (ki := 96) rfl ?_
    refine zV_icmp_ge (tgt := 148) dX3_tried_102 (by decide) (fun c => ?_) (fun c => ?_)
    · have hP := zif_p hP c
      refine zV_aload_n dX3_tried_148 rfl ?_
      refine zV_iconst dX3_tried_149 ⟨by decide, by decide⟩ ?_
      refine zV_cVk (As := [zI 1]) (rest := []) dX3_tried_150 sa_101 (W_M_solving _ _ _ hP) mi_X3_solving ml_X3_587 (by decide) (Nat.le_of_ble_eq_true rfl) rfl rfl rfl (fun r9 h10 hP => ?_)
      exact zV_ireturn dX3_tried_153 rfl rfl rfl ⟨rfl, hP⟩
    · have hP := zif_n hP c
      refine zV_iload dX3_tried_105 rfl ?_
      refine zV_iload_n dX3_tried_107 rfl ?_
      refine zV_icmp_eq (tgt := 142) dX3_tried_108 (by decide) (fun c => ?_) (fun c => ?_)
      · have hP := zif_p hP c
        exact W_M_tried_J142 _ _ _ _ _ ih hP
      · have hP := zif_n hP c
        refine zV_aload_n dX3_tried_111 rfl ?_
        refine zV_sg dX3_tried_112 fm_101_64 sa_101 (by decide) fl_X3_125_3 rfl ?_
        refine zV_bipush dX3_tried_115 ⟨by decide, by decide, by decide⟩ ?_
        refine zV_aload_n dX3_tried_117 rfl ?_
        refine zV_sg dX3_tried_118 fm_101_65 sa_101 (by decide) fl_X3_128_3 rfl ?_
        refine zV_iconst dX3_tried_121 ⟨by decide, by decide⟩ ?_
        refine zV_ia dX3_tried_122 sa_141 (by decide) ?_
        refine zV_iadd dX3_tried_123 ?_
        refine zV_aload_n dX3_tried_124 rfl ?_
        refine zV_sg dX3_tried_125 fm_101_95 sa_101 (by decide) fl_X3_204_3 rfl ?_
        refine zV_iload dX3_tried_128 rfl ?_
        obtain ⟨ob, hP⟩ := hP
        refine zV_ia dX3_tried_130 sa_166 ob ?_
        obtain ⟨ob, hP⟩ := hP
        refine zV_ias dX3_tried_131 sa_140 ob (fun h12 e_h12 => ?_)
        have hP := hP h12 e_h12
        refine zV_aload_n dX3_tried_132 rfl ?_
        refine zV_sg dX3_tried_133 fm_101_65 sa_101 (by decide) fl_X3_128_3 rfl ?_
        refine zV_iconst dX3_tried_136 ⟨by decide, by decide⟩ ?_
        refine zV_dup2 dX3_tried_137 (Nat.ne_of_beq_eq_false rfl) (Nat.ne_of_beq_eq_false rfl) ?_
        refine zV_ia dX3_tried_138 sa_141 (by decide) ?_
        refine zV_iconst dX3_tried_139 ⟨by decide, by decide⟩ ?_
        refine zV_iadd dX3_tried_140 ?_
        refine zV_ias dX3_tried_141 sa_141 (by decide) (fun h13 e_h13 => ?_)
        have hP := hP h13 e_h13
        exact W_M_tried_J142 _ _ _ _ _ ih hP
def P_M_tried (a1 : Int) (a2 : Int) (a3 : Int) (h : zH) (Q : Int → zH → Prop) : Prop :=
P_M_prepare 1 h (fun r1 h2 =>
∃ n8, P_M_tried_L8 a1 a2 a3 Q (fun h5 =>
∃ n37, P_M_tried_L37 a1 a2 a3 Q (fun h8 =>
∃ n96, P_M_tried_L96 a2 Q n96 0 h8) n37 0 h5) n8 0 h2)
theorem W_M_tried (a1 : Int) (a2 : Int) (a3 : Int) (h : zH) (Q : Int → zH → Prop) (hP : P_M_tried a1 a2 a3 h Q) : zC true zy_X3_tried 8 [zR 101, zI a1, zI a2, zI a3] h (zQ0 Q) := by
  unfold P_M_tried at hP
  refine zC.of (by decide) (Nat.le_of_ble_eq_true rfl) ?_
  show zV true zy_X3_tried 8 0 [zR 101, zI a1, zI a2, zI a3, zU] [] h (zQ0 Q)
  refine zV_aload_n dX3_tried_0 rfl ?_
  refine zV_iconst dX3_tried_1 ⟨by decide, by decide⟩ ?_
  refine zV_cVv (As := [zI 1]) (rest := []) dX3_tried_2 sa_101 (W_M_prepare _ _ _ hP) mi_X3_prepare ml_X3_581 (by decide) (Nat.le_of_ble_eq_true rfl) rfl rfl (fun r1 h2 hP => ?_)
  refine zV_iconst dX3_tried_5 ⟨by decide, by decide⟩ ?_
  refine zV_istore (ls' := [zR 101, zI a1, zI a2, zI a3, zI 0]) dX3_tried_6 (Nat.le_of_ble_eq_true rfl) rfl rfl ?_
  obtain ⟨n8, hP⟩ := hP
  refine W_M_tried_L8 _ _ _ _ _ (fun h5 hP => ?_) n8 _ _ hP
  refine zV_iconst dX3_tried_34 ⟨by decide, by decide⟩ ?_
  refine zV_istore (ls' := [zR 101, zI a1, zI a2, zI a3, zI 0]) dX3_tried_35 (Nat.le_of_ble_eq_true rfl) rfl rfl ?_
  obtain ⟨n37, hP⟩ := hP
  refine W_M_tried_L37 _ _ _ _ _ (fun h8 hP => ?_) n37 _ _ hP
  refine zV_iconst dX3_tried_93 ⟨by decide, by decide⟩ ?_
  refine zV_istore (ls' := [zR 101, zU, zI a2, zU, zI 0]) dX3_tried_94 (Nat.le_of_ble_eq_true rfl) rfl rfl ?_
  obtain ⟨n96, hP⟩ := hP
  refine W_M_tried_L96 _ _ n96 _ _ hP
def P_M_shrink_J117 (y2 : Int) (h : zH) (Q : Int → zH → Prop) (k37 : Int → zH → Prop) : Prop :=
k37 y2 h
theorem W_M_shrink_J117 (y2 : Int) (h : zH) (Q : Int → zH → Prop) (k37 : Int → zH → Prop) (H37 : ∀ (v2 : Int) (h' : zH), k37 v2 h' → zV true zy_X3_shrink 9 37 [zR 101, zU, zI v2, zU, zU] [] h' (zQ0 Q)) (hP : P_M_shrink_J117 y2 h Q k37) : zV true zy_X3_shrink 9 117 [zR 101, zU, zI y2, zU, zU] [] h (zQ0 Q) := by
  unfold P_M_shrink_J117 at hP
  refine zV_goto (tgt := 37) dX3_shrink_117 (by decide) ?_
  exact H37 _ _ hP
def P_M_shrink_L80 (y2 : Int) (Q : Int → zH → Prop) (k111 : zH → Prop) : Nat → Int → zH → Prop
| 0, _, _ => False
| n80 + 1, y4, h =>
if zd h 101 94 ≤ y4 then
(k111 h)
else
((0 ≤ w32 (y4 + 1) ∧ w32 (y4 + 1) < 500) ∧
(0 ≤ y4 ∧ y4 < 500) ∧
∀ h10 : zH, h10 = zw h 165 y4 (zd h 165 (w32 (y4 + 1))) →
∀ x4_11 : Int, x4_11 = w32 (y4 + 1) →
P_M_shrink_L80 y2 Q k111 n80 x4_11 h10)
theorem W_M_shrink_L80 (y2 : Int) (Q : Int → zH → Prop) (k111 : zH → Prop) (H111 : ∀ (h' : zH), k111 h' → zV true zy_X3_shrink 9 111 [zR 101, zU, zI y2, zU, zU] [] h' (zQ0 Q)) : ∀ (n80 : Nat) (y4 : Int) (h : zH), P_M_shrink_L80 y2 Q k111 n80 y4 h → zV true zy_X3_shrink 9 80 [zR 101, zU, zI y2, zU, zI y4] [] h (zQ0 Q) := by
  intro n80
  induction n80 with
  | zero => intro y4 h hP; exact absurd hP id
  | succ n80 ih =>
    intro y4 h hP
    unfold P_M_shrink_L80 at hP
    refine zV_iload dX3_shrink_80 rfl ?_
    refine zV_aload_n dX3_shrink_82 rfl ?_
    refine zV_gf dX3_shrink_83 sa_101 (by decide) fl_X3_514_3 rfl (ki := 94) rfl ?_
    refine zV_icmp_ge (tgt := 111) dX3_shrink_86 (by decide) (fun c => ?_) (fun c => ?_)
    · have hP := zif_p hP c
      refine zV_mask [true, true, true, true, false] (ls' := [zR 101, zU, zI y2, zU, zU]) rfl ?_
      exact H111 _ hP
    · have hP := zif_n hP c
      refine zV_aload_n dX3_shrink_89 rfl ?_
      refine zV_sg dX3_shrink_90 fm_101_93 sa_101 (by decide) fl_X3_201_3 rfl ?_
      refine zV_iload dX3_shrink_93 rfl ?_
      refine zV_aload_n dX3_shrink_95 rfl ?_
      refine zV_sg dX3_shrink_96 fm_101_93 sa_101 (by decide) fl_X3_201_3 rfl ?_
      refine zV_iload dX3_shrink_99 rfl ?_
      refine zV_iconst dX3_shrink_101 ⟨by decide, by decide⟩ ?_
      refine zV_iadd dX3_shrink_102 ?_
      obtain ⟨ob, hP⟩ := hP
      refine zV_ia dX3_shrink_103 sa_165 ob ?_
      obtain ⟨ob, hP⟩ := hP
      refine zV_ias dX3_shrink_104 sa_165 ob (fun h10 e_h10 => ?_)
      have hP := hP h10 e_h10
      refine zV_inc (ls' := fun z => [zR 101, zU, zI y2, zU, zI z]) dX3_shrink_105 (Nat.le_of_ble_eq_true rfl) rfl rfl (fun _ => rfl) (fun x4_11 e_x4_11 => ?_)
      have hP := hP x4_11 e_x4_11
      refine zV_goto (tgt := 80) dX3_shrink_108 (by decide) ?_
      exact ih _ _ hP
def P_M_shrink_L37 (Q : Int → zH → Prop) (k120 : zH → Prop) : Nat → Int → zH → Prop
| 0, _, _ => False
| n37 + 1, y2, h =>
if zd h 101 94 ≤ y2 then
(k120 h)
else
(P_M_tried y2 (-1005) (-1005) h (fun r6 h7 =>
if 0 ≤ r6 then
(if r6 = 0 then
(∀ h9 : zH, h9 = zw h7 101 94 (w32 ((zd h7 101 94) - 1)) →
∃ n80, P_M_shrink_L80 y2 Q (fun h12 =>
P_M_shrink_J117 y2 h12 Q (P_M_shrink_L37 Q k120 n37)) n80 y2 h9)
else
(∀ x2_8 : Int, x2_8 = w32 (y2 + 1) →
P_M_shrink_J117 x2_8 h7 Q (P_M_shrink_L37 Q k120 n37)))
else
(Q r6 h7)))
theorem W_M_shrink_L37 (Q : Int → zH → Prop) (k120 : zH → Prop) (H120 : ∀ (h' : zH), k120 h' → zV true zy_X3_shrink 9 120 [zR 101, zU, zU, zU, zU] [] h' (zQ0 Q)) : ∀ (n37 : Nat) (y2 : Int) (h : zH), P_M_shrink_L37 Q k120 n37 y2 h → zV true zy_X3_shrink 9 37 [zR 101, zU, zI y2, zU, zU] [] h (zQ0 Q) := by
  intro n37
  induction n37 with
  | zero => intro y2 h hP; exact absurd hP id
  | succ n37 ih =>
    intro y2 h hP
    unfold P_M_shrink_L37 at hP
    refine zV_iload_n dX3_shrink_37 rfl ?_
    refine zV_aload_n dX3_shrink_38 rfl ?_
    refine zV_gf dX3_shrink_39 sa_101 (by decide) fl_X3_514_3 rfl (ki := 94) rfl ?_
    refine zV_icmp_ge (tgt := 120) dX3_shrink_42 (by decide) (fun c => ?_) (fun c => ?_)
    · have hP := zif_p hP c
      refine zV_mask [true, true, false, true, true] (ls' := [zR 101, zU, zU, zU, zU]) rfl ?_
      exact H120 _ hP
    · have hP := zif_n hP c
      refine zV_aload_n dX3_shrink_45 rfl ?_
      refine zV_iload_n dX3_shrink_46 rfl ?_
      refine zV_sipush dX3_shrink_47 ⟨by decide, by decide, by decide⟩ ?_
      refine zV_sipush dX3_shrink_50 ⟨by decide, by decide, by decide⟩ ?_
      refine zV_cVk (As := [zI y2, zI (-1005), zI (-1005)]) (rest := []) dX3_shrink_53 sa_101 (W_M_tried _ _ _ _ _ hP) mi_X3_tried ml_X3_599 (by decide) (Nat.le_of_ble_eq_true rfl) rfl rfl rfl (fun r6 h7 hP => ?_)
      refine zV_istore_n (ls' := [zR 101, zU, zI y2, zI r6, zU]) dX3_shrink_56 rfl (Nat.le_of_ble_eq_true rfl) rfl rfl ?_
      refine zV_iload_n dX3_shrink_57 rfl ?_
      refine zV_if_ge (tgt := 63) dX3_shrink_58 (by decide) (fun c => ?_) (fun c => ?_)
      · have hP := zif_p hP c
        refine zV_iload_n dX3_shrink_63 rfl ?_
        refine zV_if_ne (tgt := 114) dX3_shrink_64 (by decide) (fun c => ?_) (fun c => ?_)
        · have hP := zif_n hP c
          refine zV_inc (ls' := fun z => [zR 101, zU, zI z, zI r6, zU]) dX3_shrink_114 (Nat.le_of_ble_eq_true rfl) rfl rfl (fun _ => rfl) (fun x2_8 e_x2_8 => ?_)
          have hP := hP x2_8 e_x2_8
          refine zV_mask [true, true, true, false, true] (ls' := [zR 101, zU, zI x2_8, zU, zU]) rfl ?_
          exact W_M_shrink_J117 _ _ _ _ ih hP
        · have hP := zif_p hP c
          refine zV_aload_n dX3_shrink_67 rfl ?_
          refine zV_dup dX3_shrink_68 (Nat.ne_of_beq_eq_false rfl) ?_
          refine zV_gf dX3_shrink_69 sa_101 (by decide) fl_X3_514_3 rfl (ki := 94) rfl ?_
          refine zV_iconst dX3_shrink_72 ⟨by decide, by decide⟩ ?_
          refine zV_isub dX3_shrink_73 ?_
          refine zV_pf dX3_shrink_74 sa_101 (by decide) fl_X3_514_3 rfl rfl trivial (ki := 94) rfl (fun h9 e_h9 => ?_)
          have hP := hP h9 e_h9
          refine zV_iload_n dX3_shrink_77 rfl ?_
          refine zV_istore (ls' := [zR 101, zU, zI y2, zI r6, zI y2]) dX3_shrink_78 (Nat.le_of_ble_eq_true rfl) rfl rfl ?_
          obtain ⟨n80, hP⟩ := hP
          refine zV_mask [true, true, true, false, true] (ls' := [zR 101, zU, zI y2, zU, zI y2]) rfl ?_
          refine W_M_shrink_L80 _ _ _ (fun h12 hP => ?_) n80 _ _ hP
          refine zV_goto (tgt := 117) dX3_shrink_111 (by decide) ?_
          exact W_M_shrink_J117 _ _ _ _ ih hP
      · have hP := zif_n hP c
        refine zV_iload_n dX3_shrink_61 rfl ?_
        exact zV_ireturn dX3_shrink_62 rfl rfl rfl ⟨rfl, hP⟩
def P_M_shrink_J202 (y2 : Int) (h : zH) (Q : Int → zH → Prop) (k122 : Int → zH → Prop) : Prop :=
k122 y2 h
theorem W_M_shrink_J202 (y2 : Int) (h : zH) (Q : Int → zH → Prop) (k122 : Int → zH → Prop) (H122 : ∀ (v2 : Int) (h' : zH), k122 v2 h' → zV true zy_X3_shrink 9 122 [zR 101, zU, zI v2, zU, zU] [] h' (zQ0 Q)) (hP : P_M_shrink_J202 y2 h Q k122) : zV true zy_X3_shrink 9 202 [zR 101, zU, zI y2, zU, zU] [] h (zQ0 Q) := by
  unfold P_M_shrink_J202 at hP
  refine zV_goto (tgt := 122) dX3_shrink_202 (by decide) ?_
  exact H122 _ _ hP
def P_M_shrink_L165 (y2 : Int) (Q : Int → zH → Prop) (k196 : zH → Prop) : Nat → Int → zH → Prop
| 0, _, _ => False
| n165 + 1, y4, h =>
if zd h 101 96 ≤ y4 then
(k196 h)
else
((0 ≤ w32 (y4 + 1) ∧ w32 (y4 + 1) < 20) ∧
(0 ≤ y4 ∧ y4 < 20) ∧
∀ h18 : zH, h18 = zw h 166 y4 (zd h 166 (w32 (y4 + 1))) →
∀ x4_19 : Int, x4_19 = w32 (y4 + 1) →
P_M_shrink_L165 y2 Q k196 n165 x4_19 h18)
theorem W_M_shrink_L165 (y2 : Int) (Q : Int → zH → Prop) (k196 : zH → Prop) (H196 : ∀ (h' : zH), k196 h' → zV true zy_X3_shrink 9 196 [zR 101, zU, zI y2, zU, zU] [] h' (zQ0 Q)) : ∀ (n165 : Nat) (y4 : Int) (h : zH), P_M_shrink_L165 y2 Q k196 n165 y4 h → zV true zy_X3_shrink 9 165 [zR 101, zU, zI y2, zU, zI y4] [] h (zQ0 Q) := by
  intro n165
  induction n165 with
  | zero => intro y4 h hP; exact absurd hP id
  | succ n165 ih =>
    intro y4 h hP
    unfold P_M_shrink_L165 at hP
    refine zV_iload dX3_shrink_165 rfl ?_
    refine zV_aload_n dX3_shrink_167 rfl ?_
    refine zV_gf dX3_shrink_168 sa_101 (by decide) fl_X3_526_3 rfl (ki := 96) rfl ?_
    refine zV_icmp_ge (tgt := 196) dX3_shrink_171 (by decide) (fun c => ?_) (fun c => ?_)
    · have hP := zif_p hP c
      refine zV_mask [true, true, true, true, false] (ls' := [zR 101, zU, zI y2, zU, zU]) rfl ?_
      exact H196 _ hP
    · have hP := zif_n hP c
      refine zV_aload_n dX3_shrink_174 rfl ?_
      refine zV_sg dX3_shrink_175 fm_101_95 sa_101 (by decide) fl_X3_204_3 rfl ?_
      refine zV_iload dX3_shrink_178 rfl ?_
      refine zV_aload_n dX3_shrink_180 rfl ?_
      refine zV_sg dX3_shrink_181 fm_101_95 sa_101 (by decide) fl_X3_204_3 rfl ?_
      refine zV_iload dX3_shrink_184 rfl ?_
      refine zV_iconst dX3_shrink_186 ⟨by decide, by decide⟩ ?_
      refine zV_iadd dX3_shrink_187 ?_
      obtain ⟨ob, hP⟩ := hP
      refine zV_ia dX3_shrink_188 sa_166 ob ?_
      obtain ⟨ob, hP⟩ := hP
      refine zV_ias dX3_shrink_189 sa_166 ob (fun h18 e_h18 => ?_)
      have hP := hP h18 e_h18
      refine zV_inc (ls' := fun z => [zR 101, zU, zI y2, zU, zI z]) dX3_shrink_190 (Nat.le_of_ble_eq_true rfl) rfl rfl (fun _ => rfl) (fun x4_19 e_x4_19 => ?_)
      have hP := hP x4_19 e_x4_19
      refine zV_goto (tgt := 165) dX3_shrink_193 (by decide) ?_
      exact ih _ _ hP
def P_M_shrink_L122 (Q : Int → zH → Prop) : Nat → Int → zH → Prop
| 0, _, _ => False
| n122 + 1, y2, h =>
if zd h 101 96 ≤ y2 then
(Q (w32 ((zd h 101 94) + (zd h 101 96))) h)
else
(P_M_tried (-1005) y2 (-1005) h (fun r14 h15 =>
if 0 ≤ r14 then
(if r14 = 0 then
(∀ h17 : zH, h17 = zw h15 101 96 (w32 ((zd h15 101 96) - 1)) →
∃ n165, P_M_shrink_L165 y2 Q (fun h20 =>
P_M_shrink_J202 y2 h20 Q (P_M_shrink_L122 Q n122)) n165 y2 h17)
else
(∀ x2_16 : Int, x2_16 = w32 (y2 + 1) →
P_M_shrink_J202 x2_16 h15 Q (P_M_shrink_L122 Q n122)))
else
(Q r14 h15)))
theorem W_M_shrink_L122 (Q : Int → zH → Prop) : ∀ (n122 : Nat) (y2 : Int) (h : zH), P_M_shrink_L122 Q n122 y2 h → zV true zy_X3_shrink 9 122 [zR 101, zU, zI y2, zU, zU] [] h (zQ0 Q) := by
  intro n122
  induction n122 with
  | zero => intro y2 h hP; exact absurd hP id
  | succ n122 ih =>
    intro y2 h hP
    unfold P_M_shrink_L122 at hP
    refine zV_iload_n dX3_shrink_122 rfl ?_
    refine zV_aload_n dX3_shrink_123 rfl ?_
    refine zV_gf dX3_shrink_124 sa_101 (by decide) fl_X3_526_3 rfl (ki := 96) rfl ?_
    refine zV_icmp_ge (tgt := 205) dX3_shrink_127 (by decide) (fun c => ?_) (fun c => ?_)
    · have hP := zif_p hP c
      refine zV_aload_n dX3_shrink_205 rfl ?_
      refine zV_gf dX3_shrink_206 sa_101 (by decide) fl_X3_514_3 rfl (ki := 94) rfl ?_
      refine zV_aload_n dX3_shrink_209 rfl ?_
      refine zV_gf dX3_shrink_210 sa_101 (by decide) fl_X3_526_3 rfl (ki := 96) rfl ?_
      refine zV_iadd dX3_shrink_213 ?_
      exact zV_ireturn dX3_shrink_214 rfl rfl rfl ⟨rfl, hP⟩
    · have hP := zif_n hP c
      refine zV_aload_n dX3_shrink_130 rfl ?_
      refine zV_sipush dX3_shrink_131 ⟨by decide, by decide, by decide⟩ ?_
      refine zV_iload_n dX3_shrink_134 rfl ?_
      refine zV_sipush dX3_shrink_135 ⟨by decide, by decide, by decide⟩ ?_
      refine zV_cVk (As := [zI (-1005), zI y2, zI (-1005)]) (rest := []) dX3_shrink_138 sa_101 (W_M_tried _ _ _ _ _ hP) mi_X3_tried ml_X3_599 (by decide) (Nat.le_of_ble_eq_true rfl) rfl rfl rfl (fun r14 h15 hP => ?_)
      refine zV_istore_n (ls' := [zR 101, zU, zI y2, zI r14, zU]) dX3_shrink_141 rfl (Nat.le_of_ble_eq_true rfl) rfl rfl ?_
      refine zV_iload_n dX3_shrink_142 rfl ?_
      refine zV_if_ge (tgt := 148) dX3_shrink_143 (by decide) (fun c => ?_) (fun c => ?_)
      · have hP := zif_p hP c
        refine zV_iload_n dX3_shrink_148 rfl ?_
        refine zV_if_ne (tgt := 199) dX3_shrink_149 (by decide) (fun c => ?_) (fun c => ?_)
        · have hP := zif_n hP c
          refine zV_inc (ls' := fun z => [zR 101, zU, zI z, zI r14, zU]) dX3_shrink_199 (Nat.le_of_ble_eq_true rfl) rfl rfl (fun _ => rfl) (fun x2_16 e_x2_16 => ?_)
          have hP := hP x2_16 e_x2_16
          refine zV_mask [true, true, true, false, true] (ls' := [zR 101, zU, zI x2_16, zU, zU]) rfl ?_
          exact W_M_shrink_J202 _ _ _ _ ih hP
        · have hP := zif_p hP c
          refine zV_aload_n dX3_shrink_152 rfl ?_
          refine zV_dup dX3_shrink_153 (Nat.ne_of_beq_eq_false rfl) ?_
          refine zV_gf dX3_shrink_154 sa_101 (by decide) fl_X3_526_3 rfl (ki := 96) rfl ?_
          refine zV_iconst dX3_shrink_157 ⟨by decide, by decide⟩ ?_
          refine zV_isub dX3_shrink_158 ?_
          refine zV_pf dX3_shrink_159 sa_101 (by decide) fl_X3_526_3 rfl rfl trivial (ki := 96) rfl (fun h17 e_h17 => ?_)
          have hP := hP h17 e_h17
          refine zV_iload_n dX3_shrink_162 rfl ?_
          refine zV_istore (ls' := [zR 101, zU, zI y2, zI r14, zI y2]) dX3_shrink_163 (Nat.le_of_ble_eq_true rfl) rfl rfl ?_
          obtain ⟨n165, hP⟩ := hP
          refine zV_mask [true, true, true, false, true] (ls' := [zR 101, zU, zI y2, zU, zI y2]) rfl ?_
          refine W_M_shrink_L165 _ _ _ (fun h20 hP => ?_) n165 _ _ hP
          refine zV_goto (tgt := 202) dX3_shrink_196 (by decide) ?_
          exact W_M_shrink_J202 _ _ _ _ ih hP
      · have hP := zif_n hP c
        refine zV_iload_n dX3_shrink_146 rfl ?_
        exact zV_ireturn dX3_shrink_147 rfl rfl rfl ⟨rfl, hP⟩
def P_M_shrink (a1 : Int) (h : zH) (Q : Int → zH → Prop) : Prop :=
P_M_areSteps a1 h (fun r1 h2 =>
if r1 = 0 then
(P_M_fail (-1001) h2 (fun r23 h24 =>
Q r23 h24))
else
(P_M_hasCore h2 (fun r3 h4 =>
if r3 = 0 then
(P_M_fail (-1002) h4 (fun r21 h22 =>
Q r21 h22))
else
(∀ h5 : zH, h5 = zw h4 101 89 a1 →
∃ n37, P_M_shrink_L37 Q (fun h13 =>
∃ n122, P_M_shrink_L122 Q n122 0 h13) n37 0 h5))))
theorem W_M_shrink (a1 : Int) (h : zH) (Q : Int → zH → Prop) (hP : P_M_shrink a1 h Q) : zC true zy_X3_shrink 9 [zR 101, zI a1] h (zQ0 Q) := by
  unfold P_M_shrink at hP
  refine zC.of (by decide) (Nat.le_of_ble_eq_true rfl) ?_
  show zV true zy_X3_shrink 9 0 [zR 101, zI a1, zU, zU, zU] [] h (zQ0 Q)
  refine zV_iload_n dX3_shrink_0 rfl ?_
  refine zV_cSk (As := [zI a1]) (rest := []) dX3_shrink_1 (W_M_areSteps _ _ _ hP) mi_X3_areSteps ml_X3_578 (by decide) (Nat.le_of_ble_eq_true rfl) rfl rfl rfl (fun r1 h2 hP => ?_)
  refine zV_if_ne (tgt := 15) dX3_shrink_4 (by decide) (fun c => ?_) (fun c => ?_)
  · have hP := zif_n hP c
    refine zV_aload_n dX3_shrink_15 rfl ?_
    refine zV_cVk (As := []) (rest := []) dX3_shrink_16 sa_101 (W_M_hasCore _ _ hP) mi_X3_hasCore ml_X3_593 (by decide) (Nat.le_of_ble_eq_true rfl) rfl rfl rfl (fun r3 h4 hP => ?_)
    refine zV_if_ne (tgt := 30) dX3_shrink_19 (by decide) (fun c => ?_) (fun c => ?_)
    · have hP := zif_n hP c
      refine zV_aload_n dX3_shrink_30 rfl ?_
      refine zV_iload_n dX3_shrink_31 rfl ?_
      refine zV_pf dX3_shrink_32 sa_101 (by decide) fl_X3_490_3 rfl rfl trivial (ki := 89) rfl (fun h5 e_h5 => ?_)
      have hP := hP h5 e_h5
      refine zV_iconst dX3_shrink_35 ⟨by decide, by decide⟩ ?_
      refine zV_istore_n (ls' := [zR 101, zI a1, zI 0, zU, zU]) dX3_shrink_36 rfl (Nat.le_of_ble_eq_true rfl) rfl rfl ?_
      obtain ⟨n37, hP⟩ := hP
      refine zV_mask [true, false, true, true, true] (ls' := [zR 101, zU, zI 0, zU, zU]) rfl ?_
      refine W_M_shrink_L37 _ _ (fun h13 hP => ?_) n37 _ _ hP
      refine zV_iconst dX3_shrink_120 ⟨by decide, by decide⟩ ?_
      refine zV_istore_n (ls' := [zR 101, zU, zI 0, zU, zU]) dX3_shrink_121 rfl (Nat.le_of_ble_eq_true rfl) rfl rfl ?_
      obtain ⟨n122, hP⟩ := hP
      refine W_M_shrink_L122 _ n122 _ _ hP
    · have hP := zif_p hP c
      refine zV_aload_n dX3_shrink_22 rfl ?_
      refine zV_sipush dX3_shrink_23 ⟨by decide, by decide, by decide⟩ ?_
      refine zV_cVk (As := [zI (-1002)]) (rest := []) dX3_shrink_26 sa_101 (W_M_fail _ _ _ hP) mi_X3_fail ml_X3_242 (by decide) (Nat.le_of_ble_eq_true rfl) rfl rfl rfl (fun r21 h22 hP => ?_)
      exact zV_ireturn dX3_shrink_29 rfl rfl rfl ⟨rfl, hP⟩
  · have hP := zif_p hP c
    refine zV_aload_n dX3_shrink_7 rfl ?_
    refine zV_sipush dX3_shrink_8 ⟨by decide, by decide, by decide⟩ ?_
    refine zV_cVk (As := [zI (-1001)]) (rest := []) dX3_shrink_11 sa_101 (W_M_fail _ _ _ hP) mi_X3_fail ml_X3_242 (by decide) (Nat.le_of_ble_eq_true rfl) rfl rfl rfl (fun r23 h24 hP => ?_)
    exact zV_ireturn dX3_shrink_14 rfl rfl rfl ⟨rfl, hP⟩
def P_M_bitsOf_L4 (y0 : Int) (Q : Int → zH → Prop) : Nat → Int → Int → zH → Prop
| 0, _, _, _ => False
| n4 + 1, y1, y2, h =>
if 10 ≤ y2 then
(Q y1 h)
else
(∀ x1_1 : Int, x1_1 = (w32 (y1 + (zand (zshr y0 y2) 1))) →
∀ x2_2 : Int, x2_2 = w32 (y2 + 1) →
P_M_bitsOf_L4 y0 Q n4 x1_1 x2_2 h)
theorem W_M_bitsOf_L4 (y0 : Int) (Q : Int → zH → Prop) : ∀ (n4 : Nat) (y1 y2 : Int) (h : zH), P_M_bitsOf_L4 y0 Q n4 y1 y2 h → zV true zy_X3_bitsOf 1 4 [zI y0, zI y1, zI y2] [] h (zQ0 Q) := by
  intro n4
  induction n4 with
  | zero => intro y1 y2 h hP; exact absurd hP id
  | succ n4 ih =>
    intro y1 y2 h hP
    unfold P_M_bitsOf_L4 at hP
    refine zV_iload_n dX3_bitsOf_4 rfl ?_
    refine zV_bipush dX3_bitsOf_5 ⟨by decide, by decide, by decide⟩ ?_
    refine zV_icmp_ge (tgt := 24) dX3_bitsOf_7 (by decide) (fun c => ?_) (fun c => ?_)
    · have hP := zif_p hP c
      refine zV_iload_n dX3_bitsOf_24 rfl ?_
      exact zV_ireturn dX3_bitsOf_25 rfl rfl rfl ⟨rfl, hP⟩
    · have hP := zif_n hP c
      refine zV_iload_n dX3_bitsOf_10 rfl ?_
      refine zV_iload_n dX3_bitsOf_11 rfl ?_
      refine zV_iload_n dX3_bitsOf_12 rfl ?_
      refine zV_ishr dX3_bitsOf_13 ?_
      refine zV_iconst dX3_bitsOf_14 ⟨by decide, by decide⟩ ?_
      refine zV_iand dX3_bitsOf_15 ?_
      refine zV_iadd dX3_bitsOf_16 ?_
      refine zV_top (fun x1_1 e_x1_1 => ?_)
      have hP := hP x1_1 e_x1_1
      refine zV_istore_n (ls' := [zI y0, zI x1_1, zI y2]) dX3_bitsOf_17 rfl (Nat.le_of_ble_eq_true rfl) rfl rfl ?_
      refine zV_inc (ls' := fun z => [zI y0, zI x1_1, zI z]) dX3_bitsOf_18 (Nat.le_of_ble_eq_true rfl) rfl rfl (fun _ => rfl) (fun x2_2 e_x2_2 => ?_)
      have hP := hP x2_2 e_x2_2
      refine zV_goto (tgt := 4) dX3_bitsOf_21 (by decide) ?_
      exact ih _ _ _ hP
def P_M_bitsOf (a1 : Int) (h : zH) (Q : Int → zH → Prop) : Prop :=
∃ n4, P_M_bitsOf_L4 a1 Q n4 0 0 h
theorem W_M_bitsOf (a1 : Int) (h : zH) (Q : Int → zH → Prop) (hP : P_M_bitsOf a1 h Q) : zC true zy_X3_bitsOf 1 [zI a1] h (zQ0 Q) := by
  unfold P_M_bitsOf at hP
  refine zC.of (by decide) (Nat.le_of_ble_eq_true rfl) ?_
  show zV true zy_X3_bitsOf 1 0 [zI a1, zU, zU] [] h (zQ0 Q)
  refine zV_iconst dX3_bitsOf_0 ⟨by decide, by decide⟩ ?_
  refine zV_istore_n (ls' := [zI a1, zI 0, zU]) dX3_bitsOf_1 rfl (Nat.le_of_ble_eq_true rfl) rfl rfl ?_
  refine zV_iconst dX3_bitsOf_2 ⟨by decide, by decide⟩ ?_
  refine zV_istore_n (ls' := [zI a1, zI 0, zI 0]) dX3_bitsOf_3 rfl (Nat.le_of_ble_eq_true rfl) rfl rfl ?_
  obtain ⟨n4, hP⟩ := hP
  refine W_M_bitsOf_L4 _ _ n4 _ _ _ hP
def P_M_least_J160 (y2 : Int) (y3 : Int) (h : zH) (Q : Int → zH → Prop) (k56 : Int → zH → Prop) : Prop :=
∀ x3_12 : Int, x3_12 = w32 (y3 + 1) →
k56 x3_12 h
theorem W_M_least_J160 (y2 : Int) (y3 : Int) (h : zH) (Q : Int → zH → Prop) (k56 : Int → zH → Prop) (H56 : ∀ (v3 : Int) (h' : zH), k56 v3 h' → zV true zy_X3_least 9 56 [zR 101, zU, zI y2, zI v3, zU, zU, zU] [] h' (zQ0 Q)) (hP : P_M_least_J160 y2 y3 h Q k56) : zV true zy_X3_least 9 160 [zR 101, zU, zI y2, zI y3, zU, zU, zU] [] h (zQ0 Q) := by
  unfold P_M_least_J160 at hP
  refine zV_inc (ls' := fun z => [zR 101, zU, zI y2, zI z, zU, zU, zU]) dX3_least_160 (Nat.le_of_ble_eq_true rfl) rfl rfl (fun _ => rfl) (fun x3_12 e_x3_12 => ?_)
  have hP := hP x3_12 e_x3_12
  refine zV_goto (tgt := 56) dX3_least_163 (by decide) ?_
  exact H56 _ _ hP
def P_M_least_L56 (y2 : Int) (Q : Int → zH → Prop) (k103 : Int → zH → Prop) (k166 : zH → Prop) : Nat → Int → zH → Prop
| 0, _, _ => False
| n56 + 1, y3, h =>
if zshl 1 (zd h 101 94) ≤ y3 then
(k166 h)
else
(P_M_bitsOf y3 h (fun r8 h9 =>
if r8 = y2 then
(P_M_tried (-1005) (-1005) y3 h9 (fun r10 h11 =>
if 0 ≤ r10 then
(if r10 = 0 then
(k103 y3 h11)
else
(P_M_least_J160 y2 y3 h11 Q (P_M_least_L56 y2 Q k103 k166 n56)))
else
(Q r10 h11)))
else
(P_M_least_J160 y2 y3 h9 Q (P_M_least_L56 y2 Q k103 k166 n56))))
theorem W_M_least_L56 (y2 : Int) (Q : Int → zH → Prop) (k103 : Int → zH → Prop) (k166 : zH → Prop) (H103 : ∀ (v3 : Int) (h' : zH), k103 v3 h' → zV true zy_X3_least 9 103 [zR 101, zU, zU, zI v3, zU, zU, zU] [] h' (zQ0 Q)) (H166 : ∀ (h' : zH), k166 h' → zV true zy_X3_least 9 166 [zR 101, zU, zI y2, zU, zU, zU, zU] [] h' (zQ0 Q)) : ∀ (n56 : Nat) (y3 : Int) (h : zH), P_M_least_L56 y2 Q k103 k166 n56 y3 h → zV true zy_X3_least 9 56 [zR 101, zU, zI y2, zI y3, zU, zU, zU] [] h (zQ0 Q) := by
  intro n56
  induction n56 with
  | zero => intro y3 h hP; exact absurd hP id
  | succ n56 ih =>
    intro y3 h hP
    unfold P_M_least_L56 at hP
    refine zV_iload_n dX3_least_56 rfl ?_
    refine zV_iconst dX3_least_57 ⟨by decide, by decide⟩ ?_
    refine zV_aload_n dX3_least_58 rfl ?_
    refine zV_gf dX3_least_59 sa_101 (by decide) fl_X3_514_3 rfl (ki := 94) rfl ?_
    refine zV_ishl dX3_least_62 ?_
    refine zV_icmp_ge (tgt := 166) dX3_least_63 (by decide) (fun c => ?_) (fun c => ?_)
    · have hP := zif_p hP c
      refine zV_mask [true, true, true, false, true, true, true] (ls' := [zR 101, zU, zI y2, zU, zU, zU, zU]) rfl ?_
      exact H166 _ hP
    · have hP := zif_n hP c
      refine zV_iload_n dX3_least_66 rfl ?_
      refine zV_cSk (As := [zI y3]) (rest := []) dX3_least_67 (W_M_bitsOf _ _ _ hP) mi_X3_bitsOf ml_X3_602 (by decide) (Nat.le_of_ble_eq_true rfl) rfl rfl rfl (fun r8 h9 hP => ?_)
      refine zV_iload_n dX3_least_70 rfl ?_
      refine zV_icmp_eq (tgt := 77) dX3_least_71 (by decide) (fun c => ?_) (fun c => ?_)
      · have hP := zif_p hP c
        refine zV_aload_n dX3_least_77 rfl ?_
        refine zV_sipush dX3_least_78 ⟨by decide, by decide, by decide⟩ ?_
        refine zV_sipush dX3_least_81 ⟨by decide, by decide, by decide⟩ ?_
        refine zV_iload_n dX3_least_84 rfl ?_
        refine zV_cVk (As := [zI (-1005), zI (-1005), zI y3]) (rest := []) dX3_least_85 sa_101 (W_M_tried _ _ _ _ _ hP) mi_X3_tried ml_X3_599 (by decide) (Nat.le_of_ble_eq_true rfl) rfl rfl rfl (fun r10 h11 hP => ?_)
        refine zV_istore (ls' := [zR 101, zU, zI y2, zI y3, zI r10, zU, zU]) dX3_least_88 (Nat.le_of_ble_eq_true rfl) rfl rfl ?_
        refine zV_iload dX3_least_90 rfl ?_
        refine zV_if_ge (tgt := 98) dX3_least_92 (by decide) (fun c => ?_) (fun c => ?_)
        · have hP := zif_p hP c
          refine zV_iload dX3_least_98 rfl ?_
          refine zV_if_ne (tgt := 160) dX3_least_100 (by decide) (fun c => ?_) (fun c => ?_)
          · have hP := zif_n hP c
            refine zV_mask [true, true, true, true, false, true, true] (ls' := [zR 101, zU, zI y2, zI y3, zU, zU, zU]) rfl ?_
            exact W_M_least_J160 _ _ _ _ _ ih hP
          · have hP := zif_p hP c
            refine zV_mask [true, true, false, true, false, true, true] (ls' := [zR 101, zU, zU, zI y3, zU, zU, zU]) rfl ?_
            exact H103 _ _ hP
        · have hP := zif_n hP c
          refine zV_iload dX3_least_95 rfl ?_
          exact zV_ireturn dX3_least_97 rfl rfl rfl ⟨rfl, hP⟩
      · have hP := zif_n hP c
        refine zV_goto (tgt := 160) dX3_least_74 (by decide) ?_
        exact W_M_least_J160 _ _ _ _ _ ih hP
def P_M_least_L46 (Q : Int → zH → Prop) (k103 : Int → zH → Prop) : Nat → Int → zH → Prop
| 0, _, _ => False
| n46 + 1, y2, h =>
if zd h 101 94 < y2 then
(Q (zd h 101 94) h)
else
(∃ n56, P_M_least_L56 y2 Q k103 (fun h14 =>
∀ x2_15 : Int, x2_15 = w32 (y2 + 1) →
P_M_least_L46 Q k103 n46 x2_15 h14) n56 0 h)
theorem W_M_least_L46 (Q : Int → zH → Prop) (k103 : Int → zH → Prop) (H103 : ∀ (v3 : Int) (h' : zH), k103 v3 h' → zV true zy_X3_least 9 103 [zR 101, zU, zU, zI v3, zU, zU, zU] [] h' (zQ0 Q)) : ∀ (n46 : Nat) (y2 : Int) (h : zH), P_M_least_L46 Q k103 n46 y2 h → zV true zy_X3_least 9 46 [zR 101, zU, zI y2, zU, zU, zU, zU] [] h (zQ0 Q) := by
  intro n46
  induction n46 with
  | zero => intro y2 h hP; exact absurd hP id
  | succ n46 ih =>
    intro y2 h hP
    unfold P_M_least_L46 at hP
    refine zV_iload_n dX3_least_46 rfl ?_
    refine zV_aload_n dX3_least_47 rfl ?_
    refine zV_gf dX3_least_48 sa_101 (by decide) fl_X3_514_3 rfl (ki := 94) rfl ?_
    refine zV_icmp_gt (tgt := 172) dX3_least_51 (by decide) (fun c => ?_) (fun c => ?_)
    · have hP := zif_p hP c
      refine zV_aload_n dX3_least_172 rfl ?_
      refine zV_gf dX3_least_173 sa_101 (by decide) fl_X3_514_3 rfl (ki := 94) rfl ?_
      exact zV_ireturn dX3_least_176 rfl rfl rfl ⟨rfl, hP⟩
    · have hP := zif_n hP c
      refine zV_iconst dX3_least_54 ⟨by decide, by decide⟩ ?_
      refine zV_istore_n (ls' := [zR 101, zU, zI y2, zI 0, zU, zU, zU]) dX3_least_55 rfl (Nat.le_of_ble_eq_true rfl) rfl rfl ?_
      obtain ⟨n56, hP⟩ := hP
      refine W_M_least_L56 _ _ _ _ H103 (fun h14 hP => ?_) n56 _ _ hP
      refine zV_inc (ls' := fun z => [zR 101, zU, zI z, zU, zU, zU, zU]) dX3_least_166 (Nat.le_of_ble_eq_true rfl) rfl rfl (fun _ => rfl) (fun x2_15 e_x2_15 => ?_)
      have hP := hP x2_15 e_x2_15
      refine zV_goto (tgt := 46) dX3_least_169 (by decide) ?_
      exact ih _ _ hP
def P_M_least_J145 (y3 : Int) (y5 : Int) (y6 : Int) (h : zH) (Q : Int → zH → Prop) (k109 : Int → Int → zH → Prop) : Prop :=
∀ x6_18 : Int, x6_18 = w32 (y6 + 1) →
k109 y5 x6_18 h
theorem W_M_least_J145 (y3 : Int) (y5 : Int) (y6 : Int) (h : zH) (Q : Int → zH → Prop) (k109 : Int → Int → zH → Prop) (H109 : ∀ (v5 v6 : Int) (h' : zH), k109 v5 v6 h' → zV true zy_X3_least 9 109 [zR 101, zU, zU, zI y3, zU, zI v5, zI v6] [] h' (zQ0 Q)) (hP : P_M_least_J145 y3 y5 y6 h Q k109) : zV true zy_X3_least 9 145 [zR 101, zU, zU, zI y3, zU, zI y5, zI y6] [] h (zQ0 Q) := by
  unfold P_M_least_J145 at hP
  refine zV_inc (ls' := fun z => [zR 101, zU, zU, zI y3, zU, zI y5, zI z]) dX3_least_145 (Nat.le_of_ble_eq_true rfl) rfl rfl (fun _ => rfl) (fun x6_18 e_x6_18 => ?_)
  have hP := hP x6_18 e_x6_18
  refine zV_goto (tgt := 109) dX3_least_148 (by decide) ?_
  exact H109 _ _ _ hP
def P_M_least_L109 (y3 : Int) (Q : Int → zH → Prop) : Nat → Int → Int → zH → Prop
| 0, _, _, _ => False
| n109 + 1, y5, y6, h =>
if zd h 101 94 ≤ y6 then
(∀ h17 : zH, h17 = zw h 101 94 y5 →
Q y5 h17)
else
(if zand (zshr y3 y6) 1 = 1 then
((0 ≤ y6 ∧ y6 < 500) ∧
(0 ≤ y5 ∧ y5 < 500) ∧
∀ h19 : zH, h19 = zw h 165 y5 (zd h 165 y6) →
∀ x5_20 : Int, x5_20 = w32 (y5 + 1) →
P_M_least_J145 y3 x5_20 y6 h19 Q (P_M_least_L109 y3 Q n109))
else
(P_M_least_J145 y3 y5 y6 h Q (P_M_least_L109 y3 Q n109)))
theorem W_M_least_L109 (y3 : Int) (Q : Int → zH → Prop) : ∀ (n109 : Nat) (y5 y6 : Int) (h : zH), P_M_least_L109 y3 Q n109 y5 y6 h → zV true zy_X3_least 9 109 [zR 101, zU, zU, zI y3, zU, zI y5, zI y6] [] h (zQ0 Q) := by
  intro n109
  induction n109 with
  | zero => intro y5 y6 h hP; exact absurd hP id
  | succ n109 ih =>
    intro y5 y6 h hP
    unfold P_M_least_L109 at hP
    refine zV_iload dX3_least_109 rfl ?_
    refine zV_aload_n dX3_least_111 rfl ?_
    refine zV_gf dX3_least_112 sa_101 (by decide) fl_X3_514_3 rfl (ki := 94) rfl ?_
    refine zV_icmp_ge (tgt := 151) dX3_least_115 (by decide) (fun c => ?_) (fun c => ?_)
    · have hP := zif_p hP c
      refine zV_aload_n dX3_least_151 rfl ?_
      refine zV_iload dX3_least_152 rfl ?_
      refine zV_pf dX3_least_154 sa_101 (by decide) fl_X3_514_3 rfl rfl trivial (ki := 94) rfl (fun h17 e_h17 => ?_)
      have hP := hP h17 e_h17
      refine zV_iload dX3_least_157 rfl ?_
      exact zV_ireturn dX3_least_159 rfl rfl rfl ⟨rfl, hP⟩
    · have hP := zif_n hP c
      refine zV_iload_n dX3_least_118 rfl ?_
      refine zV_iload dX3_least_119 rfl ?_
      refine zV_ishr dX3_least_121 ?_
      refine zV_iconst dX3_least_122 ⟨by decide, by decide⟩ ?_
      refine zV_iand dX3_least_123 ?_
      refine zV_iconst dX3_least_124 ⟨by decide, by decide⟩ ?_
      refine zV_icmp_ne (tgt := 145) dX3_least_125 (by decide) (fun c => ?_) (fun c => ?_)
      · have hP := zif_n hP c
        exact W_M_least_J145 _ _ _ _ _ _ ih hP
      · have hP := zif_p hP c
        refine zV_aload_n dX3_least_128 rfl ?_
        refine zV_sg dX3_least_129 fm_101_93 sa_101 (by decide) fl_X3_201_3 rfl ?_
        refine zV_iload dX3_least_132 rfl ?_
        refine zV_aload_n dX3_least_134 rfl ?_
        refine zV_sg dX3_least_135 fm_101_93 sa_101 (by decide) fl_X3_201_3 rfl ?_
        refine zV_iload dX3_least_138 rfl ?_
        obtain ⟨ob, hP⟩ := hP
        refine zV_ia dX3_least_140 sa_165 ob ?_
        obtain ⟨ob, hP⟩ := hP
        refine zV_ias dX3_least_141 sa_165 ob (fun h19 e_h19 => ?_)
        have hP := hP h19 e_h19
        refine zV_inc (ls' := fun z => [zR 101, zU, zU, zI y3, zU, zI z, zI y6]) dX3_least_142 (Nat.le_of_ble_eq_true rfl) rfl rfl (fun _ => rfl) (fun x5_20 e_x5_20 => ?_)
        have hP := hP x5_20 e_x5_20
        exact W_M_least_J145 _ _ _ _ _ _ ih hP
def P_M_least (a1 : Int) (h : zH) (Q : Int → zH → Prop) : Prop :=
P_M_areSteps a1 h (fun r1 h2 =>
if r1 = 0 then
(P_M_fail (-1001) h2 (fun r23 h24 =>
Q r23 h24))
else
(P_M_hasCore h2 (fun r3 h4 =>
if r3 = 0 then
(P_M_fail (-1002) h4 (fun r5 h6 =>
Q r5 h6))
else
(if zd h4 101 94 ≤ 10 then
(∀ h7 : zH, h7 = zw h4 101 89 a1 →
∃ n46, P_M_least_L46 Q (fun u3_103 h16 =>
∃ n109, P_M_least_L109 u3_103 Q n109 0 0 h16) n46 0 h7)
else
(P_M_fail (-1002) h4 (fun r21 h22 =>
Q r21 h22))))))
theorem W_M_least (a1 : Int) (h : zH) (Q : Int → zH → Prop) (hP : P_M_least a1 h Q) : zC true zy_X3_least 9 [zR 101, zI a1] h (zQ0 Q) := by
  unfold P_M_least at hP
  refine zC.of (by decide) (Nat.le_of_ble_eq_true rfl) ?_
  show zV true zy_X3_least 9 0 [zR 101, zI a1, zU, zU, zU, zU, zU] [] h (zQ0 Q)
  refine zV_iload_n dX3_least_0 rfl ?_
  refine zV_cSk (As := [zI a1]) (rest := []) dX3_least_1 (W_M_areSteps _ _ _ hP) mi_X3_areSteps ml_X3_578 (by decide) (Nat.le_of_ble_eq_true rfl) rfl rfl rfl (fun r1 h2 hP => ?_)
  refine zV_if_ne (tgt := 15) dX3_least_4 (by decide) (fun c => ?_) (fun c => ?_)
  · have hP := zif_n hP c
    refine zV_aload_n dX3_least_15 rfl ?_
    refine zV_cVk (As := []) (rest := []) dX3_least_16 sa_101 (W_M_hasCore _ _ hP) mi_X3_hasCore ml_X3_593 (by decide) (Nat.le_of_ble_eq_true rfl) rfl rfl rfl (fun r3 h4 hP => ?_)
    refine zV_if_eq (tgt := 31) dX3_least_19 (by decide) (fun c => ?_) (fun c => ?_)
    · have hP := zif_p hP c
      refine zV_aload_n dX3_least_31 rfl ?_
      refine zV_sipush dX3_least_32 ⟨by decide, by decide, by decide⟩ ?_
      refine zV_cVk (As := [zI (-1002)]) (rest := []) dX3_least_35 sa_101 (W_M_fail _ _ _ hP) mi_X3_fail ml_X3_242 (by decide) (Nat.le_of_ble_eq_true rfl) rfl rfl rfl (fun r5 h6 hP => ?_)
      exact zV_ireturn dX3_least_38 rfl rfl rfl ⟨rfl, hP⟩
    · have hP := zif_n hP c
      refine zV_aload_n dX3_least_22 rfl ?_
      refine zV_gf dX3_least_23 sa_101 (by decide) fl_X3_514_3 rfl (ki := 94) rfl ?_
      refine zV_bipush dX3_least_26 ⟨by decide, by decide, by decide⟩ ?_
      refine zV_icmp_le (tgt := 39) dX3_least_28 (by decide) (fun c => ?_) (fun c => ?_)
      · have hP := zif_p hP c
        refine zV_aload_n dX3_least_39 rfl ?_
        refine zV_iload_n dX3_least_40 rfl ?_
        refine zV_pf dX3_least_41 sa_101 (by decide) fl_X3_490_3 rfl rfl trivial (ki := 89) rfl (fun h7 e_h7 => ?_)
        have hP := hP h7 e_h7
        refine zV_iconst dX3_least_44 ⟨by decide, by decide⟩ ?_
        refine zV_istore_n (ls' := [zR 101, zI a1, zI 0, zU, zU, zU, zU]) dX3_least_45 rfl (Nat.le_of_ble_eq_true rfl) rfl rfl ?_
        obtain ⟨n46, hP⟩ := hP
        refine zV_mask [true, false, true, true, true, true, true] (ls' := [zR 101, zU, zI 0, zU, zU, zU, zU]) rfl ?_
        refine W_M_least_L46 _ _ (fun u3_103 h16 hP => ?_) n46 _ _ hP
        refine zV_iconst dX3_least_103 ⟨by decide, by decide⟩ ?_
        refine zV_istore (ls' := [zR 101, zU, zU, zI u3_103, zU, zI 0, zU]) dX3_least_104 (Nat.le_of_ble_eq_true rfl) rfl rfl ?_
        refine zV_iconst dX3_least_106 ⟨by decide, by decide⟩ ?_
        refine zV_istore (ls' := [zR 101, zU, zU, zI u3_103, zU, zI 0, zI 0]) dX3_least_107 (Nat.le_of_ble_eq_true rfl) rfl rfl ?_
        obtain ⟨n109, hP⟩ := hP
        refine W_M_least_L109 _ _ n109 _ _ _ hP
      · have hP := zif_n hP c
        refine zV_aload_n dX3_least_31 rfl ?_
        refine zV_sipush dX3_least_32 ⟨by decide, by decide, by decide⟩ ?_
        refine zV_cVk (As := [zI (-1002)]) (rest := []) dX3_least_35 sa_101 (W_M_fail _ _ _ hP) mi_X3_fail ml_X3_242 (by decide) (Nat.le_of_ble_eq_true rfl) rfl rfl rfl (fun r21 h22 hP => ?_)
        exact zV_ireturn dX3_least_38 rfl rfl rfl ⟨rfl, hP⟩
  · have hP := zif_p hP c
    refine zV_aload_n dX3_least_7 rfl ?_
    refine zV_sipush dX3_least_8 ⟨by decide, by decide, by decide⟩ ?_
    refine zV_cVk (As := [zI (-1001)]) (rest := []) dX3_least_11 sa_101 (W_M_fail _ _ _ hP) mi_X3_fail ml_X3_242 (by decide) (Nat.le_of_ble_eq_true rfl) rfl rfl rfl (fun r23 h24 hP => ?_)
    exact zV_ireturn dX3_least_14 rfl rfl rfl ⟨rfl, hP⟩
def P_M_take_L27 (Q : Int → zH → Prop) (k53 : zH → Prop) : Nat → Int → zH → Prop
| 0, _, _ => False
| n27 + 1, y1, h =>
if zd h 101 108 < y1 then
(k53 h)
else
((0 ≤ y1 ∧ y1 < 1602) ∧
(0 ≤ y1 ∧ y1 < 801) ∧
∀ h4 : zH, h4 = zw h 172 y1 (zd h 152 y1) →
∀ x1_5 : Int, x1_5 = w32 (y1 + 1) →
P_M_take_L27 Q k53 n27 x1_5 h4)
theorem W_M_take_L27 (Q : Int → zH → Prop) (k53 : zH → Prop) (H53 : ∀ (h' : zH), k53 h' → zV true zy_X3_take 2 53 [zR 101, zU] [] h' (zQ0 Q)) : ∀ (n27 : Nat) (y1 : Int) (h : zH), P_M_take_L27 Q k53 n27 y1 h → zV true zy_X3_take 2 27 [zR 101, zI y1] [] h (zQ0 Q) := by
  intro n27
  induction n27 with
  | zero => intro y1 h hP; exact absurd hP id
  | succ n27 ih =>
    intro y1 h hP
    unfold P_M_take_L27 at hP
    refine zV_iload_n dX3_take_27 rfl ?_
    refine zV_aload_n dX3_take_28 rfl ?_
    refine zV_gf dX3_take_29 sa_101 (by decide) fl_X3_605_3 rfl (ki := 108) rfl ?_
    refine zV_icmp_gt (tgt := 53) dX3_take_32 (by decide) (fun c => ?_) (fun c => ?_)
    · have hP := zif_p hP c
      refine zV_mask [true, false] (ls' := [zR 101, zU]) rfl ?_
      exact H53 _ hP
    · have hP := zif_n hP c
      refine zV_aload_n dX3_take_35 rfl ?_
      refine zV_sg dX3_take_36 fm_101_109 sa_101 (by decide) fl_X3_222_3 rfl ?_
      refine zV_iload_n dX3_take_39 rfl ?_
      refine zV_aload_n dX3_take_40 rfl ?_
      refine zV_sg dX3_take_41 fm_101_78 sa_101 (by decide) fl_X3_162_3 rfl ?_
      refine zV_iload_n dX3_take_44 rfl ?_
      obtain ⟨ob, hP⟩ := hP
      refine zV_ia dX3_take_45 sa_152 ob ?_
      obtain ⟨ob, hP⟩ := hP
      refine zV_ias dX3_take_46 sa_172 ob (fun h4 e_h4 => ?_)
      have hP := hP h4 e_h4
      refine zV_inc (ls' := fun z => [zR 101, zI z]) dX3_take_47 (Nat.le_of_ble_eq_true rfl) rfl rfl (fun _ => rfl) (fun x1_5 e_x1_5 => ?_)
      have hP := hP x1_5 e_x1_5
      refine zV_goto (tgt := 27) dX3_take_50 (by decide) ?_
      exact ih _ _ hP
def P_M_take_L55 (Q : Int → zH → Prop) : Nat → Int → zH → Prop
| 0, _, _ => False
| n55 + 1, y1, h =>
(0 ≤ zd h 101 108 ∧ zd h 101 108 < 801) ∧
if zd h 172 (zd h 101 108) ≤ y1 then
(Q (zd h 101 108) h)
else
((0 ≤ y1 ∧ y1 < 16100) ∧
(0 ≤ y1 ∧ y1 < 8100) ∧
∀ h7 : zH, h7 = zw h 173 y1 (zd h 153 y1) →
∀ x1_8 : Int, x1_8 = w32 (y1 + 1) →
P_M_take_L55 Q n55 x1_8 h7)
theorem W_M_take_L55 (Q : Int → zH → Prop) : ∀ (n55 : Nat) (y1 : Int) (h : zH), P_M_take_L55 Q n55 y1 h → zV true zy_X3_take 2 55 [zR 101, zI y1] [] h (zQ0 Q) := by
  intro n55
  induction n55 with
  | zero => intro y1 h hP; exact absurd hP id
  | succ n55 ih =>
    intro y1 h hP
    unfold P_M_take_L55 at hP
    refine zV_iload_n dX3_take_55 rfl ?_
    refine zV_aload_n dX3_take_56 rfl ?_
    refine zV_sg dX3_take_57 fm_101_109 sa_101 (by decide) fl_X3_222_3 rfl ?_
    refine zV_aload_n dX3_take_60 rfl ?_
    refine zV_gf dX3_take_61 sa_101 (by decide) fl_X3_605_3 rfl (ki := 108) rfl ?_
    obtain ⟨ob, hP⟩ := hP
    refine zV_ia dX3_take_64 sa_172 ob ?_
    refine zV_icmp_ge (tgt := 86) dX3_take_65 (by decide) (fun c => ?_) (fun c => ?_)
    · have hP := zif_p hP c
      refine zV_aload_n dX3_take_86 rfl ?_
      refine zV_gf dX3_take_87 sa_101 (by decide) fl_X3_605_3 rfl (ki := 108) rfl ?_
      exact zV_ireturn dX3_take_90 rfl rfl rfl ⟨rfl, hP⟩
    · have hP := zif_n hP c
      refine zV_aload_n dX3_take_68 rfl ?_
      refine zV_sg dX3_take_69 fm_101_110 sa_101 (by decide) fl_X3_225_3 rfl ?_
      refine zV_iload_n dX3_take_72 rfl ?_
      refine zV_aload_n dX3_take_73 rfl ?_
      refine zV_sg dX3_take_74 fm_101_79 sa_101 (by decide) fl_X3_165_3 rfl ?_
      refine zV_iload_n dX3_take_77 rfl ?_
      obtain ⟨ob, hP⟩ := hP
      refine zV_ia dX3_take_78 sa_153 ob ?_
      obtain ⟨ob, hP⟩ := hP
      refine zV_ias dX3_take_79 sa_173 ob (fun h7 e_h7 => ?_)
      have hP := hP h7 e_h7
      refine zV_inc (ls' := fun z => [zR 101, zI z]) dX3_take_80 (Nat.le_of_ble_eq_true rfl) rfl rfl (fun _ => rfl) (fun x1_8 e_x1_8 => ?_)
      have hP := hP x1_8 e_x1_8
      refine zV_goto (tgt := 55) dX3_take_83 (by decide) ?_
      exact ih _ _ hP
def P_M_take (h : zH) (Q : Int → zH → Prop) : Prop :=
P_M_hasCore h (fun r1 h2 =>
if r1 = 0 then
(P_M_fail (-1002) h2 (fun r9 h10 =>
Q r9 h10))
else
(∀ h3 : zH, h3 = zw h2 101 108 (zd h2 154 0) →
∃ n27, P_M_take_L27 Q (fun h6 =>
∃ n55, P_M_take_L55 Q n55 0 h6) n27 0 h3))
theorem W_M_take (h : zH) (Q : Int → zH → Prop) (hP : P_M_take  h Q) : zC true zy_X3_take 2 [zR 101] h (zQ0 Q) := by
  unfold P_M_take at hP
  refine zC.of (by decide) (Nat.le_of_ble_eq_true rfl) ?_
  show zV true zy_X3_take 2 0 [zR 101, zU] [] h (zQ0 Q)
  refine zV_aload_n dX3_take_0 rfl ?_
  refine zV_cVk (As := []) (rest := []) dX3_take_1 sa_101 (W_M_hasCore _ _ hP) mi_X3_hasCore ml_X3_593 (by decide) (Nat.le_of_ble_eq_true rfl) rfl rfl rfl (fun r1 h2 hP => ?_)
  refine zV_if_ne (tgt := 15) dX3_take_4 (by decide) (fun c => ?_) (fun c => ?_)
  · have hP := zif_n hP c
    refine zV_aload_n dX3_take_15 rfl ?_
    refine zV_aload_n dX3_take_16 rfl ?_
    refine zV_sg dX3_take_17 fm_101_80 sa_101 (by decide) fl_X3_168_3 rfl ?_
    refine zV_iconst dX3_take_20 ⟨by decide, by decide⟩ ?_
    refine zV_ia dX3_take_21 sa_154 (by decide) ?_
    refine zV_pf dX3_take_22 sa_101 (by decide) fl_X3_605_3 rfl rfl trivial (ki := 108) rfl (fun h3 e_h3 => ?_)
    have hP := hP h3 e_h3
    refine zV_iconst dX3_take_25 ⟨by decide, by decide⟩ ?_
    refine zV_istore_n (ls' := [zR 101, zI 0]) dX3_take_26 rfl (Nat.le_of_ble_eq_true rfl) rfl rfl ?_
    obtain ⟨n27, hP⟩ := hP
    refine W_M_take_L27 _ _ (fun h6 hP => ?_) n27 _ _ hP
    refine zV_iconst dX3_take_53 ⟨by decide, by decide⟩ ?_
    refine zV_istore_n (ls' := [zR 101, zI 0]) dX3_take_54 rfl (Nat.le_of_ble_eq_true rfl) rfl rfl ?_
    obtain ⟨n55, hP⟩ := hP
    refine W_M_take_L55 _ n55 _ _ hP
  · have hP := zif_p hP c
    refine zV_aload_n dX3_take_7 rfl ?_
    refine zV_sipush dX3_take_8 ⟨by decide, by decide, by decide⟩ ?_
    refine zV_cVk (As := [zI (-1002)]) (rest := []) dX3_take_11 sa_101 (W_M_fail _ _ _ hP) mi_X3_fail ml_X3_242 (by decide) (Nat.le_of_ble_eq_true rfl) rfl rfl rfl (fun r9 h10 hP => ?_)
    exact zV_ireturn dX3_take_14 rfl rfl rfl ⟨rfl, hP⟩
def P_M_claim_L38 (Q : Int → zH → Prop) (k62 : zH → Prop) : Nat → Int → zH → Prop
| 0, _, _ => False
| n38 + 1, y3, h =>
if zd h 101 42 ≤ y3 then
(k62 h)
else
((0 ≤ y3 ∧ y3 < 40) ∧
P_M_lay (zd h 127 y3) h (fun r6 h7 =>
∀ x3_8 : Int, x3_8 = w32 (y3 + 1) →
P_M_claim_L38 Q k62 n38 x3_8 h7))
theorem W_M_claim_L38 (Q : Int → zH → Prop) (k62 : zH → Prop) (H62 : ∀ (h' : zH), k62 h' → zV true zy_X3_claim 4 62 [zR 101, zU, zU, zU, zU] [] h' (zQ0 Q)) : ∀ (n38 : Nat) (y3 : Int) (h : zH), P_M_claim_L38 Q k62 n38 y3 h → zV true zy_X3_claim 4 38 [zR 101, zU, zU, zI y3, zU] [] h (zQ0 Q) := by
  intro n38
  induction n38 with
  | zero => intro y3 h hP; exact absurd hP id
  | succ n38 ih =>
    intro y3 h hP
    unfold P_M_claim_L38 at hP
    refine zV_iload_n dX3_claim_38 rfl ?_
    refine zV_aload_n dX3_claim_39 rfl ?_
    refine zV_gf dX3_claim_40 sa_101 (by decide) fl_X3_292_3 rfl (ki := 42) rfl ?_
    refine zV_icmp_ge (tgt := 62) dX3_claim_43 (by decide) (fun c => ?_) (fun c => ?_)
    · have hP := zif_p hP c
      refine zV_mask [true, true, true, false, true] (ls' := [zR 101, zU, zU, zU, zU]) rfl ?_
      exact H62 _ hP
    · have hP := zif_n hP c
      refine zV_aload_n dX3_claim_46 rfl ?_
      refine zV_aload_n dX3_claim_47 rfl ?_
      refine zV_sg dX3_claim_48 fm_101_41 sa_101 (by decide) fl_X3_86_3 rfl ?_
      refine zV_iload_n dX3_claim_51 rfl ?_
      obtain ⟨ob, hP⟩ := hP
      refine zV_ia dX3_claim_52 sa_127 ob ?_
      refine zV_cVv (As := [zI (zd h 127 y3)]) (rest := []) dX3_claim_53 sa_101 (W_M_lay _ _ _ hP) mi_X3_lay ml_X3_282 (by decide) (Nat.le_of_ble_eq_true rfl) rfl rfl (fun r6 h7 hP => ?_)
      refine zV_inc (ls' := fun z => [zR 101, zU, zU, zI z, zU]) dX3_claim_56 (Nat.le_of_ble_eq_true rfl) rfl rfl (fun _ => rfl) (fun x3_8 e_x3_8 => ?_)
      have hP := hP x3_8 e_x3_8
      refine zV_goto (tgt := 38) dX3_claim_59 (by decide) ?_
      exact ih _ _ hP
def P_M_claim_L110 (y3 : Int) (Q : Int → zH → Prop) (k146 : zH → Prop) : Nat → Int → zH → Prop
| 0, _, _ => False
| n110 + 1, y4, h =>
if y3 ≤ y4 then
(k146 h)
else
((0 ≤ zd h 101 108 ∧ zd h 101 108 < 801) ∧
(0 ≤ y4 ∧ y4 < 40) ∧
(0 ≤ w32 ((zd h 172 (zd h 101 108)) + y4) ∧ w32 ((zd h 172 (zd h 101 108)) + y4) < 8100) ∧
∀ h14 : zH, h14 = zw h 173 (w32 ((zd h 172 (zd h 101 108)) + y4)) (zd h 126 y4) →
∀ x4_15 : Int, x4_15 = w32 (y4 + 1) →
P_M_claim_L110 y3 Q k146 n110 x4_15 h14)
theorem W_M_claim_L110 (y3 : Int) (Q : Int → zH → Prop) (k146 : zH → Prop) (H146 : ∀ (h' : zH), k146 h' → zV true zy_X3_claim 4 146 [zR 101, zU, zU, zI y3, zU] [] h' (zQ0 Q)) : ∀ (n110 : Nat) (y4 : Int) (h : zH), P_M_claim_L110 y3 Q k146 n110 y4 h → zV true zy_X3_claim 4 110 [zR 101, zU, zU, zI y3, zI y4] [] h (zQ0 Q) := by
  intro n110
  induction n110 with
  | zero => intro y4 h hP; exact absurd hP id
  | succ n110 ih =>
    intro y4 h hP
    unfold P_M_claim_L110 at hP
    refine zV_iload dX3_claim_110 rfl ?_
    refine zV_iload_n dX3_claim_112 rfl ?_
    refine zV_icmp_ge (tgt := 146) dX3_claim_113 (by decide) (fun c => ?_) (fun c => ?_)
    · have hP := zif_p hP c
      refine zV_mask [true, true, true, true, false] (ls' := [zR 101, zU, zU, zI y3, zU]) rfl ?_
      exact H146 _ hP
    · have hP := zif_n hP c
      refine zV_aload_n dX3_claim_116 rfl ?_
      refine zV_sg dX3_claim_117 fm_101_110 sa_101 (by decide) fl_X3_225_3 rfl ?_
      refine zV_aload_n dX3_claim_120 rfl ?_
      refine zV_sg dX3_claim_121 fm_101_109 sa_101 (by decide) fl_X3_222_3 rfl ?_
      refine zV_aload_n dX3_claim_124 rfl ?_
      refine zV_gf dX3_claim_125 sa_101 (by decide) fl_X3_605_3 rfl (ki := 108) rfl ?_
      obtain ⟨ob, hP⟩ := hP
      refine zV_ia dX3_claim_128 sa_172 ob ?_
      refine zV_iload dX3_claim_129 rfl ?_
      refine zV_iadd dX3_claim_131 ?_
      refine zV_aload_n dX3_claim_132 rfl ?_
      refine zV_sg dX3_claim_133 fm_101_39 sa_101 (by decide) fl_X3_83_3 rfl ?_
      refine zV_iload dX3_claim_136 rfl ?_
      obtain ⟨ob, hP⟩ := hP
      refine zV_ia dX3_claim_138 sa_126 ob ?_
      obtain ⟨ob, hP⟩ := hP
      refine zV_ias dX3_claim_139 sa_173 ob (fun h14 e_h14 => ?_)
      have hP := hP h14 e_h14
      refine zV_inc (ls' := fun z => [zR 101, zU, zU, zI y3, zI z]) dX3_claim_140 (Nat.le_of_ble_eq_true rfl) rfl rfl (fun _ => rfl) (fun x4_15 e_x4_15 => ?_)
      have hP := hP x4_15 e_x4_15
      refine zV_goto (tgt := 110) dX3_claim_143 (by decide) ?_
      exact ih _ _ hP
def P_M_claim (a1 : Int) (h : zH) (Q : Int → zH → Prop) : Prop :=
P_M_isRow a1 h (fun r1 h2 =>
if r1 = 0 then
(P_M_fail (-1001) h2 (fun r23 h24 =>
Q r23 h24))
else
(P_M_takeItems a1 h2 (fun r3 h4 =>
if 0 ≤ r3 then
(∀ h5 : zH, h5 = zw h4 101 40 0 →
∃ n38, P_M_claim_L38 Q (fun h9 =>
∀ x3_10 : Int, x3_10 = (zd h9 101 40) →
∀ h11 : zH, h11 = zw h9 101 40 0 →
if zd h11 101 108 = 800 then
(P_M_fail (-1003) h11 (fun r12 h13 =>
Q r12 h13))
else
((0 ≤ zd h11 101 108 ∧ zd h11 101 108 < 801) ∧
if w32 ((zd h11 172 (zd h11 101 108)) + x3_10) ≤ 8000 then
(∃ n110, P_M_claim_L110 x3_10 Q (fun h16 =>
(0 ≤ zd h16 101 108 ∧ zd h16 101 108 < 801) ∧
(0 ≤ w32 ((zd h16 101 108) + 1) ∧ w32 ((zd h16 101 108) + 1) < 801) ∧
∀ h17 : zH, h17 = zw h16 172 (w32 ((zd h16 101 108) + 1)) (w32 ((zd h16 172 (zd h16 101 108)) + x3_10)) →
∀ h18 : zH, h18 = zw h17 101 108 (w32 ((zd h17 101 108) + 1)) →
Q (zd h18 101 108) h18) n110 0 h11)
else
(P_M_fail (-1003) h11 (fun r19 h20 =>
Q r19 h20)))) n38 0 h5)
else
(P_M_fail r3 h4 (fun r21 h22 =>
Q r21 h22)))))
theorem W_M_claim (a1 : Int) (h : zH) (Q : Int → zH → Prop) (hP : P_M_claim a1 h Q) : zC true zy_X3_claim 4 [zR 101, zI a1] h (zQ0 Q) := by
  unfold P_M_claim at hP
  refine zC.of (by decide) (Nat.le_of_ble_eq_true rfl) ?_
  show zV true zy_X3_claim 4 0 [zR 101, zI a1, zU, zU, zU] [] h (zQ0 Q)
  refine zV_iload_n dX3_claim_0 rfl ?_
  refine zV_cSk (As := [zI a1]) (rest := []) dX3_claim_1 (W_M_isRow _ _ _ hP) mi_X3_isRow ml_X3_253 (by decide) (Nat.le_of_ble_eq_true rfl) rfl rfl rfl (fun r1 h2 hP => ?_)
  refine zV_if_ne (tgt := 15) dX3_claim_4 (by decide) (fun c => ?_) (fun c => ?_)
  · have hP := zif_n hP c
    refine zV_aload_n dX3_claim_15 rfl ?_
    refine zV_iload_n dX3_claim_16 rfl ?_
    refine zV_cVk (As := [zI a1]) (rest := []) dX3_claim_17 sa_101 (W_M_takeItems _ _ _ hP) mi_X3_takeItems ml_X3_310 (by decide) (Nat.le_of_ble_eq_true rfl) rfl rfl rfl (fun r3 h4 hP => ?_)
    refine zV_istore_n (ls' := [zR 101, zI a1, zI r3, zU, zU]) dX3_claim_20 rfl (Nat.le_of_ble_eq_true rfl) rfl rfl ?_
    refine zV_iload_n dX3_claim_21 rfl ?_
    refine zV_if_ge (tgt := 31) dX3_claim_22 (by decide) (fun c => ?_) (fun c => ?_)
    · have hP := zif_p hP c
      refine zV_aload_n dX3_claim_31 rfl ?_
      refine zV_iconst dX3_claim_32 ⟨by decide, by decide⟩ ?_
      refine zV_pf dX3_claim_33 sa_101 (by decide) fl_X3_279_3 rfl rfl trivial (ki := 40) rfl (fun h5 e_h5 => ?_)
      have hP := hP h5 e_h5
      refine zV_iconst dX3_claim_36 ⟨by decide, by decide⟩ ?_
      refine zV_istore_n (ls' := [zR 101, zI a1, zI r3, zI 0, zU]) dX3_claim_37 rfl (Nat.le_of_ble_eq_true rfl) rfl rfl ?_
      obtain ⟨n38, hP⟩ := hP
      refine zV_mask [true, false, false, true, true] (ls' := [zR 101, zU, zU, zI 0, zU]) rfl ?_
      refine W_M_claim_L38 _ _ (fun h9 hP => ?_) n38 _ _ hP
      refine zV_aload_n dX3_claim_62 rfl ?_
      refine zV_gf dX3_claim_63 sa_101 (by decide) fl_X3_279_3 rfl (ki := 40) rfl ?_
      refine zV_top (fun x3_10 e_x3_10 => ?_)
      have hP := hP x3_10 e_x3_10
      refine zV_istore_n (ls' := [zR 101, zU, zU, zI x3_10, zU]) dX3_claim_66 rfl (Nat.le_of_ble_eq_true rfl) rfl rfl ?_
      refine zV_aload_n dX3_claim_67 rfl ?_
      refine zV_iconst dX3_claim_68 ⟨by decide, by decide⟩ ?_
      refine zV_pf dX3_claim_69 sa_101 (by decide) fl_X3_279_3 rfl rfl trivial (ki := 40) rfl (fun h11 e_h11 => ?_)
      have hP := hP h11 e_h11
      refine zV_aload_n dX3_claim_72 rfl ?_
      refine zV_gf dX3_claim_73 sa_101 (by decide) fl_X3_605_3 rfl (ki := 108) rfl ?_
      refine zV_sipush dX3_claim_76 ⟨by decide, by decide, by decide⟩ ?_
      refine zV_icmp_eq (tgt := 99) dX3_claim_79 (by decide) (fun c => ?_) (fun c => ?_)
      · have hP := zif_p hP c
        refine zV_aload_n dX3_claim_99 rfl ?_
        refine zV_sipush dX3_claim_100 ⟨by decide, by decide, by decide⟩ ?_
        refine zV_cVk (As := [zI (-1003)]) (rest := []) dX3_claim_103 sa_101 (W_M_fail _ _ _ hP) mi_X3_fail ml_X3_242 (by decide) (Nat.le_of_ble_eq_true rfl) rfl rfl rfl (fun r12 h13 hP => ?_)
        exact zV_ireturn dX3_claim_106 rfl rfl rfl ⟨rfl, hP⟩
      · have hP := zif_n hP c
        refine zV_aload_n dX3_claim_82 rfl ?_
        refine zV_sg dX3_claim_83 fm_101_109 sa_101 (by decide) fl_X3_222_3 rfl ?_
        refine zV_aload_n dX3_claim_86 rfl ?_
        refine zV_gf dX3_claim_87 sa_101 (by decide) fl_X3_605_3 rfl (ki := 108) rfl ?_
        obtain ⟨ob, hP⟩ := hP
        refine zV_ia dX3_claim_90 sa_172 ob ?_
        refine zV_iload_n dX3_claim_91 rfl ?_
        refine zV_iadd dX3_claim_92 ?_
        refine zV_sipush dX3_claim_93 ⟨by decide, by decide, by decide⟩ ?_
        refine zV_icmp_le (tgt := 107) dX3_claim_96 (by decide) (fun c => ?_) (fun c => ?_)
        · have hP := zif_p hP c
          refine zV_iconst dX3_claim_107 ⟨by decide, by decide⟩ ?_
          refine zV_istore (ls' := [zR 101, zU, zU, zI x3_10, zI 0]) dX3_claim_108 (Nat.le_of_ble_eq_true rfl) rfl rfl ?_
          obtain ⟨n110, hP⟩ := hP
          refine W_M_claim_L110 _ _ _ (fun h16 hP => ?_) n110 _ _ hP
          refine zV_aload_n dX3_claim_146 rfl ?_
          refine zV_sg dX3_claim_147 fm_101_109 sa_101 (by decide) fl_X3_222_3 rfl ?_
          refine zV_aload_n dX3_claim_150 rfl ?_
          refine zV_gf dX3_claim_151 sa_101 (by decide) fl_X3_605_3 rfl (ki := 108) rfl ?_
          refine zV_iconst dX3_claim_154 ⟨by decide, by decide⟩ ?_
          refine zV_iadd dX3_claim_155 ?_
          refine zV_aload_n dX3_claim_156 rfl ?_
          refine zV_sg dX3_claim_157 fm_101_109 sa_101 (by decide) fl_X3_222_3 rfl ?_
          refine zV_aload_n dX3_claim_160 rfl ?_
          refine zV_gf dX3_claim_161 sa_101 (by decide) fl_X3_605_3 rfl (ki := 108) rfl ?_
          obtain ⟨ob, hP⟩ := hP
          refine zV_ia dX3_claim_164 sa_172 ob ?_
          refine zV_iload_n dX3_claim_165 rfl ?_
          refine zV_iadd dX3_claim_166 ?_
          obtain ⟨ob, hP⟩ := hP
          refine zV_ias dX3_claim_167 sa_172 ob (fun h17 e_h17 => ?_)
          have hP := hP h17 e_h17
          refine zV_aload_n dX3_claim_168 rfl ?_
          refine zV_dup dX3_claim_169 (Nat.ne_of_beq_eq_false rfl) ?_
          refine zV_gf dX3_claim_170 sa_101 (by decide) fl_X3_605_3 rfl (ki := 108) rfl ?_
          refine zV_iconst dX3_claim_173 ⟨by decide, by decide⟩ ?_
          refine zV_iadd dX3_claim_174 ?_
          refine zV_pf dX3_claim_175 sa_101 (by decide) fl_X3_605_3 rfl rfl trivial (ki := 108) rfl (fun h18 e_h18 => ?_)
          have hP := hP h18 e_h18
          refine zV_aload_n dX3_claim_178 rfl ?_
          refine zV_gf dX3_claim_179 sa_101 (by decide) fl_X3_605_3 rfl (ki := 108) rfl ?_
          exact zV_ireturn dX3_claim_182 rfl rfl rfl ⟨rfl, hP⟩
        · have hP := zif_n hP c
          refine zV_aload_n dX3_claim_99 rfl ?_
          refine zV_sipush dX3_claim_100 ⟨by decide, by decide, by decide⟩ ?_
          refine zV_cVk (As := [zI (-1003)]) (rest := []) dX3_claim_103 sa_101 (W_M_fail _ _ _ hP) mi_X3_fail ml_X3_242 (by decide) (Nat.le_of_ble_eq_true rfl) rfl rfl rfl (fun r19 h20 hP => ?_)
          exact zV_ireturn dX3_claim_106 rfl rfl rfl ⟨rfl, hP⟩
    · have hP := zif_n hP c
      refine zV_aload_n dX3_claim_25 rfl ?_
      refine zV_iload_n dX3_claim_26 rfl ?_
      refine zV_cVk (As := [zI r3]) (rest := []) dX3_claim_27 sa_101 (W_M_fail _ _ _ hP) mi_X3_fail ml_X3_242 (by decide) (Nat.le_of_ble_eq_true rfl) rfl rfl rfl (fun r21 h22 hP => ?_)
      exact zV_ireturn dX3_claim_30 rfl rfl rfl ⟨rfl, hP⟩
  · have hP := zif_p hP c
    refine zV_aload_n dX3_claim_7 rfl ?_
    refine zV_sipush dX3_claim_8 ⟨by decide, by decide, by decide⟩ ?_
    refine zV_cVk (As := [zI (-1001)]) (rest := []) dX3_claim_11 sa_101 (W_M_fail _ _ _ hP) mi_X3_fail ml_X3_242 (by decide) (Nat.le_of_ble_eq_true rfl) rfl rfl rfl (fun r23 h24 hP => ?_)
    exact zV_ireturn dX3_claim_14 rfl rfl rfl ⟨rfl, hP⟩
def P_M_strike_L41 (y1 : Int) (y2 : Int) (Q : Int → zH → Prop) (k76 : zH → Prop) : Nat → Int → zH → Prop
| 0, _, _ => False
| n41 + 1, y3, h =>
(0 ≤ zd h 101 108 ∧ zd h 101 108 < 801) ∧
if w32 ((zd h 172 (zd h 101 108)) - y2) ≤ y3 then
(k76 h)
else
((0 ≤ w32 (y3 + y2) ∧ w32 (y3 + y2) < 8100) ∧
(0 ≤ y3 ∧ y3 < 8100) ∧
∀ h5 : zH, h5 = zw h 173 y3 (zd h 173 (w32 (y3 + y2))) →
∀ x3_6 : Int, x3_6 = w32 (y3 + 1) →
P_M_strike_L41 y1 y2 Q k76 n41 x3_6 h5)
theorem W_M_strike_L41 (y1 : Int) (y2 : Int) (Q : Int → zH → Prop) (k76 : zH → Prop) (H76 : ∀ (h' : zH), k76 h' → zV true zy_X3_strike 2 76 [zR 101, zI y1, zI y2, zU] [] h' (zQ0 Q)) : ∀ (n41 : Nat) (y3 : Int) (h : zH), P_M_strike_L41 y1 y2 Q k76 n41 y3 h → zV true zy_X3_strike 2 41 [zR 101, zI y1, zI y2, zI y3] [] h (zQ0 Q) := by
  intro n41
  induction n41 with
  | zero => intro y3 h hP; exact absurd hP id
  | succ n41 ih =>
    intro y3 h hP
    unfold P_M_strike_L41 at hP
    refine zV_iload_n dX3_strike_41 rfl ?_
    refine zV_aload_n dX3_strike_42 rfl ?_
    refine zV_sg dX3_strike_43 fm_101_109 sa_101 (by decide) fl_X3_222_3 rfl ?_
    refine zV_aload_n dX3_strike_46 rfl ?_
    refine zV_gf dX3_strike_47 sa_101 (by decide) fl_X3_605_3 rfl (ki := 108) rfl ?_
    obtain ⟨ob, hP⟩ := hP
    refine zV_ia dX3_strike_50 sa_172 ob ?_
    refine zV_iload_n dX3_strike_51 rfl ?_
    refine zV_isub dX3_strike_52 ?_
    refine zV_icmp_ge (tgt := 76) dX3_strike_53 (by decide) (fun c => ?_) (fun c => ?_)
    · have hP := zif_p hP c
      refine zV_mask [true, true, true, false] (ls' := [zR 101, zI y1, zI y2, zU]) rfl ?_
      exact H76 _ hP
    · have hP := zif_n hP c
      refine zV_aload_n dX3_strike_56 rfl ?_
      refine zV_sg dX3_strike_57 fm_101_110 sa_101 (by decide) fl_X3_225_3 rfl ?_
      refine zV_iload_n dX3_strike_60 rfl ?_
      refine zV_aload_n dX3_strike_61 rfl ?_
      refine zV_sg dX3_strike_62 fm_101_110 sa_101 (by decide) fl_X3_225_3 rfl ?_
      refine zV_iload_n dX3_strike_65 rfl ?_
      refine zV_iload_n dX3_strike_66 rfl ?_
      refine zV_iadd dX3_strike_67 ?_
      obtain ⟨ob, hP⟩ := hP
      refine zV_ia dX3_strike_68 sa_173 ob ?_
      obtain ⟨ob, hP⟩ := hP
      refine zV_ias dX3_strike_69 sa_173 ob (fun h5 e_h5 => ?_)
      have hP := hP h5 e_h5
      refine zV_inc (ls' := fun z => [zR 101, zI y1, zI y2, zI z]) dX3_strike_70 (Nat.le_of_ble_eq_true rfl) rfl rfl (fun _ => rfl) (fun x3_6 e_x3_6 => ?_)
      have hP := hP x3_6 e_x3_6
      refine zV_goto (tgt := 41) dX3_strike_73 (by decide) ?_
      exact ih _ _ hP
def P_M_strike_L78 (y2 : Int) (Q : Int → zH → Prop) : Nat → Int → zH → Prop
| 0, _, _ => False
| n78 + 1, y3, h =>
if zd h 101 108 ≤ y3 then
(∀ h8 : zH, h8 = zw h 101 108 (w32 ((zd h 101 108) - 1)) →
Q 1 h8)
else
((0 ≤ w32 (y3 + 1) ∧ w32 (y3 + 1) < 801) ∧
(0 ≤ y3 ∧ y3 < 801) ∧
∀ h9 : zH, h9 = zw h 172 y3 (w32 ((zd h 172 (w32 (y3 + 1))) - y2)) →
∀ x3_10 : Int, x3_10 = w32 (y3 + 1) →
P_M_strike_L78 y2 Q n78 x3_10 h9)
theorem W_M_strike_L78 (y2 : Int) (Q : Int → zH → Prop) : ∀ (n78 : Nat) (y3 : Int) (h : zH), P_M_strike_L78 y2 Q n78 y3 h → zV true zy_X3_strike 2 78 [zR 101, zU, zI y2, zI y3] [] h (zQ0 Q) := by
  intro n78
  induction n78 with
  | zero => intro y3 h hP; exact absurd hP id
  | succ n78 ih =>
    intro y3 h hP
    unfold P_M_strike_L78 at hP
    refine zV_iload_n dX3_strike_78 rfl ?_
    refine zV_aload_n dX3_strike_79 rfl ?_
    refine zV_gf dX3_strike_80 sa_101 (by decide) fl_X3_605_3 rfl (ki := 108) rfl ?_
    refine zV_icmp_ge (tgt := 108) dX3_strike_83 (by decide) (fun c => ?_) (fun c => ?_)
    · have hP := zif_p hP c
      refine zV_aload_n dX3_strike_108 rfl ?_
      refine zV_dup dX3_strike_109 (Nat.ne_of_beq_eq_false rfl) ?_
      refine zV_gf dX3_strike_110 sa_101 (by decide) fl_X3_605_3 rfl (ki := 108) rfl ?_
      refine zV_iconst dX3_strike_113 ⟨by decide, by decide⟩ ?_
      refine zV_isub dX3_strike_114 ?_
      refine zV_pf dX3_strike_115 sa_101 (by decide) fl_X3_605_3 rfl rfl trivial (ki := 108) rfl (fun h8 e_h8 => ?_)
      have hP := hP h8 e_h8
      refine zV_iconst dX3_strike_118 ⟨by decide, by decide⟩ ?_
      exact zV_ireturn dX3_strike_119 rfl rfl rfl ⟨rfl, hP⟩
    · have hP := zif_n hP c
      refine zV_aload_n dX3_strike_86 rfl ?_
      refine zV_sg dX3_strike_87 fm_101_109 sa_101 (by decide) fl_X3_222_3 rfl ?_
      refine zV_iload_n dX3_strike_90 rfl ?_
      refine zV_aload_n dX3_strike_91 rfl ?_
      refine zV_sg dX3_strike_92 fm_101_109 sa_101 (by decide) fl_X3_222_3 rfl ?_
      refine zV_iload_n dX3_strike_95 rfl ?_
      refine zV_iconst dX3_strike_96 ⟨by decide, by decide⟩ ?_
      refine zV_iadd dX3_strike_97 ?_
      obtain ⟨ob, hP⟩ := hP
      refine zV_ia dX3_strike_98 sa_172 ob ?_
      refine zV_iload_n dX3_strike_99 rfl ?_
      refine zV_isub dX3_strike_100 ?_
      obtain ⟨ob, hP⟩ := hP
      refine zV_ias dX3_strike_101 sa_172 ob (fun h9 e_h9 => ?_)
      have hP := hP h9 e_h9
      refine zV_inc (ls' := fun z => [zR 101, zU, zI y2, zI z]) dX3_strike_102 (Nat.le_of_ble_eq_true rfl) rfl rfl (fun _ => rfl) (fun x3_10 e_x3_10 => ?_)
      have hP := hP x3_10 e_x3_10
      refine zV_goto (tgt := 78) dX3_strike_105 (by decide) ?_
      exact ih _ _ hP
def P_M_strike (a1 : Int) (h : zH) (Q : Int → zH → Prop) : Prop :=
P_M_in a1 0 (w32 ((zd h 101 108) - 1)) h (fun r1 h2 =>
if r1 = 0 then
(Q (-1005) h2)
else
((0 ≤ w32 (a1 + 1) ∧ w32 (a1 + 1) < 801) ∧
(0 ≤ a1 ∧ a1 < 801) ∧
∀ x2_3 : Int, x2_3 = (w32 ((zd h2 172 (w32 (a1 + 1))) - (zd h2 172 a1))) →
(0 ≤ a1 ∧ a1 < 801) ∧
∀ x3_4 : Int, x3_4 = (zd h2 172 a1) →
∃ n41, P_M_strike_L41 a1 x2_3 Q (fun h7 =>
∃ n78, P_M_strike_L78 x2_3 Q n78 a1 h7) n41 x3_4 h2))
theorem W_M_strike (a1 : Int) (h : zH) (Q : Int → zH → Prop) (hP : P_M_strike a1 h Q) : zC true zy_X3_strike 2 [zR 101, zI a1] h (zQ0 Q) := by
  unfold P_M_strike at hP
  refine zC.of (by decide) (Nat.le_of_ble_eq_true rfl) ?_
  show zV true zy_X3_strike 2 0 [zR 101, zI a1, zU, zU] [] h (zQ0 Q)
  refine zV_iload_n dX3_strike_0 rfl ?_
  refine zV_iconst dX3_strike_1 ⟨by decide, by decide⟩ ?_
  refine zV_aload_n dX3_strike_2 rfl ?_
  refine zV_gf dX3_strike_3 sa_101 (by decide) fl_X3_605_3 rfl (ki := 108) rfl ?_
  refine zV_iconst dX3_strike_6 ⟨by decide, by decide⟩ ?_
  refine zV_isub dX3_strike_7 ?_
  refine zV_cSk (As := [zI a1, zI 0, zI (w32 ((zd h 101 108) - 1))]) (rest := []) dX3_strike_8 (W_M_in _ _ _ _ _ hP) mi_X3_in ml_X3_238 (by decide) (Nat.le_of_ble_eq_true rfl) rfl rfl rfl (fun r1 h2 hP => ?_)
  refine zV_if_ne (tgt := 18) dX3_strike_11 (by decide) (fun c => ?_) (fun c => ?_)
  · have hP := zif_n hP c
    refine zV_aload_n dX3_strike_18 rfl ?_
    refine zV_sg dX3_strike_19 fm_101_109 sa_101 (by decide) fl_X3_222_3 rfl ?_
    refine zV_iload_n dX3_strike_22 rfl ?_
    refine zV_iconst dX3_strike_23 ⟨by decide, by decide⟩ ?_
    refine zV_iadd dX3_strike_24 ?_
    obtain ⟨ob, hP⟩ := hP
    refine zV_ia dX3_strike_25 sa_172 ob ?_
    refine zV_aload_n dX3_strike_26 rfl ?_
    refine zV_sg dX3_strike_27 fm_101_109 sa_101 (by decide) fl_X3_222_3 rfl ?_
    refine zV_iload_n dX3_strike_30 rfl ?_
    obtain ⟨ob, hP⟩ := hP
    refine zV_ia dX3_strike_31 sa_172 ob ?_
    refine zV_isub dX3_strike_32 ?_
    refine zV_top (fun x2_3 e_x2_3 => ?_)
    have hP := hP x2_3 e_x2_3
    refine zV_istore_n (ls' := [zR 101, zI a1, zI x2_3, zU]) dX3_strike_33 rfl (Nat.le_of_ble_eq_true rfl) rfl rfl ?_
    refine zV_aload_n dX3_strike_34 rfl ?_
    refine zV_sg dX3_strike_35 fm_101_109 sa_101 (by decide) fl_X3_222_3 rfl ?_
    refine zV_iload_n dX3_strike_38 rfl ?_
    obtain ⟨ob, hP⟩ := hP
    refine zV_ia dX3_strike_39 sa_172 ob ?_
    refine zV_top (fun x3_4 e_x3_4 => ?_)
    have hP := hP x3_4 e_x3_4
    refine zV_istore_n (ls' := [zR 101, zI a1, zI x2_3, zI x3_4]) dX3_strike_40 rfl (Nat.le_of_ble_eq_true rfl) rfl rfl ?_
    obtain ⟨n41, hP⟩ := hP
    refine W_M_strike_L41 _ _ _ _ (fun h7 hP => ?_) n41 _ _ hP
    refine zV_iload_n dX3_strike_76 rfl ?_
    refine zV_istore_n (ls' := [zR 101, zI a1, zI x2_3, zI a1]) dX3_strike_77 rfl (Nat.le_of_ble_eq_true rfl) rfl rfl ?_
    obtain ⟨n78, hP⟩ := hP
    refine zV_mask [true, false, true, true] (ls' := [zR 101, zU, zI x2_3, zI a1]) rfl ?_
    refine W_M_strike_L78 _ _ n78 _ _ hP
  · have hP := zif_p hP c
    refine zV_sipush dX3_strike_14 ⟨by decide, by decide, by decide⟩ ?_
    exact zV_ireturn dX3_strike_17 rfl rfl rfl ⟨rfl, hP⟩
def P_M_proof (a1 : Int) (a2 : Int) (h : zH) (Q : Int → zH → Prop) : Prop :=
P_M_in a1 0 (w32 ((zd h 101 108) - 1)) h (fun r1 h2 =>
if r1 = 0 then
(Q (-1005) h2)
else
((0 ≤ w32 (a1 + 1) ∧ w32 (a1 + 1) < 801) ∧
(0 ≤ a1 ∧ a1 < 801) ∧
∀ x3_3 : Int, x3_3 = (w32 ((zd h2 172 (w32 (a1 + 1))) - (zd h2 172 a1))) →
if a2 = (-1) then
(Q x3_3 h2)
else
(P_M_in a2 0 (w32 (x3_3 - 1)) h2 (fun r4 h5 =>
(if r4 = 0 then True else (0 ≤ a1 ∧ a1 < 801) ∧ (0 ≤ w32 ((zd h5 172 a1) + a2) ∧ w32 ((zd h5 172 a1) + a2) < 8100) ∧ True) ∧
Q (if r4 = 0 then (-1005) else zd h5 173 (w32 ((zd h5 172 a1) + a2))) h5))))
theorem W_M_proof (a1 : Int) (a2 : Int) (h : zH) (Q : Int → zH → Prop) (hP : P_M_proof a1 a2 h Q) : zC true zy_X3_proof 2 [zR 101, zI a1, zI a2] h (zQ0 Q) := by
  unfold P_M_proof at hP
  refine zC.of (by decide) (Nat.le_of_ble_eq_true rfl) ?_
  show zV true zy_X3_proof 2 0 [zR 101, zI a1, zI a2, zU] [] h (zQ0 Q)
  refine zV_iload_n dX3_proof_0 rfl ?_
  refine zV_iconst dX3_proof_1 ⟨by decide, by decide⟩ ?_
  refine zV_aload_n dX3_proof_2 rfl ?_
  refine zV_gf dX3_proof_3 sa_101 (by decide) fl_X3_605_3 rfl (ki := 108) rfl ?_
  refine zV_iconst dX3_proof_6 ⟨by decide, by decide⟩ ?_
  refine zV_isub dX3_proof_7 ?_
  refine zV_cSk (As := [zI a1, zI 0, zI (w32 ((zd h 101 108) - 1))]) (rest := []) dX3_proof_8 (W_M_in _ _ _ _ _ hP) mi_X3_in ml_X3_238 (by decide) (Nat.le_of_ble_eq_true rfl) rfl rfl rfl (fun r1 h2 hP => ?_)
  refine zV_if_ne (tgt := 18) dX3_proof_11 (by decide) (fun c => ?_) (fun c => ?_)
  · have hP := zif_n hP c
    refine zV_aload_n dX3_proof_18 rfl ?_
    refine zV_sg dX3_proof_19 fm_101_109 sa_101 (by decide) fl_X3_222_3 rfl ?_
    refine zV_iload_n dX3_proof_22 rfl ?_
    refine zV_iconst dX3_proof_23 ⟨by decide, by decide⟩ ?_
    refine zV_iadd dX3_proof_24 ?_
    obtain ⟨ob, hP⟩ := hP
    refine zV_ia dX3_proof_25 sa_172 ob ?_
    refine zV_aload_n dX3_proof_26 rfl ?_
    refine zV_sg dX3_proof_27 fm_101_109 sa_101 (by decide) fl_X3_222_3 rfl ?_
    refine zV_iload_n dX3_proof_30 rfl ?_
    obtain ⟨ob, hP⟩ := hP
    refine zV_ia dX3_proof_31 sa_172 ob ?_
    refine zV_isub dX3_proof_32 ?_
    refine zV_top (fun x3_3 e_x3_3 => ?_)
    have hP := hP x3_3 e_x3_3
    refine zV_istore_n (ls' := [zR 101, zI a1, zI a2, zI x3_3]) dX3_proof_33 rfl (Nat.le_of_ble_eq_true rfl) rfl rfl ?_
    refine zV_iload_n dX3_proof_34 rfl ?_
    refine zV_iconst dX3_proof_35 ⟨by decide, by decide⟩ ?_
    refine zV_icmp_ne (tgt := 43) dX3_proof_36 (by decide) (fun c => ?_) (fun c => ?_)
    · have hP := zif_n hP c
      refine zV_iload_n dX3_proof_43 rfl ?_
      refine zV_iconst dX3_proof_44 ⟨by decide, by decide⟩ ?_
      refine zV_iload_n dX3_proof_45 rfl ?_
      refine zV_iconst dX3_proof_46 ⟨by decide, by decide⟩ ?_
      refine zV_isub dX3_proof_47 ?_
      refine zV_cSk (As := [zI a2, zI 0, zI (w32 (x3_3 - 1))]) (rest := []) dX3_proof_48 (W_M_in _ _ _ _ _ hP) mi_X3_in ml_X3_238 (by decide) (Nat.le_of_ble_eq_true rfl) rfl rfl rfl (fun r4 h5 hP => ?_)
      obtain ⟨hO, hP⟩ := hP
      have K : zV true zy_X3_proof 2 73 [zU, zU, zU, zU] [zI (if r4 = 0 then (-1005) else zd h5 173 (w32 ((zd h5 172 a1) + a2)))] h5 (zQ0 Q) := by
        exact zV_ireturn dX3_proof_73 rfl rfl rfl ⟨rfl, hP⟩
      clear hP
      refine zV_if_eq (tgt := 70) dX3_proof_51 (by decide) (fun c => ?_) (fun c => ?_)
      · try simp only [if_pos c] at K
        have hO := zif_p hO c
        refine zV_sipush dX3_proof_70 ⟨by decide, by decide, by decide⟩ ?_
        refine zV_mask [false, false, false, false] rfl ?_
        exact K
      · try simp only [if_neg c] at K
        have hO := zif_n hO c
        refine zV_aload_n dX3_proof_54 rfl ?_
        refine zV_sg dX3_proof_55 fm_101_110 sa_101 (by decide) fl_X3_225_3 rfl ?_
        refine zV_aload_n dX3_proof_58 rfl ?_
        refine zV_sg dX3_proof_59 fm_101_109 sa_101 (by decide) fl_X3_222_3 rfl ?_
        refine zV_iload_n dX3_proof_62 rfl ?_
        obtain ⟨ob, hO⟩ := hO
        refine zV_ia dX3_proof_63 sa_172 ob ?_
        refine zV_iload_n dX3_proof_64 rfl ?_
        refine zV_iadd dX3_proof_65 ?_
        obtain ⟨ob, hO⟩ := hO
        refine zV_ia dX3_proof_66 sa_173 ob ?_
        refine zV_goto (tgt := 73) dX3_proof_67 (by decide) ?_
        refine zV_mask [false, false, false, false] rfl ?_
        exact K
    · have hP := zif_p hP c
      refine zV_iload_n dX3_proof_39 rfl ?_
      refine zV_goto (tgt := 73) dX3_proof_40 (by decide) ?_
      exact zV_ireturn dX3_proof_73 rfl rfl rfl ⟨rfl, hP⟩
  · have hP := zif_p hP c
    refine zV_sipush dX3_proof_14 ⟨by decide, by decide, by decide⟩ ?_
    exact zV_ireturn dX3_proof_17 rfl rfl rfl ⟨rfl, hP⟩
def P_M_supposedOf (a1 : Int) (h : zH) (Q : Int → zH → Prop) : Prop :=
P_M_nameOf a1 h (fun r1 h2 =>
(0 ≤ r1 ∧ r1 < 301) ∧
∀ x2_3 : Int, x2_3 = (zd h2 174 r1) →
Q (if x2_3 = 2 then 2 else if a1 ≤ 0 then w32 (1 - x2_3) else x2_3) h2)
theorem W_M_supposedOf (a1 : Int) (h : zH) (Q : Int → zH → Prop) (hP : P_M_supposedOf a1 h Q) : zC true zy_X3_supposedOf 2 [zR 101, zI a1] h (zQ0 Q) := by
  unfold P_M_supposedOf at hP
  refine zC.of (by decide) (Nat.le_of_ble_eq_true rfl) ?_
  show zV true zy_X3_supposedOf 2 0 [zR 101, zI a1, zU] [] h (zQ0 Q)
  refine zV_aload_n dX3_supposedOf_0 rfl ?_
  refine zV_sg dX3_supposedOf_1 fm_101_112 sa_101 (by decide) fl_X3_228_3 rfl ?_
  refine zV_iload_n dX3_supposedOf_4 rfl ?_
  refine zV_cSk (As := [zI a1]) (rest := [zR 174]) dX3_supposedOf_5 (W_M_nameOf _ _ _ hP) mi_X3_nameOf ml_X3_289 (by decide) (Nat.le_of_ble_eq_true rfl) rfl rfl rfl (fun r1 h2 hP => ?_)
  obtain ⟨ob, hP⟩ := hP
  refine zV_ia dX3_supposedOf_8 sa_174 ob ?_
  refine zV_top (fun x2_3 e_x2_3 => ?_)
  have hP := hP x2_3 e_x2_3
  refine zV_istore_n (ls' := [zR 101, zI a1, zI x2_3]) dX3_supposedOf_9 rfl (Nat.le_of_ble_eq_true rfl) rfl rfl ?_
  refine zV_iload_n dX3_supposedOf_10 rfl ?_
  refine zV_iconst dX3_supposedOf_11 ⟨by decide, by decide⟩ ?_
  have K : zV true zy_X3_supposedOf 2 30 [zU, zU, zU] [zI (if x2_3 = 2 then 2 else if a1 ≤ 0 then w32 (1 - x2_3) else x2_3)] h2 (zQ0 Q) := by
    exact zV_ireturn dX3_supposedOf_30 rfl rfl rfl ⟨rfl, hP⟩
  clear hP
  refine zV_icmp_ne (tgt := 19) dX3_supposedOf_12 (by decide) (fun c => ?_) (fun c => ?_)
  · try simp only [if_neg c] at K
    refine zV_iload_n dX3_supposedOf_19 rfl ?_
    refine zV_if_le (tgt := 27) dX3_supposedOf_20 (by decide) (fun c => ?_) (fun c => ?_)
    · try simp only [if_pos c] at K
      refine zV_iconst dX3_supposedOf_27 ⟨by decide, by decide⟩ ?_
      refine zV_iload_n dX3_supposedOf_28 rfl ?_
      refine zV_isub dX3_supposedOf_29 ?_
      refine zV_mask [false, false, false] rfl ?_
      exact K
    · try simp only [if_neg c] at K
      refine zV_iload_n dX3_supposedOf_23 rfl ?_
      refine zV_goto (tgt := 30) dX3_supposedOf_24 (by decide) ?_
      refine zV_mask [false, false, false] rfl ?_
      exact K
  · try simp only [if_pos c] at K
    refine zV_iconst dX3_supposedOf_15 ⟨by decide, by decide⟩ ?_
    refine zV_goto (tgt := 30) dX3_supposedOf_16 (by decide) ?_
    refine zV_mask [false, false, false] rfl ?_
    exact K
def P_M_suppose (a1 : Int) (h : zH) (Q : Int → zH → Prop) : Prop :=
P_M_nameOf a1 h (fun r1 h2 =>
(0 ≤ r1 ∧ r1 < 301) ∧
∀ h3 : zH, h3 = zw h2 174 r1 (if a1 ≤ 0 then 0 else 1) →
Q 0 h3)
theorem W_M_suppose (a1 : Int) (h : zH) (Q : Int → zH → Prop) (hP : P_M_suppose a1 h Q) : zC true zy_X3_suppose 2 [zR 101, zI a1] h (zQ0 Q) := by
  unfold P_M_suppose at hP
  refine zC.of (by decide) (Nat.le_of_ble_eq_true rfl) ?_
  show zV true zy_X3_suppose 2 0 [zR 101, zI a1] [] h (zQ0 Q)
  refine zV_aload_n dX3_suppose_0 rfl ?_
  refine zV_sg dX3_suppose_1 fm_101_112 sa_101 (by decide) fl_X3_228_3 rfl ?_
  refine zV_iload_n dX3_suppose_4 rfl ?_
  refine zV_cSk (As := [zI a1]) (rest := [zR 174]) dX3_suppose_5 (W_M_nameOf _ _ _ hP) mi_X3_nameOf ml_X3_289 (by decide) (Nat.le_of_ble_eq_true rfl) rfl rfl rfl (fun r1 h2 hP => ?_)
  refine zV_iload_n dX3_suppose_8 rfl ?_
  have K : zV true zy_X3_suppose 2 17 [zU, zU] [zI (if a1 ≤ 0 then 0 else 1), zI r1, zR 174] h2 (zQ0 Q) := by
    obtain ⟨ob, hP⟩ := hP
    refine zV_ias dX3_suppose_17 sa_174 ob (fun h3 e_h3 => ?_)
    have hP := hP h3 e_h3
    exact zV_return dX3_suppose_18 rfl ⟨rfl, hP⟩
  clear hP
  refine zV_if_le (tgt := 16) dX3_suppose_9 (by decide) (fun c => ?_) (fun c => ?_)
  · try simp only [if_pos c] at K
    refine zV_iconst dX3_suppose_16 ⟨by decide, by decide⟩ ?_
    refine zV_mask [false, false] rfl ?_
    exact K
  · try simp only [if_neg c] at K
    refine zV_iconst dX3_suppose_12 ⟨by decide, by decide⟩ ?_
    refine zV_goto (tgt := 17) dX3_suppose_13 (by decide) ?_
    refine zV_mask [false, false] rfl ?_
    exact K
def P_M_press_J92 (y1 : Int) (y3 : Int) (y5 : Int) (y6 : Int) (s0 : Int) (h : zH) (Q : Int → zH → Prop) (k9 : Int → Int → Int → zH → Prop) : Prop :=
∀ x6_3 : Int, x6_3 = w32 (y6 + 1) →
k9 s0 y5 x6_3 h
theorem W_M_press_J92 (y1 : Int) (y3 : Int) (y5 : Int) (y6 : Int) (s0 : Int) (h : zH) (Q : Int → zH → Prop) (k9 : Int → Int → Int → zH → Prop) (H9 : ∀ (v4 v5 v6 : Int) (h' : zH), k9 v4 v5 v6 h' → zV true zy_X3_press 3 9 [zR 101, zI y1, zU, zI y3, zI v4, zI v5, zI v6, zU, zU] [] h' (zQ0 Q)) (hP : P_M_press_J92 y1 y3 y5 y6 s0 h Q k9) : zV true zy_X3_press 3 92 [zR 101, zI y1, zU, zI y3, zU, zI y5, zI y6, zU, zU] [zI s0] h (zQ0 Q) := by
  unfold P_M_press_J92 at hP
  refine zV_istore (ls' := [zR 101, zI y1, zU, zI y3, zI s0, zI y5, zI y6, zU, zU]) dX3_press_92 (Nat.le_of_ble_eq_true rfl) rfl rfl ?_
  refine zV_inc (ls' := fun z => [zR 101, zI y1, zU, zI y3, zI s0, zI y5, zI z, zU, zU]) dX3_press_94 (Nat.le_of_ble_eq_true rfl) rfl rfl (fun _ => rfl) (fun x6_3 e_x6_3 => ?_)
  have hP := hP x6_3 e_x6_3
  refine zV_goto (tgt := 9) dX3_press_97 (by decide) ?_
  exact H9 _ _ _ _ hP
def P_M_press_J65 (y1 : Int) (y3 : Int) (y4 : Int) (y6 : Int) (y8 : Int) (s0 : Int) (h : zH) (Q : Int → zH → Prop) (k9 : Int → Int → Int → zH → Prop) : Prop :=
P_M_press_J92 y1 y3 s0 y6 (if y8 = 1 then 2 else if y8 = 2 then w32 (y4 + 1) else y4) h Q k9
theorem W_M_press_J65 (y1 : Int) (y3 : Int) (y4 : Int) (y6 : Int) (y8 : Int) (s0 : Int) (h : zH) (Q : Int → zH → Prop) (k9 : Int → Int → Int → zH → Prop) (H9 : ∀ (v4 v5 v6 : Int) (h' : zH), k9 v4 v5 v6 h' → zV true zy_X3_press 3 9 [zR 101, zI y1, zU, zI y3, zI v4, zI v5, zI v6, zU, zU] [] h' (zQ0 Q)) (hP : P_M_press_J65 y1 y3 y4 y6 y8 s0 h Q k9) : zV true zy_X3_press 3 65 [zR 101, zI y1, zU, zI y3, zI y4, zU, zI y6, zU, zI y8] [zI s0] h (zQ0 Q) := by
  unfold P_M_press_J65 at hP
  refine zV_istore (ls' := [zR 101, zI y1, zU, zI y3, zI y4, zI s0, zI y6, zU, zI y8]) dX3_press_65 (Nat.le_of_ble_eq_true rfl) rfl rfl ?_
  refine zV_iload dX3_press_67 rfl ?_
  refine zV_iconst dX3_press_69 ⟨by decide, by decide⟩ ?_
  have K : zV true zy_X3_press 3 92 [zR 101, zI y1, zU, zI y3, zU, zI s0, zI y6, zU, zU] [zI (if y8 = 1 then 2 else if y8 = 2 then w32 (y4 + 1) else y4)] h (zQ0 Q) := by
    exact W_M_press_J92 _ _ _ _ _ _ _ _ H9 hP
  clear hP
  refine zV_icmp_ne (tgt := 77) dX3_press_70 (by decide) (fun c => ?_) (fun c => ?_)
  · try simp only [if_neg c] at K
    refine zV_iload dX3_press_77 rfl ?_
    refine zV_iconst dX3_press_79 ⟨by decide, by decide⟩ ?_
    refine zV_icmp_ne (tgt := 90) dX3_press_80 (by decide) (fun c => ?_) (fun c => ?_)
    · try simp only [if_neg c] at K
      refine zV_iload dX3_press_90 rfl ?_
      refine zV_mask [true, true, false, true, false, true, true, false, false] rfl ?_
      exact K
    · try simp only [if_pos c] at K
      refine zV_iload dX3_press_83 rfl ?_
      refine zV_iconst dX3_press_85 ⟨by decide, by decide⟩ ?_
      refine zV_iadd dX3_press_86 ?_
      refine zV_goto (tgt := 92) dX3_press_87 (by decide) ?_
      refine zV_mask [true, true, false, true, false, true, true, false, false] rfl ?_
      exact K
  · try simp only [if_pos c] at K
    refine zV_iconst dX3_press_73 ⟨by decide, by decide⟩ ?_
    refine zV_goto (tgt := 92) dX3_press_74 (by decide) ?_
    refine zV_mask [true, true, false, true, false, true, true, false, false] rfl ?_
    exact K
def P_M_press_J42 (y1 : Int) (y3 : Int) (y4 : Int) (y5 : Int) (y6 : Int) (s0 : Int) (h : zH) (Q : Int → zH → Prop) (k9 : Int → Int → Int → zH → Prop) : Prop :=
P_M_supposedOf s0 h (fun r1 h2 =>
P_M_press_J65 y1 y3 y4 y6 r1 (if r1 = 2 then s0 else y5) h2 Q k9)
theorem W_M_press_J42 (y1 : Int) (y3 : Int) (y4 : Int) (y5 : Int) (y6 : Int) (s0 : Int) (h : zH) (Q : Int → zH → Prop) (k9 : Int → Int → Int → zH → Prop) (H9 : ∀ (v4 v5 v6 : Int) (h' : zH), k9 v4 v5 v6 h' → zV true zy_X3_press 3 9 [zR 101, zI y1, zU, zI y3, zI v4, zI v5, zI v6, zU, zU] [] h' (zQ0 Q)) (hP : P_M_press_J42 y1 y3 y4 y5 y6 s0 h Q k9) : zV true zy_X3_press 3 42 [zR 101, zI y1, zU, zI y3, zI y4, zI y5, zI y6, zU, zU] [zI s0] h (zQ0 Q) := by
  unfold P_M_press_J42 at hP
  refine zV_istore (ls' := [zR 101, zI y1, zU, zI y3, zI y4, zI y5, zI y6, zI s0, zU]) dX3_press_42 (Nat.le_of_ble_eq_true rfl) rfl rfl ?_
  refine zV_aload_n dX3_press_44 rfl ?_
  refine zV_iload dX3_press_45 rfl ?_
  refine zV_cVk (As := [zI s0]) (rest := []) dX3_press_47 sa_101 (W_M_supposedOf _ _ _ hP) mi_X3_supposedOf ml_X3_608 (by decide) (Nat.le_of_ble_eq_true rfl) rfl rfl rfl (fun r1 h2 hP => ?_)
  refine zV_istore (ls' := [zR 101, zI y1, zU, zI y3, zI y4, zI y5, zI y6, zI s0, zI r1]) dX3_press_50 (Nat.le_of_ble_eq_true rfl) rfl rfl ?_
  refine zV_iload dX3_press_52 rfl ?_
  refine zV_iconst dX3_press_54 ⟨by decide, by decide⟩ ?_
  have K : zV true zy_X3_press 3 65 [zR 101, zI y1, zU, zI y3, zI y4, zU, zI y6, zU, zI r1] [zI (if r1 = 2 then s0 else y5)] h2 (zQ0 Q) := by
    exact W_M_press_J65 _ _ _ _ _ _ _ _ _ H9 hP
  clear hP
  refine zV_icmp_ne (tgt := 63) dX3_press_55 (by decide) (fun c => ?_) (fun c => ?_)
  · try simp only [if_neg c] at K
    refine zV_iload dX3_press_63 rfl ?_
    refine zV_mask [true, true, false, true, true, false, true, false, true] rfl ?_
    exact K
  · try simp only [if_pos c] at K
    refine zV_iload dX3_press_58 rfl ?_
    refine zV_goto (tgt := 65) dX3_press_60 (by decide) ?_
    refine zV_mask [true, true, false, true, true, false, true, false, true] rfl ?_
    exact K
def P_M_press_L9 (y1 : Int) (y3 : Int) (Q : Int → zH → Prop) (k100 : Int → Int → zH → Prop) : Nat → Int → Int → Int → zH → Prop
| 0, _, _, _, _ => False
| n9 + 1, y4, y5, y6, h =>
if y3 ≤ y6 then
(k100 y4 y5 h)
else
(if 2 ≤ y4 then
(k100 y4 y5 h)
else
((if y1 = 0 then (0 ≤ y6 ∧ y6 < 8100) ∧ True else (0 ≤ y6 ∧ y6 < 2600) ∧ True) ∧
P_M_press_J42 y1 y3 y4 y5 y6 (if y1 = 0 then zd h 173 y6 else zd h 120 y6) h Q (P_M_press_L9 y1 y3 Q k100 n9)))
theorem W_M_press_L9 (y1 : Int) (y3 : Int) (Q : Int → zH → Prop) (k100 : Int → Int → zH → Prop) (H100 : ∀ (v4 v5 : Int) (h' : zH), k100 v4 v5 h' → zV true zy_X3_press 3 100 [zR 101, zU, zU, zU, zI v4, zI v5, zU, zU, zU] [] h' (zQ0 Q)) : ∀ (n9 : Nat) (y4 y5 y6 : Int) (h : zH), P_M_press_L9 y1 y3 Q k100 n9 y4 y5 y6 h → zV true zy_X3_press 3 9 [zR 101, zI y1, zU, zI y3, zI y4, zI y5, zI y6, zU, zU] [] h (zQ0 Q) := by
  intro n9
  induction n9 with
  | zero => intro y4 y5 y6 h hP; exact absurd hP id
  | succ n9 ih =>
    intro y4 y5 y6 h hP
    unfold P_M_press_L9 at hP
    refine zV_iload dX3_press_9 rfl ?_
    refine zV_iload_n dX3_press_11 rfl ?_
    refine zV_icmp_ge (tgt := 100) dX3_press_12 (by decide) (fun c => ?_) (fun c => ?_)
    · have hP := zif_p hP c
      refine zV_mask [true, false, true, false, true, true, false, true, true] (ls' := [zR 101, zU, zU, zU, zI y4, zI y5, zU, zU, zU]) rfl ?_
      exact H100 _ _ _ hP
    · have hP := zif_n hP c
      refine zV_iload dX3_press_15 rfl ?_
      refine zV_iconst dX3_press_17 ⟨by decide, by decide⟩ ?_
      refine zV_icmp_ge (tgt := 100) dX3_press_18 (by decide) (fun c => ?_) (fun c => ?_)
      · have hP := zif_p hP c
        refine zV_mask [true, false, true, false, true, true, false, true, true] (ls' := [zR 101, zU, zU, zU, zI y4, zI y5, zU, zU, zU]) rfl ?_
        exact H100 _ _ _ hP
      · have hP := zif_n hP c
        refine zV_iload_n dX3_press_21 rfl ?_
        obtain ⟨hO, hP⟩ := hP
        have K : zV true zy_X3_press 3 42 [zR 101, zI y1, zU, zI y3, zI y4, zI y5, zI y6, zU, zU] [zI (if y1 = 0 then zd h 173 y6 else zd h 120 y6)] h (zQ0 Q) := by
          exact W_M_press_J42 _ _ _ _ _ _ _ _ _ ih hP
        clear hP
        refine zV_if_eq (tgt := 35) dX3_press_22 (by decide) (fun c => ?_) (fun c => ?_)
        · try simp only [if_pos c] at K
          have hO := zif_p hO c
          refine zV_aload_n dX3_press_35 rfl ?_
          refine zV_sg dX3_press_36 fm_101_110 sa_101 (by decide) fl_X3_225_3 rfl ?_
          refine zV_iload dX3_press_39 rfl ?_
          obtain ⟨ob, hO⟩ := hO
          refine zV_ia dX3_press_41 sa_173 ob ?_
          refine zV_mask [true, true, false, true, true, true, true, false, false] rfl ?_
          exact K
        · try simp only [if_neg c] at K
          have hO := zif_n hO c
          refine zV_aload_n dX3_press_25 rfl ?_
          refine zV_sg dX3_press_26 fm_101_25 sa_101 (by decide) fl_X3_65_3 rfl ?_
          refine zV_iload dX3_press_29 rfl ?_
          obtain ⟨ob, hO⟩ := hO
          refine zV_ia dX3_press_31 sa_120 ob ?_
          refine zV_goto (tgt := 42) dX3_press_32 (by decide) ?_
          refine zV_mask [true, true, false, true, true, true, true, false, false] rfl ?_
          exact K
def P_M_press_J118 (y4 : Int) (y5 : Int) (s0 : Int) (h : zH) (Q : Int → zH → Prop) : Prop :=
(s0 = 0 ∨ s0 = 1) ∧
∀ h5 : zH, h5 = zw h 101 113 s0 →
if y4 = 1 then
(P_M_suppose y5 h5 (fun r6 h7 =>
∀ h8 : zH, h8 = zw h7 101 114 1 →
Q 0 h8))
else
(Q 0 h5)
theorem W_M_press_J118 (y4 : Int) (y5 : Int) (s0 : Int) (h : zH) (Q : Int → zH → Prop) (hP : P_M_press_J118 y4 y5 s0 h Q) : zV true zy_X3_press 3 118 [zR 101, zU, zU, zU, zI y4, zI y5, zU, zU, zU] [zI s0, zR 101] h (zQ0 Q) := by
  unfold P_M_press_J118 at hP
  obtain ⟨ob, hP⟩ := hP
  refine zV_pf dX3_press_118 sa_101 (by decide) fl_X3_611_3 rfl rfl ob (ki := 113) rfl (fun h5 e_h5 => ?_)
  have hP := hP h5 e_h5
  refine zV_iload dX3_press_121 rfl ?_
  refine zV_iconst dX3_press_123 ⟨by decide, by decide⟩ ?_
  refine zV_icmp_ne (tgt := 138) dX3_press_124 (by decide) (fun c => ?_) (fun c => ?_)
  · have hP := zif_n hP c
    exact zV_return dX3_press_138 rfl ⟨rfl, hP⟩
  · have hP := zif_p hP c
    refine zV_aload_n dX3_press_127 rfl ?_
    refine zV_iload dX3_press_128 rfl ?_
    refine zV_cVv (As := [zI y5]) (rest := []) dX3_press_130 sa_101 (W_M_suppose _ _ _ hP) mi_X3_suppose ml_X3_614 (by decide) (Nat.le_of_ble_eq_true rfl) rfl rfl (fun r6 h7 hP => ?_)
    refine zV_aload_n dX3_press_133 rfl ?_
    refine zV_iconst dX3_press_134 ⟨by decide, by decide⟩ ?_
    refine zV_pf dX3_press_135 sa_101 (by decide) fl_X3_617_3 rfl rfl z1 (ki := 114) rfl (fun h8 e_h8 => ?_)
    have hP := hP h8 e_h8
    exact zV_return dX3_press_138 rfl ⟨rfl, hP⟩
def P_M_press_J100 (y4 : Int) (y5 : Int) (h : zH) (Q : Int → zH → Prop) : Prop :=
P_M_press_J118 y4 y5 (if zd h 101 113 = 0 then if y4 = 0 then 1 else 0 else 1) h Q
theorem W_M_press_J100 (y4 : Int) (y5 : Int) (h : zH) (Q : Int → zH → Prop) (hP : P_M_press_J100 y4 y5 h Q) : zV true zy_X3_press 3 100 [zR 101, zU, zU, zU, zI y4, zI y5, zU, zU, zU] [] h (zQ0 Q) := by
  unfold P_M_press_J100 at hP
  refine zV_aload_n dX3_press_100 rfl ?_
  refine zV_aload_n dX3_press_101 rfl ?_
  refine zV_gf dX3_press_102 sa_101 (by decide) fl_X3_611_3 rfl (ki := 113) rfl ?_
  have K : zV true zy_X3_press 3 118 [zR 101, zU, zU, zU, zI y4, zI y5, zU, zU, zU] [zI (if zd h 101 113 = 0 then if y4 = 0 then 1 else 0 else 1), zR 101] h (zQ0 Q) := by
    exact W_M_press_J118 _ _ _ _ _ hP
  clear hP
  refine zV_if_ne (tgt := 113) dX3_press_105 (by decide) (fun c => ?_) (fun c => ?_)
  · try simp only [if_neg c] at K
    refine zV_iconst dX3_press_113 ⟨by decide, by decide⟩ ?_
    refine zV_goto (tgt := 118) dX3_press_114 (by decide) ?_
    refine zV_mask [true, false, false, false, true, true, false, false, false] rfl ?_
    exact K
  · try simp only [if_pos c] at K
    refine zV_iload dX3_press_108 rfl ?_
    refine zV_if_ne (tgt := 117) dX3_press_110 (by decide) (fun c => ?_) (fun c => ?_)
    · try simp only [if_neg c] at K
      refine zV_iconst dX3_press_117 ⟨by decide, by decide⟩ ?_
      refine zV_mask [true, false, false, false, true, true, false, false, false] rfl ?_
      exact K
    · try simp only [if_pos c] at K
      refine zV_iconst dX3_press_113 ⟨by decide, by decide⟩ ?_
      refine zV_goto (tgt := 118) dX3_press_114 (by decide) ?_
      refine zV_mask [true, false, false, false, true, true, false, false, false] rfl ?_
      exact K
def P_M_press (a1 : Int) (a2 : Int) (a3 : Int) (h : zH) (Q : Int → zH → Prop) : Prop :=
∃ n9, P_M_press_L9 a1 a3 Q (fun u4_100 u5_100 h4 =>
P_M_press_J100 u4_100 u5_100 h4 Q) n9 0 0 a2 h
theorem W_M_press (a1 : Int) (a2 : Int) (a3 : Int) (h : zH) (Q : Int → zH → Prop) (hP : P_M_press a1 a2 a3 h Q) : zC true zy_X3_press 3 [zR 101, zI a1, zI a2, zI a3] h (zQ0 Q) := by
  unfold P_M_press at hP
  refine zC.of (by decide) (Nat.le_of_ble_eq_true rfl) ?_
  show zV true zy_X3_press 3 0 [zR 101, zI a1, zI a2, zI a3, zU, zU, zU, zU, zU] [] h (zQ0 Q)
  refine zV_iconst dX3_press_0 ⟨by decide, by decide⟩ ?_
  refine zV_istore (ls' := [zR 101, zI a1, zI a2, zI a3, zI 0, zU, zU, zU, zU]) dX3_press_1 (Nat.le_of_ble_eq_true rfl) rfl rfl ?_
  refine zV_iconst dX3_press_3 ⟨by decide, by decide⟩ ?_
  refine zV_istore (ls' := [zR 101, zI a1, zI a2, zI a3, zI 0, zI 0, zU, zU, zU]) dX3_press_4 (Nat.le_of_ble_eq_true rfl) rfl rfl ?_
  refine zV_iload_n dX3_press_6 rfl ?_
  refine zV_istore (ls' := [zR 101, zI a1, zI a2, zI a3, zI 0, zI 0, zI a2, zU, zU]) dX3_press_7 (Nat.le_of_ble_eq_true rfl) rfl rfl ?_
  obtain ⟨n9, hP⟩ := hP
  refine zV_mask [true, true, false, true, true, true, true, true, true] (ls' := [zR 101, zI a1, zU, zI a3, zI 0, zI 0, zI a2, zU, zU]) rfl ?_
  refine W_M_press_L9 _ _ _ _ (fun u4_100 u5_100 h4 hP => ?_) n9 _ _ _ _ hP
  exact W_M_press_J100 _ _ _ _ hP
def P_M_follows_L2 (y1 : Int) (Q : Int → zH → Prop) (k22 : zH → Prop) : Nat → Int → zH → Prop
| 0, _, _ => False
| n2 + 1, y2, h =>
if 300 < y2 then
(k22 h)
else
((0 ≤ y2 ∧ y2 < 301) ∧
∀ h1 : zH, h1 = zw h 174 y2 2 →
∀ x2_2 : Int, x2_2 = w32 (y2 + 1) →
P_M_follows_L2 y1 Q k22 n2 x2_2 h1)
theorem W_M_follows_L2 (y1 : Int) (Q : Int → zH → Prop) (k22 : zH → Prop) (H22 : ∀ (h' : zH), k22 h' → zV true zy_X3_follows 4 22 [zR 101, zI y1, zU] [] h' (zQ0 Q)) : ∀ (n2 : Nat) (y2 : Int) (h : zH), P_M_follows_L2 y1 Q k22 n2 y2 h → zV true zy_X3_follows 4 2 [zR 101, zI y1, zI y2] [] h (zQ0 Q) := by
  intro n2
  induction n2 with
  | zero => intro y2 h hP; exact absurd hP id
  | succ n2 ih =>
    intro y2 h hP
    unfold P_M_follows_L2 at hP
    refine zV_iload_n dX3_follows_2 rfl ?_
    refine zV_sipush dX3_follows_3 ⟨by decide, by decide, by decide⟩ ?_
    refine zV_icmp_gt (tgt := 22) dX3_follows_6 (by decide) (fun c => ?_) (fun c => ?_)
    · have hP := zif_p hP c
      refine zV_mask [true, true, false] (ls' := [zR 101, zI y1, zU]) rfl ?_
      exact H22 _ hP
    · have hP := zif_n hP c
      refine zV_aload_n dX3_follows_9 rfl ?_
      refine zV_sg dX3_follows_10 fm_101_112 sa_101 (by decide) fl_X3_228_3 rfl ?_
      refine zV_iload_n dX3_follows_13 rfl ?_
      refine zV_iconst dX3_follows_14 ⟨by decide, by decide⟩ ?_
      obtain ⟨ob, hP⟩ := hP
      refine zV_ias dX3_follows_15 sa_174 ob (fun h1 e_h1 => ?_)
      have hP := hP h1 e_h1
      refine zV_inc (ls' := fun z => [zR 101, zI y1, zI z]) dX3_follows_16 (Nat.le_of_ble_eq_true rfl) rfl rfl (fun _ => rfl) (fun x2_2 e_x2_2 => ?_)
      have hP := hP x2_2 e_x2_2
      refine zV_goto (tgt := 2) dX3_follows_19 (by decide) ?_
      exact ih _ _ hP
def P_M_follows_J73 (y1 : Int) (y2 : Int) (s0 : Int) (h : zH) (Q : Int → zH → Prop) (k34 : Int → zH → Prop) : Prop :=
(s0 = 0 ∨ s0 = 1) ∧
∀ h6 : zH, h6 = zw h 101 113 s0 →
(0 ≤ y2 ∧ y2 < 8100) ∧
P_M_suppose (w32 (-(zd h6 173 y2))) h6 (fun r7 h8 =>
∀ x2_9 : Int, x2_9 = w32 (y2 + 1) →
k34 x2_9 h8)
theorem W_M_follows_J73 (y1 : Int) (y2 : Int) (s0 : Int) (h : zH) (Q : Int → zH → Prop) (k34 : Int → zH → Prop) (H34 : ∀ (v2 : Int) (h' : zH), k34 v2 h' → zV true zy_X3_follows 4 34 [zR 101, zI y1, zI v2] [] h' (zQ0 Q)) (hP : P_M_follows_J73 y1 y2 s0 h Q k34) : zV true zy_X3_follows 4 73 [zR 101, zI y1, zI y2] [zI s0, zR 101] h (zQ0 Q) := by
  unfold P_M_follows_J73 at hP
  obtain ⟨ob, hP⟩ := hP
  refine zV_pf dX3_follows_73 sa_101 (by decide) fl_X3_611_3 rfl rfl ob (ki := 113) rfl (fun h6 e_h6 => ?_)
  have hP := hP h6 e_h6
  refine zV_aload_n dX3_follows_76 rfl ?_
  refine zV_aload_n dX3_follows_77 rfl ?_
  refine zV_sg dX3_follows_78 fm_101_110 sa_101 (by decide) fl_X3_225_3 rfl ?_
  refine zV_iload_n dX3_follows_81 rfl ?_
  obtain ⟨ob, hP⟩ := hP
  refine zV_ia dX3_follows_82 sa_173 ob ?_
  refine zV_ineg dX3_follows_83 ?_
  refine zV_cVv (As := [zI (w32 (-(zd h6 173 y2)))]) (rest := []) dX3_follows_84 sa_101 (W_M_suppose _ _ _ hP) mi_X3_suppose ml_X3_614 (by decide) (Nat.le_of_ble_eq_true rfl) rfl rfl (fun r7 h8 hP => ?_)
  refine zV_inc (ls' := fun z => [zR 101, zI y1, zI z]) dX3_follows_87 (Nat.le_of_ble_eq_true rfl) rfl rfl (fun _ => rfl) (fun x2_9 e_x2_9 => ?_)
  have hP := hP x2_9 e_x2_9
  refine zV_goto (tgt := 34) dX3_follows_90 (by decide) ?_
  exact H34 _ _ hP
def P_M_follows_J68 (y1 : Int) (y2 : Int) (h : zH) (Q : Int → zH → Prop) (k34 : Int → zH → Prop) : Prop :=
P_M_follows_J73 y1 y2 1 h Q k34
theorem W_M_follows_J68 (y1 : Int) (y2 : Int) (h : zH) (Q : Int → zH → Prop) (k34 : Int → zH → Prop) (H34 : ∀ (v2 : Int) (h' : zH), k34 v2 h' → zV true zy_X3_follows 4 34 [zR 101, zI y1, zI v2] [] h' (zQ0 Q)) (hP : P_M_follows_J68 y1 y2 h Q k34) : zV true zy_X3_follows 4 68 [zR 101, zI y1, zI y2] [zR 101] h (zQ0 Q) := by
  unfold P_M_follows_J68 at hP
  refine zV_iconst dX3_follows_68 ⟨by decide, by decide⟩ ?_
  refine zV_goto (tgt := 73) dX3_follows_69 (by decide) ?_
  exact W_M_follows_J73 _ _ _ _ _ _ H34 hP
def P_M_follows_L34 (y1 : Int) (Q : Int → zH → Prop) (k93 : zH → Prop) : Nat → Int → zH → Prop
| 0, _, _ => False
| n34 + 1, y2, h =>
(0 ≤ w32 (y1 + 1) ∧ w32 (y1 + 1) < 801) ∧
if zd h 172 (w32 (y1 + 1)) ≤ y2 then
(k93 h)
else
(if zd h 101 113 = 0 then
((0 ≤ y2 ∧ y2 < 8100) ∧
P_M_supposedOf (zd h 173 y2) h (fun r10 h11 =>
P_M_follows_J73 y1 y2 (if r10 = 1 then 1 else 0) h11 Q (P_M_follows_L34 y1 Q k93 n34)))
else
(P_M_follows_J68 y1 y2 h Q (P_M_follows_L34 y1 Q k93 n34)))
theorem W_M_follows_L34 (y1 : Int) (Q : Int → zH → Prop) (k93 : zH → Prop) (H93 : ∀ (h' : zH), k93 h' → zV true zy_X3_follows 4 93 [zR 101, zI y1, zU] [] h' (zQ0 Q)) : ∀ (n34 : Nat) (y2 : Int) (h : zH), P_M_follows_L34 y1 Q k93 n34 y2 h → zV true zy_X3_follows 4 34 [zR 101, zI y1, zI y2] [] h (zQ0 Q) := by
  intro n34
  induction n34 with
  | zero => intro y2 h hP; exact absurd hP id
  | succ n34 ih =>
    intro y2 h hP
    unfold P_M_follows_L34 at hP
    refine zV_iload_n dX3_follows_34 rfl ?_
    refine zV_aload_n dX3_follows_35 rfl ?_
    refine zV_sg dX3_follows_36 fm_101_109 sa_101 (by decide) fl_X3_222_3 rfl ?_
    refine zV_iload_n dX3_follows_39 rfl ?_
    refine zV_iconst dX3_follows_40 ⟨by decide, by decide⟩ ?_
    refine zV_iadd dX3_follows_41 ?_
    obtain ⟨ob, hP⟩ := hP
    refine zV_ia dX3_follows_42 sa_172 ob ?_
    refine zV_icmp_ge (tgt := 93) dX3_follows_43 (by decide) (fun c => ?_) (fun c => ?_)
    · have hP := zif_p hP c
      refine zV_mask [true, true, false] (ls' := [zR 101, zI y1, zU]) rfl ?_
      exact H93 _ hP
    · have hP := zif_n hP c
      refine zV_aload_n dX3_follows_46 rfl ?_
      refine zV_aload_n dX3_follows_47 rfl ?_
      refine zV_gf dX3_follows_48 sa_101 (by decide) fl_X3_611_3 rfl (ki := 113) rfl ?_
      refine zV_if_ne (tgt := 68) dX3_follows_51 (by decide) (fun c => ?_) (fun c => ?_)
      · have hP := zif_n hP c
        exact W_M_follows_J68 _ _ _ _ _ ih hP
      · have hP := zif_p hP c
        refine zV_aload_n dX3_follows_54 rfl ?_
        refine zV_aload_n dX3_follows_55 rfl ?_
        refine zV_sg dX3_follows_56 fm_101_110 sa_101 (by decide) fl_X3_225_3 rfl ?_
        refine zV_iload_n dX3_follows_59 rfl ?_
        obtain ⟨ob, hP⟩ := hP
        refine zV_ia dX3_follows_60 sa_173 ob ?_
        refine zV_cVk (As := [zI (zd h 173 y2)]) (rest := [zR 101]) dX3_follows_61 sa_101 (W_M_supposedOf _ _ _ hP) mi_X3_supposedOf ml_X3_608 (by decide) (Nat.le_of_ble_eq_true rfl) rfl rfl rfl (fun r10 h11 hP => ?_)
        refine zV_iconst dX3_follows_64 ⟨by decide, by decide⟩ ?_
        have K : zV true zy_X3_follows 4 73 [zR 101, zI y1, zI y2] [zI (if r10 = 1 then 1 else 0), zR 101] h11 (zQ0 Q) := by
          exact W_M_follows_J73 _ _ _ _ _ _ ih hP
        clear hP
        refine zV_icmp_ne (tgt := 72) dX3_follows_65 (by decide) (fun c => ?_) (fun c => ?_)
        · try simp only [if_neg c] at K
          refine zV_iconst dX3_follows_72 ⟨by decide, by decide⟩ ?_
          refine zV_mask [true, true, true] rfl ?_
          exact K
        · try simp only [if_pos c] at K
          refine zV_iconst dX3_follows_68 ⟨by decide, by decide⟩ ?_
          refine zV_goto (tgt := 73) dX3_follows_69 (by decide) ?_
          refine zV_mask [true, true, true] rfl ?_
          exact K
def P_M_follows_L119 (y1 : Int) (Q : Int → zH → Prop) (k159 : zH → Prop) : Nat → Int → zH → Prop
| 0, _, _ => False
| n119 + 1, y2, h =>
if zd h 101 23 ≤ y2 then
(k159 h)
else
(if zd h 101 113 = 0 then
((0 ≤ y2 ∧ y2 < 501) ∧
(0 ≤ w32 (y2 + 1) ∧ w32 (y2 + 1) < 501) ∧
P_M_press 1 (zd h 119 y2) (zd h 119 (w32 (y2 + 1))) h (fun r15 h16 =>
∀ x2_17 : Int, x2_17 = w32 (y2 + 1) →
P_M_follows_L119 y1 Q k159 n119 x2_17 h16))
else
(k159 h))
theorem W_M_follows_L119 (y1 : Int) (Q : Int → zH → Prop) (k159 : zH → Prop) (H159 : ∀ (h' : zH), k159 h' → zV true zy_X3_follows 4 159 [zR 101, zI y1, zU] [] h' (zQ0 Q)) : ∀ (n119 : Nat) (y2 : Int) (h : zH), P_M_follows_L119 y1 Q k159 n119 y2 h → zV true zy_X3_follows 4 119 [zR 101, zI y1, zI y2] [] h (zQ0 Q) := by
  intro n119
  induction n119 with
  | zero => intro y2 h hP; exact absurd hP id
  | succ n119 ih =>
    intro y2 h hP
    unfold P_M_follows_L119 at hP
    refine zV_iload_n dX3_follows_119 rfl ?_
    refine zV_aload_n dX3_follows_120 rfl ?_
    refine zV_gf dX3_follows_121 sa_101 (by decide) fl_X3_273_3 rfl (ki := 23) rfl ?_
    refine zV_icmp_ge (tgt := 159) dX3_follows_124 (by decide) (fun c => ?_) (fun c => ?_)
    · have hP := zif_p hP c
      refine zV_mask [true, true, false] (ls' := [zR 101, zI y1, zU]) rfl ?_
      exact H159 _ hP
    · have hP := zif_n hP c
      refine zV_aload_n dX3_follows_127 rfl ?_
      refine zV_gf dX3_follows_128 sa_101 (by decide) fl_X3_611_3 rfl (ki := 113) rfl ?_
      refine zV_if_ne (tgt := 159) dX3_follows_131 (by decide) (fun c => ?_) (fun c => ?_)
      · have hP := zif_n hP c
        refine zV_mask [true, true, false] (ls' := [zR 101, zI y1, zU]) rfl ?_
        exact H159 _ hP
      · have hP := zif_p hP c
        refine zV_aload_n dX3_follows_134 rfl ?_
        refine zV_iconst dX3_follows_135 ⟨by decide, by decide⟩ ?_
        refine zV_aload_n dX3_follows_136 rfl ?_
        refine zV_sg dX3_follows_137 fm_101_24 sa_101 (by decide) fl_X3_62_3 rfl ?_
        refine zV_iload_n dX3_follows_140 rfl ?_
        obtain ⟨ob, hP⟩ := hP
        refine zV_ia dX3_follows_141 sa_119 ob ?_
        refine zV_aload_n dX3_follows_142 rfl ?_
        refine zV_sg dX3_follows_143 fm_101_24 sa_101 (by decide) fl_X3_62_3 rfl ?_
        refine zV_iload_n dX3_follows_146 rfl ?_
        refine zV_iconst dX3_follows_147 ⟨by decide, by decide⟩ ?_
        refine zV_iadd dX3_follows_148 ?_
        obtain ⟨ob, hP⟩ := hP
        refine zV_ia dX3_follows_149 sa_119 ob ?_
        refine zV_cVv (As := [zI 1, zI (zd h 119 y2), zI (zd h 119 (w32 (y2 + 1)))]) (rest := []) dX3_follows_150 sa_101 (W_M_press _ _ _ _ _ hP) mi_X3_press ml_X3_620 (by decide) (Nat.le_of_ble_eq_true rfl) rfl rfl (fun r15 h16 hP => ?_)
        refine zV_inc (ls' := fun z => [zR 101, zI y1, zI z]) dX3_follows_153 (Nat.le_of_ble_eq_true rfl) rfl rfl (fun _ => rfl) (fun x2_17 e_x2_17 => ?_)
        have hP := hP x2_17 e_x2_17
        refine zV_goto (tgt := 119) dX3_follows_156 (by decide) ?_
        exact ih _ _ hP
def P_M_follows_L161 (y1 : Int) (Q : Int → zH → Prop) (k198 : zH → Prop) : Nat → Int → zH → Prop
| 0, _, _ => False
| n161 + 1, y2, h =>
if y1 ≤ y2 then
(k198 h)
else
(if zd h 101 113 = 0 then
((0 ≤ y2 ∧ y2 < 801) ∧
(0 ≤ w32 (y2 + 1) ∧ w32 (y2 + 1) < 801) ∧
P_M_press 0 (zd h 172 y2) (zd h 172 (w32 (y2 + 1))) h (fun r19 h20 =>
∀ x2_21 : Int, x2_21 = w32 (y2 + 1) →
P_M_follows_L161 y1 Q k198 n161 x2_21 h20))
else
(k198 h))
theorem W_M_follows_L161 (y1 : Int) (Q : Int → zH → Prop) (k198 : zH → Prop) (H198 : ∀ (h' : zH), k198 h' → zV true zy_X3_follows 4 198 [zR 101, zI y1, zU] [] h' (zQ0 Q)) : ∀ (n161 : Nat) (y2 : Int) (h : zH), P_M_follows_L161 y1 Q k198 n161 y2 h → zV true zy_X3_follows 4 161 [zR 101, zI y1, zI y2] [] h (zQ0 Q) := by
  intro n161
  induction n161 with
  | zero => intro y2 h hP; exact absurd hP id
  | succ n161 ih =>
    intro y2 h hP
    unfold P_M_follows_L161 at hP
    refine zV_iload_n dX3_follows_161 rfl ?_
    refine zV_iload_n dX3_follows_162 rfl ?_
    refine zV_icmp_ge (tgt := 198) dX3_follows_163 (by decide) (fun c => ?_) (fun c => ?_)
    · have hP := zif_p hP c
      refine zV_mask [true, true, false] (ls' := [zR 101, zI y1, zU]) rfl ?_
      exact H198 _ hP
    · have hP := zif_n hP c
      refine zV_aload_n dX3_follows_166 rfl ?_
      refine zV_gf dX3_follows_167 sa_101 (by decide) fl_X3_611_3 rfl (ki := 113) rfl ?_
      refine zV_if_ne (tgt := 198) dX3_follows_170 (by decide) (fun c => ?_) (fun c => ?_)
      · have hP := zif_n hP c
        refine zV_mask [true, true, false] (ls' := [zR 101, zI y1, zU]) rfl ?_
        exact H198 _ hP
      · have hP := zif_p hP c
        refine zV_aload_n dX3_follows_173 rfl ?_
        refine zV_iconst dX3_follows_174 ⟨by decide, by decide⟩ ?_
        refine zV_aload_n dX3_follows_175 rfl ?_
        refine zV_sg dX3_follows_176 fm_101_109 sa_101 (by decide) fl_X3_222_3 rfl ?_
        refine zV_iload_n dX3_follows_179 rfl ?_
        obtain ⟨ob, hP⟩ := hP
        refine zV_ia dX3_follows_180 sa_172 ob ?_
        refine zV_aload_n dX3_follows_181 rfl ?_
        refine zV_sg dX3_follows_182 fm_101_109 sa_101 (by decide) fl_X3_222_3 rfl ?_
        refine zV_iload_n dX3_follows_185 rfl ?_
        refine zV_iconst dX3_follows_186 ⟨by decide, by decide⟩ ?_
        refine zV_iadd dX3_follows_187 ?_
        obtain ⟨ob, hP⟩ := hP
        refine zV_ia dX3_follows_188 sa_172 ob ?_
        refine zV_cVv (As := [zI 0, zI (zd h 172 y2), zI (zd h 172 (w32 (y2 + 1)))]) (rest := []) dX3_follows_189 sa_101 (W_M_press _ _ _ _ _ hP) mi_X3_press ml_X3_620 (by decide) (Nat.le_of_ble_eq_true rfl) rfl rfl (fun r19 h20 hP => ?_)
        refine zV_inc (ls' := fun z => [zR 101, zI y1, zI z]) dX3_follows_192 (Nat.le_of_ble_eq_true rfl) rfl rfl (fun _ => rfl) (fun x2_21 e_x2_21 => ?_)
        have hP := hP x2_21 e_x2_21
        refine zV_goto (tgt := 161) dX3_follows_195 (by decide) ?_
        exact ih _ _ hP
def P_M_follows_J198 (y1 : Int) (h : zH) (Q : Int → zH → Prop) (k98 : zH → Prop) : Prop :=
k98 h
theorem W_M_follows_J198 (y1 : Int) (h : zH) (Q : Int → zH → Prop) (k98 : zH → Prop) (H98 : ∀ (h' : zH), k98 h' → zV true zy_X3_follows 4 98 [zR 101, zI y1, zU] [] h' (zQ0 Q)) (hP : P_M_follows_J198 y1 h Q k98) : zV true zy_X3_follows 4 198 [zR 101, zI y1, zU] [] h (zQ0 Q) := by
  unfold P_M_follows_J198 at hP
  refine zV_goto (tgt := 98) dX3_follows_198 (by decide) ?_
  exact H98 _ hP
def P_M_follows_J159 (y1 : Int) (h : zH) (Q : Int → zH → Prop) (k98 : zH → Prop) : Prop :=
∃ n161, P_M_follows_L161 y1 Q (fun h22 =>
P_M_follows_J198 y1 h22 Q k98) n161 0 h
theorem W_M_follows_J159 (y1 : Int) (h : zH) (Q : Int → zH → Prop) (k98 : zH → Prop) (H98 : ∀ (h' : zH), k98 h' → zV true zy_X3_follows 4 98 [zR 101, zI y1, zU] [] h' (zQ0 Q)) (hP : P_M_follows_J159 y1 h Q k98) : zV true zy_X3_follows 4 159 [zR 101, zI y1, zU] [] h (zQ0 Q) := by
  unfold P_M_follows_J159 at hP
  refine zV_iconst dX3_follows_159 ⟨by decide, by decide⟩ ?_
  refine zV_istore_n (ls' := [zR 101, zI y1, zI 0]) dX3_follows_160 rfl (Nat.le_of_ble_eq_true rfl) rfl rfl ?_
  obtain ⟨n161, hP⟩ := hP
  refine W_M_follows_L161 _ _ _ (fun h22 hP => ?_) n161 _ _ hP
  exact W_M_follows_J198 _ _ _ _ H98 hP
def P_M_follows_L98 (y1 : Int) (Q : Int → zH → Prop) : Nat → zH → Prop
| 0, _ => False
| n98 + 1, h =>
if zd h 101 114 = 0 then
((zd h 101 113 = 0 ∨ zd h 101 113 = 1) ∧ Q (zd h 101 113) h)
else
(if zd h 101 113 = 0 then
(∀ h14 : zH, h14 = zw h 101 114 0 →
∃ n119, P_M_follows_L119 y1 Q (fun h18 =>
P_M_follows_J159 y1 h18 Q (P_M_follows_L98 y1 Q n98)) n119 0 h14)
else
((zd h 101 113 = 0 ∨ zd h 101 113 = 1) ∧ Q (zd h 101 113) h))
theorem W_M_follows_L98 (y1 : Int) (Q : Int → zH → Prop) : ∀ (n98 : Nat) (h : zH), P_M_follows_L98 y1 Q n98 h → zV true zy_X3_follows 4 98 [zR 101, zI y1, zU] [] h (zQ0 Q) := by
  intro n98
  induction n98 with
  | zero => intro h hP; exact absurd hP id
  | succ n98 ih =>
    intro h hP
    unfold P_M_follows_L98 at hP
    refine zV_aload_n dX3_follows_98 rfl ?_
    refine zV_gf dX3_follows_99 sa_101 (by decide) fl_X3_617_3 rfl (ki := 114) rfl ?_
    refine zV_if_eq (tgt := 201) dX3_follows_102 (by decide) (fun c => ?_) (fun c => ?_)
    · have hP := zif_p hP c
      refine zV_aload_n dX3_follows_201 rfl ?_
      refine zV_gf dX3_follows_202 sa_101 (by decide) fl_X3_611_3 rfl (ki := 113) rfl ?_
      exact zV_ireturn dX3_follows_205 rfl rfl (z01 hP.1) ⟨rfl, hP.2⟩
    · have hP := zif_n hP c
      refine zV_aload_n dX3_follows_105 rfl ?_
      refine zV_gf dX3_follows_106 sa_101 (by decide) fl_X3_611_3 rfl (ki := 113) rfl ?_
      refine zV_if_ne (tgt := 201) dX3_follows_109 (by decide) (fun c => ?_) (fun c => ?_)
      · have hP := zif_n hP c
        refine zV_aload_n dX3_follows_201 rfl ?_
        refine zV_gf dX3_follows_202 sa_101 (by decide) fl_X3_611_3 rfl (ki := 113) rfl ?_
        exact zV_ireturn dX3_follows_205 rfl rfl (z01 hP.1) ⟨rfl, hP.2⟩
      · have hP := zif_p hP c
        refine zV_aload_n dX3_follows_112 rfl ?_
        refine zV_iconst dX3_follows_113 ⟨by decide, by decide⟩ ?_
        refine zV_pf dX3_follows_114 sa_101 (by decide) fl_X3_617_3 rfl rfl z0 (ki := 114) rfl (fun h14 e_h14 => ?_)
        have hP := hP h14 e_h14
        refine zV_iconst dX3_follows_117 ⟨by decide, by decide⟩ ?_
        refine zV_istore_n (ls' := [zR 101, zI y1, zI 0]) dX3_follows_118 rfl (Nat.le_of_ble_eq_true rfl) rfl rfl ?_
        obtain ⟨n119, hP⟩ := hP
        refine W_M_follows_L119 _ _ _ (fun h18 hP => ?_) n119 _ _ hP
        exact W_M_follows_J159 _ _ _ _ ih hP
def P_M_follows (a1 : Int) (h : zH) (Q : Int → zH → Prop) : Prop :=
∃ n2, P_M_follows_L2 a1 Q (fun h3 =>
∀ h4 : zH, h4 = zw h3 101 113 0 →
(0 ≤ a1 ∧ a1 < 801) ∧
∀ x2_5 : Int, x2_5 = (zd h4 172 a1) →
∃ n34, P_M_follows_L34 a1 Q (fun h12 =>
∀ h13 : zH, h13 = zw h12 101 114 1 →
∃ n98, P_M_follows_L98 a1 Q n98 h13) n34 x2_5 h4) n2 0 h
theorem W_M_follows (a1 : Int) (h : zH) (Q : Int → zH → Prop) (hP : P_M_follows a1 h Q) : zC true zy_X3_follows 4 [zR 101, zI a1] h (zQ0 Q) := by
  unfold P_M_follows at hP
  refine zC.of (by decide) (Nat.le_of_ble_eq_true rfl) ?_
  show zV true zy_X3_follows 4 0 [zR 101, zI a1, zU] [] h (zQ0 Q)
  refine zV_iconst dX3_follows_0 ⟨by decide, by decide⟩ ?_
  refine zV_istore_n (ls' := [zR 101, zI a1, zI 0]) dX3_follows_1 rfl (Nat.le_of_ble_eq_true rfl) rfl rfl ?_
  obtain ⟨n2, hP⟩ := hP
  refine W_M_follows_L2 _ _ _ (fun h3 hP => ?_) n2 _ _ hP
  refine zV_aload_n dX3_follows_22 rfl ?_
  refine zV_iconst dX3_follows_23 ⟨by decide, by decide⟩ ?_
  refine zV_pf dX3_follows_24 sa_101 (by decide) fl_X3_611_3 rfl rfl z0 (ki := 113) rfl (fun h4 e_h4 => ?_)
  have hP := hP h4 e_h4
  refine zV_aload_n dX3_follows_27 rfl ?_
  refine zV_sg dX3_follows_28 fm_101_109 sa_101 (by decide) fl_X3_222_3 rfl ?_
  refine zV_iload_n dX3_follows_31 rfl ?_
  obtain ⟨ob, hP⟩ := hP
  refine zV_ia dX3_follows_32 sa_172 ob ?_
  refine zV_top (fun x2_5 e_x2_5 => ?_)
  have hP := hP x2_5 e_x2_5
  refine zV_istore_n (ls' := [zR 101, zI a1, zI x2_5]) dX3_follows_33 rfl (Nat.le_of_ble_eq_true rfl) rfl rfl ?_
  obtain ⟨n34, hP⟩ := hP
  refine W_M_follows_L34 _ _ _ (fun h12 hP => ?_) n34 _ _ hP
  refine zV_aload_n dX3_follows_93 rfl ?_
  refine zV_iconst dX3_follows_94 ⟨by decide, by decide⟩ ?_
  refine zV_pf dX3_follows_95 sa_101 (by decide) fl_X3_617_3 rfl rfl z1 (ki := 114) rfl (fun h13 e_h13 => ?_)
  have hP := hP h13 e_h13
  obtain ⟨n98, hP⟩ := hP
  refine W_M_follows_L98 _ _ n98 _ hP
def P_M_isAssumed_J31 (y1 : Int) (y3 : Int) (s0 : Int) (h : zH) (Q : Int → zH → Prop) (k4 : Int → Int → zH → Prop) : Prop :=
∀ x3_1 : Int, x3_1 = w32 (y3 + 1) →
k4 s0 x3_1 h
theorem W_M_isAssumed_J31 (y1 : Int) (y3 : Int) (s0 : Int) (h : zH) (Q : Int → zH → Prop) (k4 : Int → Int → zH → Prop) (H4 : ∀ (v2 v3 : Int) (h' : zH), k4 v2 v3 h' → zV true zy_X3_isAssumed 1 4 [zR 101, zI y1, zI v2, zI v3] [] h' (zQ0 Q)) (hP : P_M_isAssumed_J31 y1 y3 s0 h Q k4) : zV true zy_X3_isAssumed 1 31 [zR 101, zI y1, zU, zI y3] [zI s0] h (zQ0 Q) := by
  unfold P_M_isAssumed_J31 at hP
  refine zV_istore_n (ls' := [zR 101, zI y1, zI s0, zI y3]) dX3_isAssumed_31 rfl (Nat.le_of_ble_eq_true rfl) rfl rfl ?_
  refine zV_inc (ls' := fun z => [zR 101, zI y1, zI s0, zI z]) dX3_isAssumed_32 (Nat.le_of_ble_eq_true rfl) rfl rfl (fun _ => rfl) (fun x3_1 e_x3_1 => ?_)
  have hP := hP x3_1 e_x3_1
  refine zV_goto (tgt := 4) dX3_isAssumed_35 (by decide) ?_
  exact H4 _ _ _ hP
def P_M_isAssumed_L4 (y1 : Int) (Q : Int → zH → Prop) : Nat → Int → Int → zH → Prop
| 0, _, _, _ => False
| n4 + 1, y2, y3, h =>
if zd h 101 29 ≤ y3 then
((y2 = 0 ∨ y2 = 1) ∧ Q y2 h)
else
((if y2 = 0 then (0 ≤ y3 ∧ y3 < 20) ∧ True else True) ∧
P_M_isAssumed_J31 y1 y3 (if y2 = 0 then if zd h 122 y3 = y1 then 1 else 0 else 1) h Q (P_M_isAssumed_L4 y1 Q n4))
theorem W_M_isAssumed_L4 (y1 : Int) (Q : Int → zH → Prop) : ∀ (n4 : Nat) (y2 y3 : Int) (h : zH), P_M_isAssumed_L4 y1 Q n4 y2 y3 h → zV true zy_X3_isAssumed 1 4 [zR 101, zI y1, zI y2, zI y3] [] h (zQ0 Q) := by
  intro n4
  induction n4 with
  | zero => intro y2 y3 h hP; exact absurd hP id
  | succ n4 ih =>
    intro y2 y3 h hP
    unfold P_M_isAssumed_L4 at hP
    refine zV_iload_n dX3_isAssumed_4 rfl ?_
    refine zV_aload_n dX3_isAssumed_5 rfl ?_
    refine zV_gf dX3_isAssumed_6 sa_101 (by decide) fl_X3_427_3 rfl (ki := 29) rfl ?_
    refine zV_icmp_ge (tgt := 38) dX3_isAssumed_9 (by decide) (fun c => ?_) (fun c => ?_)
    · have hP := zif_p hP c
      refine zV_iload_n dX3_isAssumed_38 rfl ?_
      exact zV_ireturn dX3_isAssumed_39 rfl rfl (z01 hP.1) ⟨rfl, hP.2⟩
    · have hP := zif_n hP c
      refine zV_iload_n dX3_isAssumed_12 rfl ?_
      obtain ⟨hO, hP⟩ := hP
      have K : zV true zy_X3_isAssumed 1 31 [zR 101, zI y1, zU, zI y3] [zI (if y2 = 0 then if zd h 122 y3 = y1 then 1 else 0 else 1)] h (zQ0 Q) := by
        exact W_M_isAssumed_J31 _ _ _ _ _ _ ih hP
      clear hP
      refine zV_if_ne (tgt := 26) dX3_isAssumed_13 (by decide) (fun c => ?_) (fun c => ?_)
      · try simp only [if_neg c] at K
        have hO := zif_n hO c
        refine zV_iconst dX3_isAssumed_26 ⟨by decide, by decide⟩ ?_
        refine zV_goto (tgt := 31) dX3_isAssumed_27 (by decide) ?_
        refine zV_mask [true, true, false, true] rfl ?_
        exact K
      · try simp only [if_pos c] at K
        have hO := zif_p hO c
        refine zV_aload_n dX3_isAssumed_16 rfl ?_
        refine zV_sg dX3_isAssumed_17 fm_101_28 sa_101 (by decide) fl_X3_71_3 rfl ?_
        refine zV_iload_n dX3_isAssumed_20 rfl ?_
        obtain ⟨ob, hO⟩ := hO
        refine zV_ia dX3_isAssumed_21 sa_122 ob ?_
        refine zV_iload_n dX3_isAssumed_22 rfl ?_
        refine zV_icmp_ne (tgt := 30) dX3_isAssumed_23 (by decide) (fun c => ?_) (fun c => ?_)
        · try simp only [if_neg c] at K
          refine zV_iconst dX3_isAssumed_30 ⟨by decide, by decide⟩ ?_
          refine zV_mask [true, true, false, true] rfl ?_
          exact K
        · try simp only [if_pos c] at K
          refine zV_iconst dX3_isAssumed_26 ⟨by decide, by decide⟩ ?_
          refine zV_goto (tgt := 31) dX3_isAssumed_27 (by decide) ?_
          refine zV_mask [true, true, false, true] rfl ?_
          exact K
def P_M_isAssumed (a1 : Int) (h : zH) (Q : Int → zH → Prop) : Prop :=
∃ n4, P_M_isAssumed_L4 a1 Q n4 0 0 h
theorem W_M_isAssumed (a1 : Int) (h : zH) (Q : Int → zH → Prop) (hP : P_M_isAssumed a1 h Q) : zC true zy_X3_isAssumed 1 [zR 101, zI a1] h (zQ0 Q) := by
  unfold P_M_isAssumed at hP
  refine zC.of (by decide) (Nat.le_of_ble_eq_true rfl) ?_
  show zV true zy_X3_isAssumed 1 0 [zR 101, zI a1, zU, zU] [] h (zQ0 Q)
  refine zV_iconst dX3_isAssumed_0 ⟨by decide, by decide⟩ ?_
  refine zV_istore_n (ls' := [zR 101, zI a1, zI 0, zU]) dX3_isAssumed_1 rfl (Nat.le_of_ble_eq_true rfl) rfl rfl ?_
  refine zV_iconst dX3_isAssumed_2 ⟨by decide, by decide⟩ ?_
  refine zV_istore_n (ls' := [zR 101, zI a1, zI 0, zI 0]) dX3_isAssumed_3 rfl (Nat.le_of_ble_eq_true rfl) rfl rfl ?_
  obtain ⟨n4, hP⟩ := hP
  refine W_M_isAssumed_L4 _ _ n4 _ _ _ hP
def P_M_check_L2 (Q : Int → zH → Prop) (k24 : Int → zH → Prop) : Nat → Int → zH → Prop
| 0, _, _ => False
| n2 + 1, y1, h =>
if zd h 101 108 ≤ y1 then
(k24 y1 h)
else
(P_M_follows y1 h (fun r1 h2 =>
if r1 = 0 then
(k24 y1 h2)
else
(∀ x1_3 : Int, x1_3 = w32 (y1 + 1) →
P_M_check_L2 Q k24 n2 x1_3 h2)))
theorem W_M_check_L2 (Q : Int → zH → Prop) (k24 : Int → zH → Prop) (H24 : ∀ (v1 : Int) (h' : zH), k24 v1 h' → zV true zy_X3_check 5 24 [zR 101, zI v1, zU, zU] [] h' (zQ0 Q)) : ∀ (n2 : Nat) (y1 : Int) (h : zH), P_M_check_L2 Q k24 n2 y1 h → zV true zy_X3_check 5 2 [zR 101, zI y1, zU, zU] [] h (zQ0 Q) := by
  intro n2
  induction n2 with
  | zero => intro y1 h hP; exact absurd hP id
  | succ n2 ih =>
    intro y1 h hP
    unfold P_M_check_L2 at hP
    refine zV_iload_n dX3_check_2 rfl ?_
    refine zV_aload_n dX3_check_3 rfl ?_
    refine zV_gf dX3_check_4 sa_101 (by decide) fl_X3_605_3 rfl (ki := 108) rfl ?_
    refine zV_icmp_ge (tgt := 24) dX3_check_7 (by decide) (fun c => ?_) (fun c => ?_)
    · have hP := zif_p hP c
      exact H24 _ _ hP
    · have hP := zif_n hP c
      refine zV_aload_n dX3_check_10 rfl ?_
      refine zV_iload_n dX3_check_11 rfl ?_
      refine zV_cVk (As := [zI y1]) (rest := []) dX3_check_12 sa_101 (W_M_follows _ _ _ hP) mi_X3_follows ml_X3_624 (by decide) (Nat.le_of_ble_eq_true rfl) rfl rfl rfl (fun r1 h2 hP => ?_)
      refine zV_if_eq (tgt := 24) dX3_check_15 (by decide) (fun c => ?_) (fun c => ?_)
      · have hP := zif_p hP c
        exact H24 _ _ hP
      · have hP := zif_n hP c
        refine zV_inc (ls' := fun z => [zR 101, zI z, zU, zU]) dX3_check_18 (Nat.le_of_ble_eq_true rfl) rfl rfl (fun _ => rfl) (fun x1_3 e_x1_3 => ?_)
        have hP := hP x1_3 e_x1_3
        refine zV_goto (tgt := 2) dX3_check_21 (by decide) ?_
        exact ih _ _ hP
def P_M_check_J116 (y2 : Int) (s0 : Int) (h : zH) (Q : Int → zH → Prop) : Prop :=
∀ h5 : zH, h5 = zw h 101 111 s0 →
Q (if y2 = 0 then 0 else 1) h5
theorem W_M_check_J116 (y2 : Int) (s0 : Int) (h : zH) (Q : Int → zH → Prop) (hP : P_M_check_J116 y2 s0 h Q) : zV true zy_X3_check 5 116 [zU, zU, zI y2, zU] [zI s0, zR 101] h (zQ0 Q) := by
  unfold P_M_check_J116 at hP
  refine zV_pf dX3_check_116 sa_101 (by decide) fl_X3_231_3 rfl rfl trivial (ki := 111) rfl (fun h5 e_h5 => ?_)
  have hP := hP h5 e_h5
  refine zV_iload_n dX3_check_119 rfl ?_
  have K : zV true zy_X3_check 5 128 [zU, zU, zU, zU] [zI (if y2 = 0 then 0 else 1)] h5 (zQ0 Q) := by
    exact zV_ireturn dX3_check_128 rfl rfl rfl ⟨rfl, hP⟩
  clear hP
  refine zV_if_eq (tgt := 127) dX3_check_120 (by decide) (fun c => ?_) (fun c => ?_)
  · try simp only [if_pos c] at K
    refine zV_iconst dX3_check_127 ⟨by decide, by decide⟩ ?_
    refine zV_mask [false, false, false, false] rfl ?_
    exact K
  · try simp only [if_neg c] at K
    refine zV_iconst dX3_check_123 ⟨by decide, by decide⟩ ?_
    refine zV_goto (tgt := 128) dX3_check_124 (by decide) ?_
    refine zV_mask [false, false, false, false] rfl ?_
    exact K
def P_M_check_J104 (y1 : Int) (y2 : Int) (h : zH) (Q : Int → zH → Prop) : Prop :=
P_M_check_J116 y2 (if y2 = 0 then y1 else (-1005)) h Q
theorem W_M_check_J104 (y1 : Int) (y2 : Int) (h : zH) (Q : Int → zH → Prop) (hP : P_M_check_J104 y1 y2 h Q) : zV true zy_X3_check 5 104 [zR 101, zI y1, zI y2, zU] [] h (zQ0 Q) := by
  unfold P_M_check_J104 at hP
  refine zV_aload_n dX3_check_104 rfl ?_
  refine zV_iload_n dX3_check_105 rfl ?_
  have K : zV true zy_X3_check 5 116 [zU, zU, zI y2, zU] [zI (if y2 = 0 then y1 else (-1005)), zR 101] h (zQ0 Q) := by
    exact W_M_check_J116 _ _ _ _ hP
  clear hP
  refine zV_if_eq (tgt := 115) dX3_check_106 (by decide) (fun c => ?_) (fun c => ?_)
  · try simp only [if_pos c] at K
    refine zV_iload_n dX3_check_115 rfl ?_
    refine zV_mask [false, false, true, false] rfl ?_
    exact K
  · try simp only [if_neg c] at K
    refine zV_sipush dX3_check_109 ⟨by decide, by decide, by decide⟩ ?_
    refine zV_goto (tgt := 116) dX3_check_112 (by decide) ?_
    refine zV_mask [false, false, true, false] rfl ?_
    exact K
def P_M_check_J97 (y1 : Int) (y3 : Int) (s0 : Int) (h : zH) (Q : Int → zH → Prop) (k61 : Int → Int → zH → Prop) : Prop :=
∀ x3_7 : Int, x3_7 = w32 (y3 + 1) →
k61 s0 x3_7 h
theorem W_M_check_J97 (y1 : Int) (y3 : Int) (s0 : Int) (h : zH) (Q : Int → zH → Prop) (k61 : Int → Int → zH → Prop) (H61 : ∀ (v2 v3 : Int) (h' : zH), k61 v2 v3 h' → zV true zy_X3_check 5 61 [zR 101, zI y1, zI v2, zI v3] [] h' (zQ0 Q)) (hP : P_M_check_J97 y1 y3 s0 h Q k61) : zV true zy_X3_check 5 97 [zR 101, zI y1, zU, zI y3] [zI s0] h (zQ0 Q) := by
  unfold P_M_check_J97 at hP
  refine zV_istore_n (ls' := [zR 101, zI y1, zI s0, zI y3]) dX3_check_97 rfl (Nat.le_of_ble_eq_true rfl) rfl rfl ?_
  refine zV_inc (ls' := fun z => [zR 101, zI y1, zI s0, zI z]) dX3_check_98 (Nat.le_of_ble_eq_true rfl) rfl rfl (fun _ => rfl) (fun x3_7 e_x3_7 => ?_)
  have hP := hP x3_7 e_x3_7
  refine zV_goto (tgt := 61) dX3_check_101 (by decide) ?_
  exact H61 _ _ _ hP
def P_M_check_J96 (y1 : Int) (y3 : Int) (h : zH) (Q : Int → zH → Prop) (k61 : Int → Int → zH → Prop) : Prop :=
P_M_check_J97 y1 y3 0 h Q k61
theorem W_M_check_J96 (y1 : Int) (y3 : Int) (h : zH) (Q : Int → zH → Prop) (k61 : Int → Int → zH → Prop) (H61 : ∀ (v2 v3 : Int) (h' : zH), k61 v2 v3 h' → zV true zy_X3_check 5 61 [zR 101, zI y1, zI v2, zI v3] [] h' (zQ0 Q)) (hP : P_M_check_J96 y1 y3 h Q k61) : zV true zy_X3_check 5 96 [zR 101, zI y1, zU, zI y3] [] h (zQ0 Q) := by
  unfold P_M_check_J96 at hP
  refine zV_iconst dX3_check_96 ⟨by decide, by decide⟩ ?_
  exact W_M_check_J97 _ _ _ _ _ _ H61 hP
def P_M_check_L61 (y1 : Int) (Q : Int → zH → Prop) (k104 : Int → zH → Prop) : Nat → Int → Int → zH → Prop
| 0, _, _, _ => False
| n61 + 1, y2, y3, h =>
(0 ≤ zd h 101 108 ∧ zd h 101 108 < 801) ∧
if zd h 172 (zd h 101 108) ≤ y3 then
(k104 y2 h)
else
(if y2 = 0 then
(P_M_check_J96 y1 y3 h Q (P_M_check_L61 y1 Q k104 n61))
else
((0 ≤ y3 ∧ y3 < 8100) ∧
P_M_isAssumed (w32 (-(zd h 173 y3))) h (fun r8 h9 =>
P_M_check_J97 y1 y3 (if r8 = 0 then 0 else 1) h9 Q (P_M_check_L61 y1 Q k104 n61))))
theorem W_M_check_L61 (y1 : Int) (Q : Int → zH → Prop) (k104 : Int → zH → Prop) (H104 : ∀ (v2 : Int) (h' : zH), k104 v2 h' → zV true zy_X3_check 5 104 [zR 101, zI y1, zI v2, zU] [] h' (zQ0 Q)) : ∀ (n61 : Nat) (y2 y3 : Int) (h : zH), P_M_check_L61 y1 Q k104 n61 y2 y3 h → zV true zy_X3_check 5 61 [zR 101, zI y1, zI y2, zI y3] [] h (zQ0 Q) := by
  intro n61
  induction n61 with
  | zero => intro y2 y3 h hP; exact absurd hP id
  | succ n61 ih =>
    intro y2 y3 h hP
    unfold P_M_check_L61 at hP
    refine zV_iload_n dX3_check_61 rfl ?_
    refine zV_aload_n dX3_check_62 rfl ?_
    refine zV_sg dX3_check_63 fm_101_109 sa_101 (by decide) fl_X3_222_3 rfl ?_
    refine zV_aload_n dX3_check_66 rfl ?_
    refine zV_gf dX3_check_67 sa_101 (by decide) fl_X3_605_3 rfl (ki := 108) rfl ?_
    obtain ⟨ob, hP⟩ := hP
    refine zV_ia dX3_check_70 sa_172 ob ?_
    refine zV_icmp_ge (tgt := 104) dX3_check_71 (by decide) (fun c => ?_) (fun c => ?_)
    · have hP := zif_p hP c
      refine zV_mask [true, true, true, false] (ls' := [zR 101, zI y1, zI y2, zU]) rfl ?_
      exact H104 _ _ hP
    · have hP := zif_n hP c
      refine zV_iload_n dX3_check_74 rfl ?_
      refine zV_if_eq (tgt := 96) dX3_check_75 (by decide) (fun c => ?_) (fun c => ?_)
      · have hP := zif_p hP c
        refine zV_mask [true, true, false, true] (ls' := [zR 101, zI y1, zU, zI y3]) rfl ?_
        exact W_M_check_J96 _ _ _ _ _ ih hP
      · have hP := zif_n hP c
        refine zV_aload_n dX3_check_78 rfl ?_
        refine zV_aload_n dX3_check_79 rfl ?_
        refine zV_sg dX3_check_80 fm_101_110 sa_101 (by decide) fl_X3_225_3 rfl ?_
        refine zV_iload_n dX3_check_83 rfl ?_
        obtain ⟨ob, hP⟩ := hP
        refine zV_ia dX3_check_84 sa_173 ob ?_
        refine zV_ineg dX3_check_85 ?_
        refine zV_cVk (As := [zI (w32 (-(zd h 173 y3)))]) (rest := []) dX3_check_86 sa_101 (W_M_isAssumed _ _ _ hP) mi_X3_isAssumed ml_X3_627 (by decide) (Nat.le_of_ble_eq_true rfl) rfl rfl rfl (fun r8 h9 hP => ?_)
        have K : zV true zy_X3_check 5 97 [zR 101, zI y1, zU, zI y3] [zI (if r8 = 0 then 0 else 1)] h9 (zQ0 Q) := by
          exact W_M_check_J97 _ _ _ _ _ _ ih hP
        clear hP
        refine zV_if_eq (tgt := 96) dX3_check_89 (by decide) (fun c => ?_) (fun c => ?_)
        · try simp only [if_pos c] at K
          refine zV_iconst dX3_check_96 ⟨by decide, by decide⟩ ?_
          refine zV_mask [true, true, false, true] rfl ?_
          exact K
        · try simp only [if_neg c] at K
          refine zV_iconst dX3_check_92 ⟨by decide, by decide⟩ ?_
          refine zV_goto (tgt := 97) dX3_check_93 (by decide) ?_
          refine zV_mask [true, true, false, true] rfl ?_
          exact K
def P_M_check_J44 (y1 : Int) (s0 : Int) (h : zH) (Q : Int → zH → Prop) : Prop :=
if s0 = 0 then
(P_M_check_J104 y1 s0 h Q)
else
((0 ≤ w32 ((zd h 101 108) - 1) ∧ w32 ((zd h 101 108) - 1) < 801) ∧
∀ x3_6 : Int, x3_6 = (zd h 172 (w32 ((zd h 101 108) - 1))) →
∃ n61, P_M_check_L61 y1 Q (fun u2_104 h10 =>
P_M_check_J104 y1 u2_104 h10 Q) n61 s0 x3_6 h)
theorem W_M_check_J44 (y1 : Int) (s0 : Int) (h : zH) (Q : Int → zH → Prop) (hP : P_M_check_J44 y1 s0 h Q) : zV true zy_X3_check 5 44 [zR 101, zI y1, zU, zU] [zI s0] h (zQ0 Q) := by
  unfold P_M_check_J44 at hP
  refine zV_istore_n (ls' := [zR 101, zI y1, zI s0, zU]) dX3_check_44 rfl (Nat.le_of_ble_eq_true rfl) rfl rfl ?_
  refine zV_iload_n dX3_check_45 rfl ?_
  refine zV_if_eq (tgt := 104) dX3_check_46 (by decide) (fun c => ?_) (fun c => ?_)
  · have hP := zif_p hP c
    exact W_M_check_J104 _ _ _ _ hP
  · have hP := zif_n hP c
    refine zV_aload_n dX3_check_49 rfl ?_
    refine zV_sg dX3_check_50 fm_101_109 sa_101 (by decide) fl_X3_222_3 rfl ?_
    refine zV_aload_n dX3_check_53 rfl ?_
    refine zV_gf dX3_check_54 sa_101 (by decide) fl_X3_605_3 rfl (ki := 108) rfl ?_
    refine zV_iconst dX3_check_57 ⟨by decide, by decide⟩ ?_
    refine zV_isub dX3_check_58 ?_
    obtain ⟨ob, hP⟩ := hP
    refine zV_ia dX3_check_59 sa_172 ob ?_
    refine zV_top (fun x3_6 e_x3_6 => ?_)
    have hP := hP x3_6 e_x3_6
    refine zV_istore_n (ls' := [zR 101, zI y1, zI s0, zI x3_6]) dX3_check_60 rfl (Nat.le_of_ble_eq_true rfl) rfl rfl ?_
    obtain ⟨n61, hP⟩ := hP
    refine W_M_check_L61 _ _ _ (fun u2_104 h10 hP => ?_) n61 _ _ _ hP
    exact W_M_check_J104 _ _ _ _ hP
def P_M_check_J24 (y1 : Int) (h : zH) (Q : Int → zH → Prop) : Prop :=
P_M_check_J44 y1 (if y1 = zd h 101 108 then if zd h 101 108 ≤ 0 then 0 else 1 else 0) h Q
theorem W_M_check_J24 (y1 : Int) (h : zH) (Q : Int → zH → Prop) (hP : P_M_check_J24 y1 h Q) : zV true zy_X3_check 5 24 [zR 101, zI y1, zU, zU] [] h (zQ0 Q) := by
  unfold P_M_check_J24 at hP
  refine zV_iload_n dX3_check_24 rfl ?_
  refine zV_aload_n dX3_check_25 rfl ?_
  refine zV_gf dX3_check_26 sa_101 (by decide) fl_X3_605_3 rfl (ki := 108) rfl ?_
  have K : zV true zy_X3_check 5 44 [zR 101, zI y1, zU, zU] [zI (if y1 = zd h 101 108 then if zd h 101 108 ≤ 0 then 0 else 1 else 0)] h (zQ0 Q) := by
    exact W_M_check_J44 _ _ _ _ hP
  clear hP
  refine zV_icmp_ne (tgt := 43) dX3_check_29 (by decide) (fun c => ?_) (fun c => ?_)
  · try simp only [if_neg c] at K
    refine zV_iconst dX3_check_43 ⟨by decide, by decide⟩ ?_
    refine zV_mask [true, true, false, false] rfl ?_
    exact K
  · try simp only [if_pos c] at K
    refine zV_aload_n dX3_check_32 rfl ?_
    refine zV_gf dX3_check_33 sa_101 (by decide) fl_X3_605_3 rfl (ki := 108) rfl ?_
    refine zV_if_le (tgt := 43) dX3_check_36 (by decide) (fun c => ?_) (fun c => ?_)
    · try simp only [if_pos c] at K
      refine zV_iconst dX3_check_43 ⟨by decide, by decide⟩ ?_
      refine zV_mask [true, true, false, false] rfl ?_
      exact K
    · try simp only [if_neg c] at K
      refine zV_iconst dX3_check_39 ⟨by decide, by decide⟩ ?_
      refine zV_goto (tgt := 44) dX3_check_40 (by decide) ?_
      refine zV_mask [true, true, false, false] rfl ?_
      exact K
def P_M_check (h : zH) (Q : Int → zH → Prop) : Prop :=
∃ n2, P_M_check_L2 Q (fun u1_24 h4 =>
P_M_check_J24 u1_24 h4 Q) n2 0 h
theorem W_M_check (h : zH) (Q : Int → zH → Prop) (hP : P_M_check  h Q) : zC true zy_X3_check 5 [zR 101] h (zQ0 Q) := by
  unfold P_M_check at hP
  refine zC.of (by decide) (Nat.le_of_ble_eq_true rfl) ?_
  show zV true zy_X3_check 5 0 [zR 101, zU, zU, zU] [] h (zQ0 Q)
  refine zV_iconst dX3_check_0 ⟨by decide, by decide⟩ ?_
  refine zV_istore_n (ls' := [zR 101, zI 0, zU, zU]) dX3_check_1 rfl (Nat.le_of_ble_eq_true rfl) rfl rfl ?_
  obtain ⟨n2, hP⟩ := hP
  refine W_M_check_L2 _ _ (fun u1_24 h4 hP => ?_) n2 _ _ hP
  exact W_M_check_J24 _ _ _ hP
def P_M_refusedAt (h : zH) (Q : Int → zH → Prop) : Prop :=
Q (zd h 101 111) h
theorem W_M_refusedAt (h : zH) (Q : Int → zH → Prop) (hP : P_M_refusedAt  h Q) : zC true zy_X3_refusedAt 1 [zR 101] h (zQ0 Q) := by
  unfold P_M_refusedAt at hP
  refine zC.of (by decide) (Nat.le_of_ble_eq_true rfl) ?_
  show zV true zy_X3_refusedAt 1 0 [zR 101] [] h (zQ0 Q)
  refine zV_aload_n dX3_refusedAt_0 rfl ?_
  refine zV_gf dX3_refusedAt_1 sa_101 (by decide) fl_X3_231_3 rfl (ki := 111) rfl ?_
  exact zV_ireturn dX3_refusedAt_4 rfl rfl rfl ⟨rfl, hP⟩
def P_M_counted_J75 (y1 : Int) (y2 : Int) (y3 : Int) (s0 : Int) (s1 : Int) (h : zH) (Q : Int → zH → Prop) : Prop :=
∀ h3 : zH, h3 = zw h 101 4 (w32 (s1 + (w32 (s0 - y3)))) →
(0 ≤ y1 ∧ y1 < 301) ∧
∀ h4 : zH, h4 = zw h3 103 y1 (zbit y2) →
Q y3 h4
theorem W_M_counted_J75 (y1 : Int) (y2 : Int) (y3 : Int) (s0 : Int) (s1 : Int) (h : zH) (Q : Int → zH → Prop) (hP : P_M_counted_J75 y1 y2 y3 s0 s1 h Q) : zV true zy_X3_counted 3 75 [zR 101, zI y1, zI y2, zI y3] [zI s0, zI s1, zR 101] h (zQ0 Q) := by
  unfold P_M_counted_J75 at hP
  refine zV_iload_n dX3_counted_75 rfl ?_
  refine zV_isub dX3_counted_76 ?_
  refine zV_iadd dX3_counted_77 ?_
  refine zV_pf dX3_counted_78 sa_101 (by decide) fl_X3_630_3 rfl rfl trivial (ki := 4) rfl (fun h3 e_h3 => ?_)
  have hP := hP h3 e_h3
  refine zV_aload_n dX3_counted_81 rfl ?_
  refine zV_sg dX3_counted_82 fm_101_3 sa_101 (by decide) fl_X3_13_3 rfl ?_
  refine zV_iload_n dX3_counted_85 rfl ?_
  refine zV_iload_n dX3_counted_86 rfl ?_
  obtain ⟨ob, hP⟩ := hP
  refine zV_zas dX3_counted_87 sa_103 ob (fun h4 e_h4 => ?_)
  have hP := hP h4 e_h4
  refine zV_iload_n dX3_counted_88 rfl ?_
  exact zV_ireturn dX3_counted_89 rfl rfl rfl ⟨rfl, hP⟩
def P_M_counted_J60 (y1 : Int) (y2 : Int) (s0 : Int) (h : zH) (Q : Int → zH → Prop) : Prop :=
P_M_counted_J75 y1 y2 s0 (if y2 = 0 then 0 else 1) (zd h 101 4) h Q
theorem W_M_counted_J60 (y1 : Int) (y2 : Int) (s0 : Int) (h : zH) (Q : Int → zH → Prop) (hP : P_M_counted_J60 y1 y2 s0 h Q) : zV true zy_X3_counted 3 60 [zR 101, zI y1, zI y2, zU] [zI s0] h (zQ0 Q) := by
  unfold P_M_counted_J60 at hP
  refine zV_istore_n (ls' := [zR 101, zI y1, zI y2, zI s0]) dX3_counted_60 rfl (Nat.le_of_ble_eq_true rfl) rfl rfl ?_
  refine zV_aload_n dX3_counted_61 rfl ?_
  refine zV_dup dX3_counted_62 (Nat.ne_of_beq_eq_false rfl) ?_
  refine zV_gf dX3_counted_63 sa_101 (by decide) fl_X3_630_3 rfl (ki := 4) rfl ?_
  refine zV_iload_n dX3_counted_66 rfl ?_
  have K : zV true zy_X3_counted 3 75 [zR 101, zI y1, zI y2, zI s0] [zI (if y2 = 0 then 0 else 1), zI (zd h 101 4), zR 101] h (zQ0 Q) := by
    exact W_M_counted_J75 _ _ _ _ _ _ _ hP
  clear hP
  refine zV_if_eq (tgt := 74) dX3_counted_67 (by decide) (fun c => ?_) (fun c => ?_)
  · try simp only [if_pos c] at K
    refine zV_iconst dX3_counted_74 ⟨by decide, by decide⟩ ?_
    refine zV_mask [true, true, true, true] rfl ?_
    exact K
  · try simp only [if_neg c] at K
    refine zV_iconst dX3_counted_70 ⟨by decide, by decide⟩ ?_
    refine zV_goto (tgt := 75) dX3_counted_71 (by decide) ?_
    refine zV_mask [true, true, true, true] rfl ?_
    exact K
def P_M_counted_J46 (y1 : Int) (y2 : Int) (h : zH) (Q : Int → zH → Prop) : Prop :=
(0 ≤ y1 ∧ y1 < 301) ∧
P_M_counted_J60 y1 y2 (if zd h 103 y1 = 0 then 0 else 1) h Q
theorem W_M_counted_J46 (y1 : Int) (y2 : Int) (h : zH) (Q : Int → zH → Prop) (hP : P_M_counted_J46 y1 y2 h Q) : zV true zy_X3_counted 3 46 [zR 101, zI y1, zI y2, zU] [] h (zQ0 Q) := by
  unfold P_M_counted_J46 at hP
  refine zV_aload_n dX3_counted_46 rfl ?_
  refine zV_sg dX3_counted_47 fm_101_3 sa_101 (by decide) fl_X3_13_3 rfl ?_
  refine zV_iload_n dX3_counted_50 rfl ?_
  obtain ⟨ob, hP⟩ := hP
  refine zV_za dX3_counted_51 sa_103 ob ?_
  have K : zV true zy_X3_counted 3 60 [zR 101, zI y1, zI y2, zU] [zI (if zd h 103 y1 = 0 then 0 else 1)] h (zQ0 Q) := by
    exact W_M_counted_J60 _ _ _ _ _ hP
  clear hP
  refine zV_if_eq (tgt := 59) dX3_counted_52 (by decide) (fun c => ?_) (fun c => ?_)
  · try simp only [if_pos c] at K
    refine zV_iconst dX3_counted_59 ⟨by decide, by decide⟩ ?_
    refine zV_mask [true, true, true, false] rfl ?_
    exact K
  · try simp only [if_neg c] at K
    refine zV_iconst dX3_counted_55 ⟨by decide, by decide⟩ ?_
    refine zV_goto (tgt := 60) dX3_counted_56 (by decide) ?_
    refine zV_mask [true, true, true, false] rfl ?_
    exact K
def P_M_counted (a1 : Int) (a2 : Int) (h : zH) (Q : Int → zH → Prop) : Prop :=
P_M_isName a1 h (fun r1 h2 =>
if r1 = 0 then
(P_M_fail (-1001) h2 (fun r7 h8 =>
Q r7 h8))
else
(if a2 = 0 then
(P_M_counted_J46 a1 a2 h2 Q)
else
((0 ≤ a1 ∧ a1 < 301) ∧
if zd h2 103 a1 = 0 then
(if zd h2 101 4 = 20 then
(P_M_fail (-1003) h2 (fun r5 h6 =>
Q r5 h6))
else
(P_M_counted_J46 a1 a2 h2 Q))
else
(P_M_counted_J46 a1 a2 h2 Q))))
theorem W_M_counted (a1 : Int) (a2 : Int) (h : zH) (Q : Int → zH → Prop) (hP : P_M_counted a1 a2 h Q) : zC true zy_X3_counted 3 [zR 101, zI a1, zI a2] h (zQ0 Q) := by
  unfold P_M_counted at hP
  refine zC.of (by decide) (Nat.le_of_ble_eq_true rfl) ?_
  show zV true zy_X3_counted 3 0 [zR 101, zI a1, zI a2, zU] [] h (zQ0 Q)
  refine zV_aload_n dX3_counted_0 rfl ?_
  refine zV_iload_n dX3_counted_1 rfl ?_
  refine zV_cVk (As := [zI a1]) (rest := []) dX3_counted_2 sa_101 (W_M_isName _ _ _ hP) mi_X3_isName ml_X3_433 (by decide) (Nat.le_of_ble_eq_true rfl) rfl rfl rfl (fun r1 h2 hP => ?_)
  refine zV_if_ne (tgt := 16) dX3_counted_5 (by decide) (fun c => ?_) (fun c => ?_)
  · have hP := zif_n hP c
    refine zV_iload_n dX3_counted_16 rfl ?_
    refine zV_if_eq (tgt := 46) dX3_counted_17 (by decide) (fun c => ?_) (fun c => ?_)
    · have hP := zif_p hP c
      exact W_M_counted_J46 _ _ _ _ hP
    · have hP := zif_n hP c
      refine zV_aload_n dX3_counted_20 rfl ?_
      refine zV_sg dX3_counted_21 fm_101_3 sa_101 (by decide) fl_X3_13_3 rfl ?_
      refine zV_iload_n dX3_counted_24 rfl ?_
      obtain ⟨ob, hP⟩ := hP
      refine zV_za dX3_counted_25 sa_103 ob ?_
      refine zV_if_ne (tgt := 46) dX3_counted_26 (by decide) (fun c => ?_) (fun c => ?_)
      · have hP := zif_n hP c
        exact W_M_counted_J46 _ _ _ _ hP
      · have hP := zif_p hP c
        refine zV_aload_n dX3_counted_29 rfl ?_
        refine zV_gf dX3_counted_30 sa_101 (by decide) fl_X3_630_3 rfl (ki := 4) rfl ?_
        refine zV_bipush dX3_counted_33 ⟨by decide, by decide, by decide⟩ ?_
        refine zV_icmp_ne (tgt := 46) dX3_counted_35 (by decide) (fun c => ?_) (fun c => ?_)
        · have hP := zif_n hP c
          exact W_M_counted_J46 _ _ _ _ hP
        · have hP := zif_p hP c
          refine zV_aload_n dX3_counted_38 rfl ?_
          refine zV_sipush dX3_counted_39 ⟨by decide, by decide, by decide⟩ ?_
          refine zV_cVk (As := [zI (-1003)]) (rest := []) dX3_counted_42 sa_101 (W_M_fail _ _ _ hP) mi_X3_fail ml_X3_242 (by decide) (Nat.le_of_ble_eq_true rfl) rfl rfl rfl (fun r5 h6 hP => ?_)
          exact zV_ireturn dX3_counted_45 rfl rfl rfl ⟨rfl, hP⟩
  · have hP := zif_p hP c
    refine zV_aload_n dX3_counted_8 rfl ?_
    refine zV_sipush dX3_counted_9 ⟨by decide, by decide, by decide⟩ ?_
    refine zV_cVk (As := [zI (-1001)]) (rest := []) dX3_counted_12 sa_101 (W_M_fail _ _ _ hP) mi_X3_fail ml_X3_242 (by decide) (Nat.le_of_ble_eq_true rfl) rfl rfl rfl (fun r7 h8 hP => ?_)
    exact zV_ireturn dX3_counted_15 rfl rfl rfl ⟨rfl, hP⟩
def P_M_bar_J63 (y1 : Int) (y2 : Int) (y3 : Int) (y4 : Int) (h : zH) (Q : Int → zH → Prop) (k5 : Int → Int → zH → Prop) : Prop :=
∀ x4_2 : Int, x4_2 = w32 (y4 + 1) →
k5 y3 x4_2 h
theorem W_M_bar_J63 (y1 : Int) (y2 : Int) (y3 : Int) (y4 : Int) (h : zH) (Q : Int → zH → Prop) (k5 : Int → Int → zH → Prop) (H5 : ∀ (v3 v4 : Int) (h' : zH), k5 v3 v4 h' → zV true zy_X3_bar 1 5 [zR 101, zI y1, zI y2, zI v3, zI v4] [] h' (zQ0 Q)) (hP : P_M_bar_J63 y1 y2 y3 y4 h Q k5) : zV true zy_X3_bar 1 63 [zR 101, zI y1, zI y2, zI y3, zI y4] [] h (zQ0 Q) := by
  unfold P_M_bar_J63 at hP
  refine zV_inc (ls' := fun z => [zR 101, zI y1, zI y2, zI y3, zI z]) dX3_bar_63 (Nat.le_of_ble_eq_true rfl) rfl rfl (fun _ => rfl) (fun x4_2 e_x4_2 => ?_)
  have hP := hP x4_2 e_x4_2
  refine zV_goto (tgt := 5) dX3_bar_66 (by decide) ?_
  exact H5 _ _ _ hP
def P_M_bar_J59 (y1 : Int) (y2 : Int) (y3 : Int) (y4 : Int) (s0 : Int) (s1 : Int) (h : zH) (Q : Int → zH → Prop) (k5 : Int → Int → zH → Prop) : Prop :=
(0 ≤ s1 ∧ s1 < 2600) ∧
∀ h3 : zH, h3 = zw h 124 s1 s0 →
∀ x3_4 : Int, x3_4 = w32 (y3 + 1) →
P_M_bar_J63 y1 y2 x3_4 y4 h3 Q k5
theorem W_M_bar_J59 (y1 : Int) (y2 : Int) (y3 : Int) (y4 : Int) (s0 : Int) (s1 : Int) (h : zH) (Q : Int → zH → Prop) (k5 : Int → Int → zH → Prop) (H5 : ∀ (v3 v4 : Int) (h' : zH), k5 v3 v4 h' → zV true zy_X3_bar 1 5 [zR 101, zI y1, zI y2, zI v3, zI v4] [] h' (zQ0 Q)) (hP : P_M_bar_J59 y1 y2 y3 y4 s0 s1 h Q k5) : zV true zy_X3_bar 1 59 [zR 101, zI y1, zI y2, zI y3, zI y4] [zI s0, zI s1, zR 124] h (zQ0 Q) := by
  unfold P_M_bar_J59 at hP
  obtain ⟨ob, hP⟩ := hP
  refine zV_ias dX3_bar_59 sa_124 ob (fun h3 e_h3 => ?_)
  have hP := hP h3 e_h3
  refine zV_inc (ls' := fun z => [zR 101, zI y1, zI y2, zI z, zI y4]) dX3_bar_60 (Nat.le_of_ble_eq_true rfl) rfl rfl (fun _ => rfl) (fun x3_4 e_x3_4 => ?_)
  have hP := hP x3_4 e_x3_4
  exact W_M_bar_J63 _ _ _ _ _ _ _ H5 hP
def P_M_bar_L5 (y1 : Int) (y2 : Int) (Q : Int → zH → Prop) : Nat → Int → Int → zH → Prop
| 0, _, _, _ => False
| n5 + 1, y3, y4, h =>
if zd h 101 1 < y4 then
((0 ≤ y2 ∧ y2 < 130) ∧
∀ h1 : zH, h1 = zw h 123 y2 y3 →
Q 0 h1)
else
((0 ≤ y4 ∧ y4 < 301) ∧
if zd h 103 y4 = 0 then
(P_M_bar_J63 y1 y2 y3 y4 h Q (P_M_bar_L5 y1 y2 Q n5))
else
((0 ≤ w32 ((w32 (301 * y1)) + y4) ∧ w32 ((w32 (301 * y1)) + y4) < 602) ∧
P_M_bar_J59 y1 y2 y3 y4 (if zd h 143 (w32 ((w32 (301 * y1)) + y4)) = 1 then w32 (-y4) else y4) (w32 ((w32 (20 * y2)) + y3)) h Q (P_M_bar_L5 y1 y2 Q n5)))
theorem W_M_bar_L5 (y1 : Int) (y2 : Int) (Q : Int → zH → Prop) : ∀ (n5 : Nat) (y3 y4 : Int) (h : zH), P_M_bar_L5 y1 y2 Q n5 y3 y4 h → zV true zy_X3_bar 1 5 [zR 101, zI y1, zI y2, zI y3, zI y4] [] h (zQ0 Q) := by
  intro n5
  induction n5 with
  | zero => intro y3 y4 h hP; exact absurd hP id
  | succ n5 ih =>
    intro y3 y4 h hP
    unfold P_M_bar_L5 at hP
    refine zV_iload dX3_bar_5 rfl ?_
    refine zV_aload_n dX3_bar_7 rfl ?_
    refine zV_gf dX3_bar_8 sa_101 (by decide) fl_X3_246_3 rfl (ki := 1) rfl ?_
    refine zV_icmp_gt (tgt := 69) dX3_bar_11 (by decide) (fun c => ?_) (fun c => ?_)
    · have hP := zif_p hP c
      refine zV_aload_n dX3_bar_69 rfl ?_
      refine zV_sg dX3_bar_70 fm_101_33 sa_101 (by decide) fl_X3_74_3 rfl ?_
      refine zV_iload_n dX3_bar_73 rfl ?_
      refine zV_iload_n dX3_bar_74 rfl ?_
      obtain ⟨ob, hP⟩ := hP
      refine zV_ias dX3_bar_75 sa_123 ob (fun h1 e_h1 => ?_)
      have hP := hP h1 e_h1
      exact zV_return dX3_bar_76 rfl ⟨rfl, hP⟩
    · have hP := zif_n hP c
      refine zV_aload_n dX3_bar_14 rfl ?_
      refine zV_sg dX3_bar_15 fm_101_3 sa_101 (by decide) fl_X3_13_3 rfl ?_
      refine zV_iload dX3_bar_18 rfl ?_
      obtain ⟨ob, hP⟩ := hP
      refine zV_za dX3_bar_20 sa_103 ob ?_
      refine zV_if_eq (tgt := 63) dX3_bar_21 (by decide) (fun c => ?_) (fun c => ?_)
      · have hP := zif_p hP c
        exact W_M_bar_J63 _ _ _ _ _ _ _ ih hP
      · have hP := zif_n hP c
        refine zV_aload_n dX3_bar_24 rfl ?_
        refine zV_sg dX3_bar_25 fm_101_34 sa_101 (by decide) fl_X3_77_3 rfl ?_
        refine zV_bipush dX3_bar_28 ⟨by decide, by decide, by decide⟩ ?_
        refine zV_iload_n dX3_bar_30 rfl ?_
        refine zV_imul dX3_bar_31 ?_
        refine zV_iload_n dX3_bar_32 rfl ?_
        refine zV_iadd dX3_bar_33 ?_
        refine zV_aload_n dX3_bar_34 rfl ?_
        refine zV_sg dX3_bar_35 fm_101_69 sa_101 (by decide) fl_X3_134_3 rfl ?_
        refine zV_sipush dX3_bar_38 ⟨by decide, by decide, by decide⟩ ?_
        refine zV_iload_n dX3_bar_41 rfl ?_
        refine zV_imul dX3_bar_42 ?_
        refine zV_iload dX3_bar_43 rfl ?_
        refine zV_iadd dX3_bar_45 ?_
        obtain ⟨ob, hP⟩ := hP
        refine zV_ia dX3_bar_46 sa_143 ob ?_
        refine zV_iconst dX3_bar_47 ⟨by decide, by decide⟩ ?_
        have K : zV true zy_X3_bar 1 59 [zR 101, zI y1, zI y2, zI y3, zI y4] [zI (if zd h 143 (w32 ((w32 (301 * y1)) + y4)) = 1 then w32 (-y4) else y4), zI (w32 ((w32 (20 * y2)) + y3)), zR 124] h (zQ0 Q) := by
          exact W_M_bar_J59 _ _ _ _ _ _ _ _ _ ih hP
        clear hP
        refine zV_icmp_ne (tgt := 57) dX3_bar_48 (by decide) (fun c => ?_) (fun c => ?_)
        · try simp only [if_neg c] at K
          refine zV_iload dX3_bar_57 rfl ?_
          refine zV_mask [true, true, true, true, true] rfl ?_
          exact K
        · try simp only [if_pos c] at K
          refine zV_iload dX3_bar_51 rfl ?_
          refine zV_ineg dX3_bar_53 ?_
          refine zV_goto (tgt := 59) dX3_bar_54 (by decide) ?_
          refine zV_mask [true, true, true, true, true] rfl ?_
          exact K
def P_M_bar (a1 : Int) (a2 : Int) (h : zH) (Q : Int → zH → Prop) : Prop :=
∃ n5, P_M_bar_L5 a1 a2 Q n5 0 1 h
theorem W_M_bar (a1 : Int) (a2 : Int) (h : zH) (Q : Int → zH → Prop) (hP : P_M_bar a1 a2 h Q) : zC true zy_X3_bar 1 [zR 101, zI a1, zI a2] h (zQ0 Q) := by
  unfold P_M_bar at hP
  refine zC.of (by decide) (Nat.le_of_ble_eq_true rfl) ?_
  show zV true zy_X3_bar 1 0 [zR 101, zI a1, zI a2, zU, zU] [] h (zQ0 Q)
  refine zV_iconst dX3_bar_0 ⟨by decide, by decide⟩ ?_
  refine zV_istore_n (ls' := [zR 101, zI a1, zI a2, zI 0, zU]) dX3_bar_1 rfl (Nat.le_of_ble_eq_true rfl) rfl rfl ?_
  refine zV_iconst dX3_bar_2 ⟨by decide, by decide⟩ ?_
  refine zV_istore (ls' := [zR 101, zI a1, zI a2, zI 0, zI 1]) dX3_bar_3 (Nat.le_of_ble_eq_true rfl) rfl rfl ?_
  obtain ⟨n5, hP⟩ := hP
  refine W_M_bar_L5 _ _ _ n5 _ _ _ hP
def P_M_next (a1 : Int) (h : zH) (Q : Int → zH → Prop) : Prop :=
P_M_areSteps a1 h (fun r1 h2 =>
if r1 = 0 then
(P_M_fail (-1001) h2 (fun r21 h22 =>
Q r21 h22))
else
(if zd h2 101 32 = 64 then
(P_M_fail (-1003) h2 (fun r19 h20 =>
Q r19 h20))
else
(P_M_prepare 0 h2 (fun r3 h4 =>
∀ h5 : zH, h5 = zw h4 101 66 0 →
∀ h6 : zH, h6 = zw h5 101 67 (zd h5 101 32) →
∀ h7 : zH, h7 = zw h6 101 59 (zd h6 101 11) →
∀ h8 : zH, h8 = zw h7 101 91 0 →
∀ h9 : zH, h9 = zw h8 101 58 1 →
∀ h10 : zH, h10 = zw h9 101 89 a1 →
P_M_solving 0 h10 (fun r11 h12 =>
P_M_ended r11 h12 (fun r13 h14 =>
∀ h15 : zH, h15 = zw h14 101 57 0 →
if r13 = 1 then
(P_M_bar 0 (zd h15 101 32) h15 (fun r16 h17 =>
∀ h18 : zH, h18 = zw h17 101 32 (w32 ((zd h17 101 32) + 1)) →
Q r13 h18))
else
(Q r13 h15)))))))
theorem W_M_next (a1 : Int) (h : zH) (Q : Int → zH → Prop) (hP : P_M_next a1 h Q) : zC true zy_X3_next 8 [zR 101, zI a1] h (zQ0 Q) := by
  unfold P_M_next at hP
  refine zC.of (by decide) (Nat.le_of_ble_eq_true rfl) ?_
  show zV true zy_X3_next 8 0 [zR 101, zI a1, zU] [] h (zQ0 Q)
  refine zV_iload_n dX3_next_0 rfl ?_
  refine zV_cSk (As := [zI a1]) (rest := []) dX3_next_1 (W_M_areSteps _ _ _ hP) mi_X3_areSteps ml_X3_578 (by decide) (Nat.le_of_ble_eq_true rfl) rfl rfl rfl (fun r1 h2 hP => ?_)
  refine zV_if_ne (tgt := 15) dX3_next_4 (by decide) (fun c => ?_) (fun c => ?_)
  · have hP := zif_n hP c
    refine zV_aload_n dX3_next_15 rfl ?_
    refine zV_gf dX3_next_16 sa_101 (by decide) fl_X3_374_3 rfl (ki := 32) rfl ?_
    refine zV_bipush dX3_next_19 ⟨by decide, by decide, by decide⟩ ?_
    refine zV_icmp_ne (tgt := 32) dX3_next_21 (by decide) (fun c => ?_) (fun c => ?_)
    · have hP := zif_n hP c
      refine zV_aload_n dX3_next_32 rfl ?_
      refine zV_iconst dX3_next_33 ⟨by decide, by decide⟩ ?_
      refine zV_cVv (As := [zI 0]) (rest := []) dX3_next_34 sa_101 (W_M_prepare _ _ _ hP) mi_X3_prepare ml_X3_581 (by decide) (Nat.le_of_ble_eq_true rfl) rfl rfl (fun r3 h4 hP => ?_)
      refine zV_aload_n dX3_next_37 rfl ?_
      refine zV_iconst dX3_next_38 ⟨by decide, by decide⟩ ?_
      refine zV_pf dX3_next_39 sa_101 (by decide) fl_X3_442_3 rfl rfl trivial (ki := 66) rfl (fun h5 e_h5 => ?_)
      have hP := hP h5 e_h5
      refine zV_aload_n dX3_next_42 rfl ?_
      refine zV_aload_n dX3_next_43 rfl ?_
      refine zV_gf dX3_next_44 sa_101 (by decide) fl_X3_374_3 rfl (ki := 32) rfl ?_
      refine zV_pf dX3_next_47 sa_101 (by decide) fl_X3_467_3 rfl rfl trivial (ki := 67) rfl (fun h6 e_h6 => ?_)
      have hP := hP h6 e_h6
      refine zV_aload_n dX3_next_50 rfl ?_
      refine zV_aload_n dX3_next_51 rfl ?_
      refine zV_gf dX3_next_52 sa_101 (by decide) fl_X3_264_3 rfl (ki := 11) rfl ?_
      refine zV_pf dX3_next_55 sa_101 (by decide) fl_X3_400_3 rfl rfl trivial (ki := 59) rfl (fun h7 e_h7 => ?_)
      have hP := hP h7 e_h7
      refine zV_aload_n dX3_next_58 rfl ?_
      refine zV_iconst dX3_next_59 ⟨by decide, by decide⟩ ?_
      refine zV_pf dX3_next_60 sa_101 (by decide) fl_X3_533_3 rfl rfl z0 (ki := 91) rfl (fun h8 e_h8 => ?_)
      have hP := hP h8 e_h8
      refine zV_aload_n dX3_next_63 rfl ?_
      refine zV_iconst dX3_next_64 ⟨by decide, by decide⟩ ?_
      refine zV_pf dX3_next_65 sa_101 (by decide) fl_X3_470_3 rfl rfl z1 (ki := 58) rfl (fun h9 e_h9 => ?_)
      have hP := hP h9 e_h9
      refine zV_aload_n dX3_next_68 rfl ?_
      refine zV_iload_n dX3_next_69 rfl ?_
      refine zV_pf dX3_next_70 sa_101 (by decide) fl_X3_490_3 rfl rfl trivial (ki := 89) rfl (fun h10 e_h10 => ?_)
      have hP := hP h10 e_h10
      refine zV_aload_n dX3_next_73 rfl ?_
      refine zV_aload_n dX3_next_74 rfl ?_
      refine zV_iconst dX3_next_75 ⟨by decide, by decide⟩ ?_
      refine zV_cVk (As := [zI 0]) (rest := [zR 101]) dX3_next_76 sa_101 (W_M_solving _ _ _ hP) mi_X3_solving ml_X3_587 (by decide) (Nat.le_of_ble_eq_true rfl) rfl rfl rfl (fun r11 h12 hP => ?_)
      refine zV_cVk (As := [zI r11]) (rest := []) dX3_next_79 sa_101 (W_M_ended _ _ _ hP) mi_X3_ended ml_X3_590 (by decide) (Nat.le_of_ble_eq_true rfl) rfl rfl rfl (fun r13 h14 hP => ?_)
      refine zV_istore_n (ls' := [zR 101, zI a1, zI r13]) dX3_next_82 rfl (Nat.le_of_ble_eq_true rfl) rfl rfl ?_
      refine zV_aload_n dX3_next_83 rfl ?_
      refine zV_iconst dX3_next_84 ⟨by decide, by decide⟩ ?_
      refine zV_pf dX3_next_85 sa_101 (by decide) fl_X3_249_3 rfl rfl z0 (ki := 57) rfl (fun h15 e_h15 => ?_)
      have hP := hP h15 e_h15
      refine zV_iload_n dX3_next_88 rfl ?_
      refine zV_iconst dX3_next_89 ⟨by decide, by decide⟩ ?_
      refine zV_icmp_ne (tgt := 112) dX3_next_90 (by decide) (fun c => ?_) (fun c => ?_)
      · have hP := zif_n hP c
        refine zV_iload_n dX3_next_112 rfl ?_
        exact zV_ireturn dX3_next_113 rfl rfl rfl ⟨rfl, hP⟩
      · have hP := zif_p hP c
        refine zV_aload_n dX3_next_93 rfl ?_
        refine zV_iconst dX3_next_94 ⟨by decide, by decide⟩ ?_
        refine zV_aload_n dX3_next_95 rfl ?_
        refine zV_gf dX3_next_96 sa_101 (by decide) fl_X3_374_3 rfl (ki := 32) rfl ?_
        refine zV_cVv (As := [zI 0, zI (zd h15 101 32)]) (rest := []) dX3_next_99 sa_101 (W_M_bar _ _ _ _ hP) mi_X3_bar ml_X3_633 (by decide) (Nat.le_of_ble_eq_true rfl) rfl rfl (fun r16 h17 hP => ?_)
        refine zV_aload_n dX3_next_102 rfl ?_
        refine zV_dup dX3_next_103 (Nat.ne_of_beq_eq_false rfl) ?_
        refine zV_gf dX3_next_104 sa_101 (by decide) fl_X3_374_3 rfl (ki := 32) rfl ?_
        refine zV_iconst dX3_next_107 ⟨by decide, by decide⟩ ?_
        refine zV_iadd dX3_next_108 ?_
        refine zV_pf dX3_next_109 sa_101 (by decide) fl_X3_374_3 rfl rfl trivial (ki := 32) rfl (fun h18 e_h18 => ?_)
        have hP := hP h18 e_h18
        refine zV_iload_n dX3_next_112 rfl ?_
        exact zV_ireturn dX3_next_113 rfl rfl rfl ⟨rfl, hP⟩
    · have hP := zif_p hP c
      refine zV_aload_n dX3_next_24 rfl ?_
      refine zV_sipush dX3_next_25 ⟨by decide, by decide, by decide⟩ ?_
      refine zV_cVk (As := [zI (-1003)]) (rest := []) dX3_next_28 sa_101 (W_M_fail _ _ _ hP) mi_X3_fail ml_X3_242 (by decide) (Nat.le_of_ble_eq_true rfl) rfl rfl rfl (fun r19 h20 hP => ?_)
      exact zV_ireturn dX3_next_31 rfl rfl rfl ⟨rfl, hP⟩
  · have hP := zif_p hP c
    refine zV_aload_n dX3_next_7 rfl ?_
    refine zV_sipush dX3_next_8 ⟨by decide, by decide, by decide⟩ ?_
    refine zV_cVk (As := [zI (-1001)]) (rest := []) dX3_next_11 sa_101 (W_M_fail _ _ _ hP) mi_X3_fail ml_X3_242 (by decide) (Nat.le_of_ble_eq_true rfl) rfl rfl rfl (fun r21 h22 hP => ?_)
    exact zV_ireturn dX3_next_14 rfl rfl rfl ⟨rfl, hP⟩
def P_M_unbar (h : zH) (Q : Int → zH → Prop) : Prop :=
∀ x1_1 : Int, x1_1 = (zd h 101 32) →
∀ h2 : zH, h2 = zw h 101 32 0 →
Q x1_1 h2
theorem W_M_unbar (h : zH) (Q : Int → zH → Prop) (hP : P_M_unbar  h Q) : zC true zy_X3_unbar 1 [zR 101] h (zQ0 Q) := by
  unfold P_M_unbar at hP
  refine zC.of (by decide) (Nat.le_of_ble_eq_true rfl) ?_
  show zV true zy_X3_unbar 1 0 [zR 101, zU] [] h (zQ0 Q)
  refine zV_aload_n dX3_unbar_0 rfl ?_
  refine zV_gf dX3_unbar_1 sa_101 (by decide) fl_X3_374_3 rfl (ki := 32) rfl ?_
  refine zV_top (fun x1_1 e_x1_1 => ?_)
  have hP := hP x1_1 e_x1_1
  refine zV_istore_n (ls' := [zR 101, zI x1_1]) dX3_unbar_4 rfl (Nat.le_of_ble_eq_true rfl) rfl rfl ?_
  refine zV_aload_n dX3_unbar_5 rfl ?_
  refine zV_iconst dX3_unbar_6 ⟨by decide, by decide⟩ ?_
  refine zV_pf dX3_unbar_7 sa_101 (by decide) fl_X3_374_3 rfl rfl trivial (ki := 32) rfl (fun h2 e_h2 => ?_)
  have hP := hP h2 e_h2
  refine zV_iload_n dX3_unbar_10 rfl ?_
  exact zV_ireturn dX3_unbar_11 rfl rfl rfl ⟨rfl, hP⟩
def P_M_count_L35 (y1 : Int) (Q : Int → zH → Prop) (k90 : Int → Int → zH → Prop) : Nat → Int → Int → zH → Prop
| 0, _, _, _ => False
| n35 + 1, y3, y4, h =>
if y1 ≤ y3 then
(k90 y3 y4 h)
else
(if y4 = 1 then
(P_M_prepare 1 h (fun r8 h9 =>
∀ h10 : zH, h10 = zw h9 101 66 64 →
∀ h11 : zH, h11 = zw h10 101 67 y3 →
P_M_solving 1 h11 (fun r12 h13 =>
if r12 = 1 then
(P_M_bar 1 (w32 (64 + y3)) h13 (fun r14 h15 =>
∀ x3_16 : Int, x3_16 = w32 (y3 + 1) →
P_M_count_L35 y1 Q k90 n35 x3_16 r12 h15))
else
(P_M_count_L35 y1 Q k90 n35 y3 r12 h13))))
else
(k90 y3 y4 h))
theorem W_M_count_L35 (y1 : Int) (Q : Int → zH → Prop) (k90 : Int → Int → zH → Prop) (H90 : ∀ (v3 v4 : Int) (h' : zH), k90 v3 v4 h' → zV true zy_X3_count 8 90 [zR 101, zU, zU, zI v3, zI v4] [] h' (zQ0 Q)) : ∀ (n35 : Nat) (y3 y4 : Int) (h : zH), P_M_count_L35 y1 Q k90 n35 y3 y4 h → zV true zy_X3_count 8 35 [zR 101, zI y1, zU, zI y3, zI y4] [] h (zQ0 Q) := by
  intro n35
  induction n35 with
  | zero => intro y3 y4 h hP; exact absurd hP id
  | succ n35 ih =>
    intro y3 y4 h hP
    unfold P_M_count_L35 at hP
    refine zV_iload_n dX3_count_35 rfl ?_
    refine zV_iload_n dX3_count_36 rfl ?_
    refine zV_icmp_ge (tgt := 90) dX3_count_37 (by decide) (fun c => ?_) (fun c => ?_)
    · have hP := zif_p hP c
      refine zV_mask [true, false, true, true, true] (ls' := [zR 101, zU, zU, zI y3, zI y4]) rfl ?_
      exact H90 _ _ _ hP
    · have hP := zif_n hP c
      refine zV_iload dX3_count_40 rfl ?_
      refine zV_iconst dX3_count_42 ⟨by decide, by decide⟩ ?_
      refine zV_icmp_ne (tgt := 90) dX3_count_43 (by decide) (fun c => ?_) (fun c => ?_)
      · have hP := zif_n hP c
        refine zV_mask [true, false, true, true, true] (ls' := [zR 101, zU, zU, zI y3, zI y4]) rfl ?_
        exact H90 _ _ _ hP
      · have hP := zif_p hP c
        refine zV_aload_n dX3_count_46 rfl ?_
        refine zV_iconst dX3_count_47 ⟨by decide, by decide⟩ ?_
        refine zV_cVv (As := [zI 1]) (rest := []) dX3_count_48 sa_101 (W_M_prepare _ _ _ hP) mi_X3_prepare ml_X3_581 (by decide) (Nat.le_of_ble_eq_true rfl) rfl rfl (fun r8 h9 hP => ?_)
        refine zV_aload_n dX3_count_51 rfl ?_
        refine zV_bipush dX3_count_52 ⟨by decide, by decide, by decide⟩ ?_
        refine zV_pf dX3_count_54 sa_101 (by decide) fl_X3_442_3 rfl rfl trivial (ki := 66) rfl (fun h10 e_h10 => ?_)
        have hP := hP h10 e_h10
        refine zV_aload_n dX3_count_57 rfl ?_
        refine zV_iload_n dX3_count_58 rfl ?_
        refine zV_pf dX3_count_59 sa_101 (by decide) fl_X3_467_3 rfl rfl trivial (ki := 67) rfl (fun h11 e_h11 => ?_)
        have hP := hP h11 e_h11
        refine zV_aload_n dX3_count_62 rfl ?_
        refine zV_iconst dX3_count_63 ⟨by decide, by decide⟩ ?_
        refine zV_cVk (As := [zI 1]) (rest := []) dX3_count_64 sa_101 (W_M_solving _ _ _ hP) mi_X3_solving ml_X3_587 (by decide) (Nat.le_of_ble_eq_true rfl) rfl rfl rfl (fun r12 h13 hP => ?_)
        refine zV_istore (ls' := [zR 101, zI y1, zU, zI y3, zI r12]) dX3_count_67 (Nat.le_of_ble_eq_true rfl) rfl rfl ?_
        refine zV_iload dX3_count_69 rfl ?_
        refine zV_iconst dX3_count_71 ⟨by decide, by decide⟩ ?_
        refine zV_icmp_ne (tgt := 35) dX3_count_72 (by decide) (fun c => ?_) (fun c => ?_)
        · have hP := zif_n hP c
          exact ih _ _ _ hP
        · have hP := zif_p hP c
          refine zV_aload_n dX3_count_75 rfl ?_
          refine zV_iconst dX3_count_76 ⟨by decide, by decide⟩ ?_
          refine zV_bipush dX3_count_77 ⟨by decide, by decide, by decide⟩ ?_
          refine zV_iload_n dX3_count_79 rfl ?_
          refine zV_iadd dX3_count_80 ?_
          refine zV_cVv (As := [zI 1, zI (w32 (64 + y3))]) (rest := []) dX3_count_81 sa_101 (W_M_bar _ _ _ _ hP) mi_X3_bar ml_X3_633 (by decide) (Nat.le_of_ble_eq_true rfl) rfl rfl (fun r14 h15 hP => ?_)
          refine zV_inc (ls' := fun z => [zR 101, zI y1, zU, zI z, zI r12]) dX3_count_84 (Nat.le_of_ble_eq_true rfl) rfl rfl (fun _ => rfl) (fun x3_16 e_x3_16 => ?_)
          have hP := hP x3_16 e_x3_16
          refine zV_goto (tgt := 35) dX3_count_87 (by decide) ?_
          exact ih _ _ _ hP
def P_M_count_J90 (y3 : Int) (y4 : Int) (h : zH) (Q : Int → zH → Prop) : Prop :=
∀ h18 : zH, h18 = zw h 101 66 0 →
Q (if 0 ≤ y4 then y3 else y4) h18
theorem W_M_count_J90 (y3 : Int) (y4 : Int) (h : zH) (Q : Int → zH → Prop) (hP : P_M_count_J90 y3 y4 h Q) : zV true zy_X3_count 8 90 [zR 101, zU, zU, zI y3, zI y4] [] h (zQ0 Q) := by
  unfold P_M_count_J90 at hP
  refine zV_aload_n dX3_count_90 rfl ?_
  refine zV_iconst dX3_count_91 ⟨by decide, by decide⟩ ?_
  refine zV_pf dX3_count_92 sa_101 (by decide) fl_X3_442_3 rfl rfl trivial (ki := 66) rfl (fun h18 e_h18 => ?_)
  have hP := hP h18 e_h18
  refine zV_iload dX3_count_95 rfl ?_
  have K : zV true zy_X3_count 8 106 [zU, zU, zU, zU, zU] [zI (if 0 ≤ y4 then y3 else y4)] h18 (zQ0 Q) := by
    exact zV_ireturn dX3_count_106 rfl rfl rfl ⟨rfl, hP⟩
  clear hP
  refine zV_if_ge (tgt := 105) dX3_count_97 (by decide) (fun c => ?_) (fun c => ?_)
  · try simp only [if_pos c] at K
    refine zV_iload_n dX3_count_105 rfl ?_
    refine zV_mask [false, false, false, false, false] rfl ?_
    exact K
  · try simp only [if_neg c] at K
    refine zV_iload dX3_count_100 rfl ?_
    refine zV_goto (tgt := 106) dX3_count_102 (by decide) ?_
    refine zV_mask [false, false, false, false, false] rfl ?_
    exact K
def P_M_count (a1 : Int) (a2 : Int) (h : zH) (Q : Int → zH → Prop) : Prop :=
P_M_in a1 1 64 h (fun r1 h2 =>
if r1 = 0 then
(P_M_fail (-1001) h2 (fun r3 h4 =>
Q r3 h4))
else
(P_M_areSteps a2 h2 (fun r5 h6 =>
if r5 = 0 then
(P_M_fail (-1001) h6 (fun r19 h20 =>
Q r19 h20))
else
(∀ h7 : zH, h7 = zw h6 101 89 a2 →
∃ n35, P_M_count_L35 a1 Q (fun u3_90 u4_90 h17 =>
P_M_count_J90 u3_90 u4_90 h17 Q) n35 0 1 h7))))
theorem W_M_count (a1 : Int) (a2 : Int) (h : zH) (Q : Int → zH → Prop) (hP : P_M_count a1 a2 h Q) : zC true zy_X3_count 8 [zR 101, zI a1, zI a2] h (zQ0 Q) := by
  unfold P_M_count at hP
  refine zC.of (by decide) (Nat.le_of_ble_eq_true rfl) ?_
  show zV true zy_X3_count 8 0 [zR 101, zI a1, zI a2, zU, zU] [] h (zQ0 Q)
  refine zV_iload_n dX3_count_0 rfl ?_
  refine zV_iconst dX3_count_1 ⟨by decide, by decide⟩ ?_
  refine zV_bipush dX3_count_2 ⟨by decide, by decide, by decide⟩ ?_
  refine zV_cSk (As := [zI a1, zI 1, zI 64]) (rest := []) dX3_count_4 (W_M_in _ _ _ _ _ hP) mi_X3_in ml_X3_238 (by decide) (Nat.le_of_ble_eq_true rfl) rfl rfl rfl (fun r1 h2 hP => ?_)
  refine zV_if_eq (tgt := 17) dX3_count_7 (by decide) (fun c => ?_) (fun c => ?_)
  · have hP := zif_p hP c
    refine zV_aload_n dX3_count_17 rfl ?_
    refine zV_sipush dX3_count_18 ⟨by decide, by decide, by decide⟩ ?_
    refine zV_cVk (As := [zI (-1001)]) (rest := []) dX3_count_21 sa_101 (W_M_fail _ _ _ hP) mi_X3_fail ml_X3_242 (by decide) (Nat.le_of_ble_eq_true rfl) rfl rfl rfl (fun r3 h4 hP => ?_)
    exact zV_ireturn dX3_count_24 rfl rfl rfl ⟨rfl, hP⟩
  · have hP := zif_n hP c
    refine zV_iload_n dX3_count_10 rfl ?_
    refine zV_cSk (As := [zI a2]) (rest := []) dX3_count_11 (W_M_areSteps _ _ _ hP) mi_X3_areSteps ml_X3_578 (by decide) (Nat.le_of_ble_eq_true rfl) rfl rfl rfl (fun r5 h6 hP => ?_)
    refine zV_if_ne (tgt := 25) dX3_count_14 (by decide) (fun c => ?_) (fun c => ?_)
    · have hP := zif_n hP c
      refine zV_aload_n dX3_count_25 rfl ?_
      refine zV_iload_n dX3_count_26 rfl ?_
      refine zV_pf dX3_count_27 sa_101 (by decide) fl_X3_490_3 rfl rfl trivial (ki := 89) rfl (fun h7 e_h7 => ?_)
      have hP := hP h7 e_h7
      refine zV_iconst dX3_count_30 ⟨by decide, by decide⟩ ?_
      refine zV_istore_n (ls' := [zR 101, zI a1, zI a2, zI 0, zU]) dX3_count_31 rfl (Nat.le_of_ble_eq_true rfl) rfl rfl ?_
      refine zV_iconst dX3_count_32 ⟨by decide, by decide⟩ ?_
      refine zV_istore (ls' := [zR 101, zI a1, zI a2, zI 0, zI 1]) dX3_count_33 (Nat.le_of_ble_eq_true rfl) rfl rfl ?_
      obtain ⟨n35, hP⟩ := hP
      refine zV_mask [true, true, false, true, true] (ls' := [zR 101, zI a1, zU, zI 0, zI 1]) rfl ?_
      refine W_M_count_L35 _ _ _ (fun u3_90 u4_90 h17 hP => ?_) n35 _ _ _ hP
      exact W_M_count_J90 _ _ _ _ hP
    · have hP := zif_p hP c
      refine zV_aload_n dX3_count_17 rfl ?_
      refine zV_sipush dX3_count_18 ⟨by decide, by decide, by decide⟩ ?_
      refine zV_cVk (As := [zI (-1001)]) (rest := []) dX3_count_21 sa_101 (W_M_fail _ _ _ hP) mi_X3_fail ml_X3_242 (by decide) (Nat.le_of_ble_eq_true rfl) rfl rfl rfl (fun r19 h20 hP => ?_)
      exact zV_ireturn dX3_count_24 rfl rfl rfl ⟨rfl, hP⟩
def P_M_force_L10 (Q : Int → zH → Prop) (k45 : zH → Prop) : Nat → zH → Prop
| 0, _ => False
| n10 + 1, h =>
if 0 ≤ zd h 101 98 then
(k45 h)
else
(if zd h 101 99 < 0 then
(k45 h)
else
(P_M_become 1 (zd h 101 100) (zd h 101 99) h (fun r5 h6 =>
P_M_find 1 h6 (fun r7 h8 =>
P_M_force_L10 Q k45 n10 h8))))
theorem W_M_force_L10 (Q : Int → zH → Prop) (k45 : zH → Prop) (H45 : ∀ (h' : zH), k45 h' → zV true zy_X3_force 6 45 [zR 101] [] h' (zQ0 Q)) : ∀ (n10 : Nat) (h : zH), P_M_force_L10 Q k45 n10 h → zV true zy_X3_force 6 10 [zR 101] [] h (zQ0 Q) := by
  intro n10
  induction n10 with
  | zero => intro h hP; exact absurd hP id
  | succ n10 ih =>
    intro h hP
    unfold P_M_force_L10 at hP
    refine zV_aload_n dX3_force_10 rfl ?_
    refine zV_gf dX3_force_11 sa_101 (by decide) fl_X3_460_3 rfl (ki := 98) rfl ?_
    refine zV_if_ge (tgt := 45) dX3_force_14 (by decide) (fun c => ?_) (fun c => ?_)
    · have hP := zif_p hP c
      exact H45 _ hP
    · have hP := zif_n hP c
      refine zV_aload_n dX3_force_17 rfl ?_
      refine zV_gf dX3_force_18 sa_101 (by decide) fl_X3_454_3 rfl (ki := 99) rfl ?_
      refine zV_if_lt (tgt := 45) dX3_force_21 (by decide) (fun c => ?_) (fun c => ?_)
      · have hP := zif_p hP c
        exact H45 _ hP
      · have hP := zif_n hP c
        refine zV_aload_n dX3_force_24 rfl ?_
        refine zV_iconst dX3_force_25 ⟨by decide, by decide⟩ ?_
        refine zV_aload_n dX3_force_26 rfl ?_
        refine zV_gf dX3_force_27 sa_101 (by decide) fl_X3_457_3 rfl (ki := 100) rfl ?_
        refine zV_aload_n dX3_force_30 rfl ?_
        refine zV_gf dX3_force_31 sa_101 (by decide) fl_X3_454_3 rfl (ki := 99) rfl ?_
        refine zV_cVv (As := [zI 1, zI (zd h 101 100), zI (zd h 101 99)]) (rest := []) dX3_force_34 sa_101 (W_M_become _ _ _ _ _ hP) mi_X3_become ml_X3_499 (by decide) (Nat.le_of_ble_eq_true rfl) rfl rfl (fun r5 h6 hP => ?_)
        refine zV_aload_n dX3_force_37 rfl ?_
        refine zV_iconst dX3_force_38 ⟨by decide, by decide⟩ ?_
        refine zV_cVv (As := [zI 1]) (rest := []) dX3_force_39 sa_101 (W_M_find _ _ _ hP) mi_X3_find ml_X3_493 (by decide) (Nat.le_of_ble_eq_true rfl) rfl rfl (fun r7 h8 hP => ?_)
        refine zV_goto (tgt := 10) dX3_force_42 (by decide) ?_
        exact ih _ hP
def P_M_force_J45 (h : zH) (Q : Int → zH → Prop) : Prop :=
Q (if 0 ≤ zd h 101 98 then 0 else 1) h
theorem W_M_force_J45 (h : zH) (Q : Int → zH → Prop) (hP : P_M_force_J45  h Q) : zV true zy_X3_force 6 45 [zR 101] [] h (zQ0 Q) := by
  unfold P_M_force_J45 at hP
  refine zV_aload_n dX3_force_45 rfl ?_
  refine zV_gf dX3_force_46 sa_101 (by decide) fl_X3_460_3 rfl (ki := 98) rfl ?_
  have K : zV true zy_X3_force 6 57 [zU] [zI (if 0 ≤ zd h 101 98 then 0 else 1)] h (zQ0 Q) := by
    exact zV_ireturn dX3_force_57 rfl rfl (z01 (z01_if z0 z1)) ⟨rfl, hP⟩
  clear hP
  refine zV_if_ge (tgt := 56) dX3_force_49 (by decide) (fun c => ?_) (fun c => ?_)
  · try simp only [if_pos c] at K
    refine zV_iconst dX3_force_56 ⟨by decide, by decide⟩ ?_
    refine zV_mask [false] rfl ?_
    exact K
  · try simp only [if_neg c] at K
    refine zV_iconst dX3_force_52 ⟨by decide, by decide⟩ ?_
    refine zV_goto (tgt := 57) dX3_force_53 (by decide) ?_
    refine zV_mask [false] rfl ?_
    exact K
def P_M_force (h : zH) (Q : Int → zH → Prop) : Prop :=
P_M_prepare 1 h (fun r1 h2 =>
P_M_find 1 h2 (fun r3 h4 =>
∃ n10, P_M_force_L10 Q (fun h9 =>
P_M_force_J45 h9 Q) n10 h4))
theorem W_M_force (h : zH) (Q : Int → zH → Prop) (hP : P_M_force  h Q) : zC true zy_X3_force 6 [zR 101] h (zQ0 Q) := by
  unfold P_M_force at hP
  refine zC.of (by decide) (Nat.le_of_ble_eq_true rfl) ?_
  show zV true zy_X3_force 6 0 [zR 101] [] h (zQ0 Q)
  refine zV_aload_n dX3_force_0 rfl ?_
  refine zV_iconst dX3_force_1 ⟨by decide, by decide⟩ ?_
  refine zV_cVv (As := [zI 1]) (rest := []) dX3_force_2 sa_101 (W_M_prepare _ _ _ hP) mi_X3_prepare ml_X3_581 (by decide) (Nat.le_of_ble_eq_true rfl) rfl rfl (fun r1 h2 hP => ?_)
  refine zV_aload_n dX3_force_5 rfl ?_
  refine zV_iconst dX3_force_6 ⟨by decide, by decide⟩ ?_
  refine zV_cVv (As := [zI 1]) (rest := []) dX3_force_7 sa_101 (W_M_find _ _ _ hP) mi_X3_find ml_X3_493 (by decide) (Nat.le_of_ble_eq_true rfl) rfl rfl (fun r3 h4 hP => ?_)
  obtain ⟨n10, hP⟩ := hP
  refine W_M_force_L10 _ _ (fun h9 hP => ?_) n10 _ hP
  exact W_M_force_J45 _ _ hP
def P_M_forced (h : zH) (Q : Int → zH → Prop) : Prop :=
P_M_force h (fun r1 h2 =>
Q (if r1 = 0 then (-1005) else zd h2 150 1) h2)
theorem W_M_forced (h : zH) (Q : Int → zH → Prop) (hP : P_M_forced  h Q) : zC true zy_X3_forced 7 [zR 101] h (zQ0 Q) := by
  unfold P_M_forced at hP
  refine zC.of (by decide) (Nat.le_of_ble_eq_true rfl) ?_
  show zV true zy_X3_forced 7 0 [zR 101] [] h (zQ0 Q)
  refine zV_aload_n dX3_forced_0 rfl ?_
  refine zV_cVk (As := []) (rest := []) dX3_forced_1 sa_101 (W_M_force _ _ hP) mi_X3_force ml_X3_636 (by decide) (Nat.le_of_ble_eq_true rfl) rfl rfl rfl (fun r1 h2 hP => ?_)
  have K : zV true zy_X3_forced 7 19 [zU] [zI (if r1 = 0 then (-1005) else zd h2 150 1)] h2 (zQ0 Q) := by
    exact zV_ireturn dX3_forced_19 rfl rfl rfl ⟨rfl, hP⟩
  clear hP
  refine zV_if_eq (tgt := 16) dX3_forced_4 (by decide) (fun c => ?_) (fun c => ?_)
  · try simp only [if_pos c] at K
    refine zV_sipush dX3_forced_16 ⟨by decide, by decide, by decide⟩ ?_
    refine zV_mask [false] rfl ?_
    exact K
  · try simp only [if_neg c] at K
    refine zV_aload_n dX3_forced_7 rfl ?_
    refine zV_sg dX3_forced_8 fm_101_76 sa_101 (by decide) fl_X3_156_3 rfl ?_
    refine zV_iconst dX3_forced_11 ⟨by decide, by decide⟩ ?_
    refine zV_ia dX3_forced_12 sa_150 (by decide) ?_
    refine zV_goto (tgt := 19) dX3_forced_13 (by decide) ?_
    refine zV_mask [false] rfl ?_
    exact K
def P_M_forcedAt (a1 : Int) (h : zH) (Q : Int → zH → Prop) : Prop :=
P_M_force h (fun r1 h2 =>
P_M_in a1 0 (w32 ((zd h2 150 1) - 1)) h2 (fun r3 h4 =>
(if r3 = 0 then True else (0 ≤ w32 (300 + a1) ∧ w32 (300 + a1) < 600) ∧ True) ∧
Q (if r3 = 0 then (-1005) else zd h4 149 (w32 (300 + a1))) h4))
theorem W_M_forcedAt (a1 : Int) (h : zH) (Q : Int → zH → Prop) (hP : P_M_forcedAt a1 h Q) : zC true zy_X3_forcedAt 7 [zR 101, zI a1] h (zQ0 Q) := by
  unfold P_M_forcedAt at hP
  refine zC.of (by decide) (Nat.le_of_ble_eq_true rfl) ?_
  show zV true zy_X3_forcedAt 7 0 [zR 101, zI a1, zU] [] h (zQ0 Q)
  refine zV_aload_n dX3_forcedAt_0 rfl ?_
  refine zV_cVk (As := []) (rest := []) dX3_forcedAt_1 sa_101 (W_M_force _ _ hP) mi_X3_force ml_X3_636 (by decide) (Nat.le_of_ble_eq_true rfl) rfl rfl rfl (fun r1 h2 hP => ?_)
  refine zV_istore_n (ls' := [zR 101, zI a1, zI r1]) dX3_forcedAt_4 rfl (Nat.le_of_ble_eq_true rfl) rfl rfl ?_
  refine zV_iload_n dX3_forcedAt_5 rfl ?_
  refine zV_iconst dX3_forcedAt_6 ⟨by decide, by decide⟩ ?_
  refine zV_aload_n dX3_forcedAt_7 rfl ?_
  refine zV_sg dX3_forcedAt_8 fm_101_76 sa_101 (by decide) fl_X3_156_3 rfl ?_
  refine zV_iconst dX3_forcedAt_11 ⟨by decide, by decide⟩ ?_
  refine zV_ia dX3_forcedAt_12 sa_150 (by decide) ?_
  refine zV_iconst dX3_forcedAt_13 ⟨by decide, by decide⟩ ?_
  refine zV_isub dX3_forcedAt_14 ?_
  refine zV_cSk (As := [zI a1, zI 0, zI (w32 ((zd h2 150 1) - 1))]) (rest := []) dX3_forcedAt_15 (W_M_in _ _ _ _ _ hP) mi_X3_in ml_X3_238 (by decide) (Nat.le_of_ble_eq_true rfl) rfl rfl rfl (fun r3 h4 hP => ?_)
  obtain ⟨hO, hP⟩ := hP
  have K : zV true zy_X3_forcedAt 7 37 [zU, zU, zU] [zI (if r3 = 0 then (-1005) else zd h4 149 (w32 (300 + a1)))] h4 (zQ0 Q) := by
    exact zV_ireturn dX3_forcedAt_37 rfl rfl rfl ⟨rfl, hP⟩
  clear hP
  refine zV_if_eq (tgt := 34) dX3_forcedAt_18 (by decide) (fun c => ?_) (fun c => ?_)
  · try simp only [if_pos c] at K
    have hO := zif_p hO c
    refine zV_sipush dX3_forcedAt_34 ⟨by decide, by decide, by decide⟩ ?_
    refine zV_mask [false, false, false] rfl ?_
    exact K
  · try simp only [if_neg c] at K
    have hO := zif_n hO c
    refine zV_aload_n dX3_forcedAt_21 rfl ?_
    refine zV_sg dX3_forcedAt_22 fm_101_75 sa_101 (by decide) fl_X3_153_3 rfl ?_
    refine zV_sipush dX3_forcedAt_25 ⟨by decide, by decide, by decide⟩ ?_
    refine zV_iload_n dX3_forcedAt_28 rfl ?_
    refine zV_iadd dX3_forcedAt_29 ?_
    obtain ⟨ob, hO⟩ := hO
    refine zV_ia dX3_forcedAt_30 sa_149 ob ?_
    refine zV_goto (tgt := 37) dX3_forcedAt_31 (by decide) ?_
    refine zV_mask [false, false, false] rfl ?_
    exact K
def P_M_why (a1 : Int) (h : zH) (Q : Int → zH → Prop) : Prop :=
P_M_isName a1 h (fun r1 h2 =>
if r1 = 0 then
(P_M_fail (-1001) h2 (fun r5 h6 =>
Q r5 h6))
else
(P_M_force h2 (fun r3 h4 =>
(0 ≤ w32 (301 + a1) ∧ w32 (301 + a1) < 602) ∧
(if zd h4 143 (w32 (301 + a1)) = 2 then True else (0 ≤ w32 (301 + a1) ∧ w32 (301 + a1) < 602) ∧ True) ∧
Q (if zd h4 143 (w32 (301 + a1)) = 2 then (-1005) else zd h4 145 (w32 (301 + a1))) h4)))
theorem W_M_why (a1 : Int) (h : zH) (Q : Int → zH → Prop) (hP : P_M_why a1 h Q) : zC true zy_X3_why 7 [zR 101, zI a1] h (zQ0 Q) := by
  unfold P_M_why at hP
  refine zC.of (by decide) (Nat.le_of_ble_eq_true rfl) ?_
  show zV true zy_X3_why 7 0 [zR 101, zI a1, zU] [] h (zQ0 Q)
  refine zV_aload_n dX3_why_0 rfl ?_
  refine zV_iload_n dX3_why_1 rfl ?_
  refine zV_cVk (As := [zI a1]) (rest := []) dX3_why_2 sa_101 (W_M_isName _ _ _ hP) mi_X3_isName ml_X3_433 (by decide) (Nat.le_of_ble_eq_true rfl) rfl rfl rfl (fun r1 h2 hP => ?_)
  refine zV_if_ne (tgt := 16) dX3_why_5 (by decide) (fun c => ?_) (fun c => ?_)
  · have hP := zif_n hP c
    refine zV_aload_n dX3_why_16 rfl ?_
    refine zV_cVk (As := []) (rest := []) dX3_why_17 sa_101 (W_M_force _ _ hP) mi_X3_force ml_X3_636 (by decide) (Nat.le_of_ble_eq_true rfl) rfl rfl rfl (fun r3 h4 hP => ?_)
    refine zV_istore_n (ls' := [zR 101, zI a1, zI r3]) dX3_why_20 rfl (Nat.le_of_ble_eq_true rfl) rfl rfl ?_
    refine zV_aload_n dX3_why_21 rfl ?_
    refine zV_sg dX3_why_22 fm_101_69 sa_101 (by decide) fl_X3_134_3 rfl ?_
    refine zV_sipush dX3_why_25 ⟨by decide, by decide, by decide⟩ ?_
    refine zV_iload_n dX3_why_28 rfl ?_
    refine zV_iadd dX3_why_29 ?_
    obtain ⟨ob, hP⟩ := hP
    refine zV_ia dX3_why_30 sa_143 ob ?_
    refine zV_iconst dX3_why_31 ⟨by decide, by decide⟩ ?_
    obtain ⟨hO, hP⟩ := hP
    have K : zV true zy_X3_why 7 51 [zU, zU, zU] [zI (if zd h4 143 (w32 (301 + a1)) = 2 then (-1005) else zd h4 145 (w32 (301 + a1)))] h4 (zQ0 Q) := by
      exact zV_ireturn dX3_why_51 rfl rfl rfl ⟨rfl, hP⟩
    clear hP
    refine zV_icmp_ne (tgt := 41) dX3_why_32 (by decide) (fun c => ?_) (fun c => ?_)
    · try simp only [if_neg c] at K
      have hO := zif_n hO c
      refine zV_aload_n dX3_why_41 rfl ?_
      refine zV_sg dX3_why_42 fm_101_71 sa_101 (by decide) fl_X3_140_3 rfl ?_
      refine zV_sipush dX3_why_45 ⟨by decide, by decide, by decide⟩ ?_
      refine zV_iload_n dX3_why_48 rfl ?_
      refine zV_iadd dX3_why_49 ?_
      obtain ⟨ob, hO⟩ := hO
      refine zV_ia dX3_why_50 sa_145 ob ?_
      refine zV_mask [false, false, false] rfl ?_
      exact K
    · try simp only [if_pos c] at K
      have hO := zif_p hO c
      refine zV_sipush dX3_why_35 ⟨by decide, by decide, by decide⟩ ?_
      refine zV_goto (tgt := 51) dX3_why_38 (by decide) ?_
      refine zV_mask [false, false, false] rfl ?_
      exact K
  · have hP := zif_p hP c
    refine zV_aload_n dX3_why_8 rfl ?_
    refine zV_sipush dX3_why_9 ⟨by decide, by decide, by decide⟩ ?_
    refine zV_cVk (As := [zI (-1001)]) (rest := []) dX3_why_12 sa_101 (W_M_fail _ _ _ hP) mi_X3_fail ml_X3_242 (by decide) (Nat.le_of_ble_eq_true rfl) rfl rfl rfl (fun r5 h6 hP => ?_)
    exact zV_ireturn dX3_why_15 rfl rfl rfl ⟨rfl, hP⟩
def P_M_add (a1 : Int) (h : zH) (Q : Int → zH → Prop) : Prop :=
∀ h1 : zH, h1 = zw h 101 115 (w64 ((w64 (31 * (zd h 101 115))) + a1)) →
Q 0 h1
theorem W_M_add (a1 : Int) (h : zH) (Q : Int → zH → Prop) (hP : P_M_add a1 h Q) : zC true zy_X3_add 1 [zR 101, zI a1] h (zQ0 Q) := by
  unfold P_M_add at hP
  refine zC.of (by decide) (Nat.le_of_ble_eq_true rfl) ?_
  show zV true zy_X3_add 1 0 [zR 101, zI a1] [] h (zQ0 Q)
  refine zV_aload_n dX3_add_0 rfl ?_
  refine zV_ldc2c (x := 31) dX3_add_1 (by decide) q2770 ⟨by decide, by decide⟩ ?_
  refine zV_aload_n dX3_add_4 rfl ?_
  refine zV_gf dX3_add_5 sa_101 (by decide) fl_X3_641_3 rfl (ki := 115) rfl ?_
  refine zV_lmul dX3_add_8 ?_
  refine zV_iload_n dX3_add_9 rfl ?_
  refine zV_i2l dX3_add_10 ?_
  refine zV_ladd dX3_add_11 ?_
  refine zV_pf dX3_add_12 sa_101 (by decide) fl_X3_641_3 rfl rfl trivial (ki := 115) rfl (fun h1 e_h1 => ?_)
  have hP := hP h1 e_h1
  exact zV_return dX3_add_15 rfl ⟨rfl, hP⟩
def P_M_digest_L17 (Q : Int → zH → Prop) (k41 : zH → Prop) : Nat → Int → zH → Prop
| 0, _, _ => False
| n17 + 1, y1, h =>
if zd h 101 1 < y1 then
(k41 h)
else
((0 ≤ y1 ∧ y1 < 301) ∧
P_M_add (zd h 102 y1) h (fun r4 h5 =>
∀ x1_6 : Int, x1_6 = w32 (y1 + 1) →
P_M_digest_L17 Q k41 n17 x1_6 h5))
theorem W_M_digest_L17 (Q : Int → zH → Prop) (k41 : zH → Prop) (H41 : ∀ (h' : zH), k41 h' → zV true zy_X3_digest 2 41 [zR 101, zU, zU] [] h' (zQ0 Q)) : ∀ (n17 : Nat) (y1 : Int) (h : zH), P_M_digest_L17 Q k41 n17 y1 h → zV true zy_X3_digest 2 17 [zR 101, zI y1, zU] [] h (zQ0 Q) := by
  intro n17
  induction n17 with
  | zero => intro y1 h hP; exact absurd hP id
  | succ n17 ih =>
    intro y1 h hP
    unfold P_M_digest_L17 at hP
    refine zV_iload_n dX3_digest_17 rfl ?_
    refine zV_aload_n dX3_digest_18 rfl ?_
    refine zV_gf dX3_digest_19 sa_101 (by decide) fl_X3_246_3 rfl (ki := 1) rfl ?_
    refine zV_icmp_gt (tgt := 41) dX3_digest_22 (by decide) (fun c => ?_) (fun c => ?_)
    · have hP := zif_p hP c
      refine zV_mask [true, false, true] (ls' := [zR 101, zU, zU]) rfl ?_
      exact H41 _ hP
    · have hP := zif_n hP c
      refine zV_aload_n dX3_digest_25 rfl ?_
      refine zV_aload_n dX3_digest_26 rfl ?_
      refine zV_sg dX3_digest_27 fm_101_2 sa_101 (by decide) fl_X3_7_3 rfl ?_
      refine zV_iload_n dX3_digest_30 rfl ?_
      obtain ⟨ob, hP⟩ := hP
      refine zV_ia dX3_digest_31 sa_102 ob ?_
      refine zV_cVv (As := [zI (zd h 102 y1)]) (rest := []) dX3_digest_32 sa_101 (W_M_add _ _ _ hP) mi_X3_add ml_X3_647 (by decide) (Nat.le_of_ble_eq_true rfl) rfl rfl (fun r4 h5 hP => ?_)
      refine zV_inc (ls' := fun z => [zR 101, zI z, zU]) dX3_digest_35 (Nat.le_of_ble_eq_true rfl) rfl rfl (fun _ => rfl) (fun x1_6 e_x1_6 => ?_)
      have hP := hP x1_6 e_x1_6
      refine zV_goto (tgt := 17) dX3_digest_38 (by decide) ?_
      exact ih _ _ hP
def P_M_digest_L58 (y1 : Int) (Q : Int → zH → Prop) (k86 : zH → Prop) : Nat → Int → zH → Prop
| 0, _, _ => False
| n58 + 1, y2, h =>
(0 ≤ w32 (y1 + 1) ∧ w32 (y1 + 1) < 501) ∧
if zd h 119 (w32 (y1 + 1)) ≤ y2 then
(k86 h)
else
((0 ≤ y2 ∧ y2 < 2600) ∧
P_M_add (zd h 120 y2) h (fun r9 h10 =>
∀ x2_11 : Int, x2_11 = w32 (y2 + 1) →
P_M_digest_L58 y1 Q k86 n58 x2_11 h10))
theorem W_M_digest_L58 (y1 : Int) (Q : Int → zH → Prop) (k86 : zH → Prop) (H86 : ∀ (h' : zH), k86 h' → zV true zy_X3_digest 2 86 [zR 101, zI y1, zU] [] h' (zQ0 Q)) : ∀ (n58 : Nat) (y2 : Int) (h : zH), P_M_digest_L58 y1 Q k86 n58 y2 h → zV true zy_X3_digest 2 58 [zR 101, zI y1, zI y2] [] h (zQ0 Q) := by
  intro n58
  induction n58 with
  | zero => intro y2 h hP; exact absurd hP id
  | succ n58 ih =>
    intro y2 h hP
    unfold P_M_digest_L58 at hP
    refine zV_iload_n dX3_digest_58 rfl ?_
    refine zV_aload_n dX3_digest_59 rfl ?_
    refine zV_sg dX3_digest_60 fm_101_24 sa_101 (by decide) fl_X3_62_3 rfl ?_
    refine zV_iload_n dX3_digest_63 rfl ?_
    refine zV_iconst dX3_digest_64 ⟨by decide, by decide⟩ ?_
    refine zV_iadd dX3_digest_65 ?_
    obtain ⟨ob, hP⟩ := hP
    refine zV_ia dX3_digest_66 sa_119 ob ?_
    refine zV_icmp_ge (tgt := 86) dX3_digest_67 (by decide) (fun c => ?_) (fun c => ?_)
    · have hP := zif_p hP c
      refine zV_mask [true, true, false] (ls' := [zR 101, zI y1, zU]) rfl ?_
      exact H86 _ hP
    · have hP := zif_n hP c
      refine zV_aload_n dX3_digest_70 rfl ?_
      refine zV_aload_n dX3_digest_71 rfl ?_
      refine zV_sg dX3_digest_72 fm_101_25 sa_101 (by decide) fl_X3_65_3 rfl ?_
      refine zV_iload_n dX3_digest_75 rfl ?_
      obtain ⟨ob, hP⟩ := hP
      refine zV_ia dX3_digest_76 sa_120 ob ?_
      refine zV_cVv (As := [zI (zd h 120 y2)]) (rest := []) dX3_digest_77 sa_101 (W_M_add _ _ _ hP) mi_X3_add ml_X3_647 (by decide) (Nat.le_of_ble_eq_true rfl) rfl rfl (fun r9 h10 hP => ?_)
      refine zV_inc (ls' := fun z => [zR 101, zI y1, zI z]) dX3_digest_80 (Nat.le_of_ble_eq_true rfl) rfl rfl (fun _ => rfl) (fun x2_11 e_x2_11 => ?_)
      have hP := hP x2_11 e_x2_11
      refine zV_goto (tgt := 58) dX3_digest_83 (by decide) ?_
      exact ih _ _ hP
def P_M_digest_L43 (Q : Int → zH → Prop) (k97 : zH → Prop) : Nat → Int → zH → Prop
| 0, _, _ => False
| n43 + 1, y1, h =>
if zd h 101 23 ≤ y1 then
(k97 h)
else
((0 ≤ y1 ∧ y1 < 501) ∧
∀ x2_8 : Int, x2_8 = (zd h 119 y1) →
∃ n58, P_M_digest_L58 y1 Q (fun h12 =>
P_M_add 0 h12 (fun r13 h14 =>
∀ x1_15 : Int, x1_15 = w32 (y1 + 1) →
P_M_digest_L43 Q k97 n43 x1_15 h14)) n58 x2_8 h)
theorem W_M_digest_L43 (Q : Int → zH → Prop) (k97 : zH → Prop) (H97 : ∀ (h' : zH), k97 h' → zV true zy_X3_digest 2 97 [zR 101, zU, zU] [] h' (zQ0 Q)) : ∀ (n43 : Nat) (y1 : Int) (h : zH), P_M_digest_L43 Q k97 n43 y1 h → zV true zy_X3_digest 2 43 [zR 101, zI y1, zU] [] h (zQ0 Q) := by
  intro n43
  induction n43 with
  | zero => intro y1 h hP; exact absurd hP id
  | succ n43 ih =>
    intro y1 h hP
    unfold P_M_digest_L43 at hP
    refine zV_iload_n dX3_digest_43 rfl ?_
    refine zV_aload_n dX3_digest_44 rfl ?_
    refine zV_gf dX3_digest_45 sa_101 (by decide) fl_X3_273_3 rfl (ki := 23) rfl ?_
    refine zV_icmp_ge (tgt := 97) dX3_digest_48 (by decide) (fun c => ?_) (fun c => ?_)
    · have hP := zif_p hP c
      refine zV_mask [true, false, true] (ls' := [zR 101, zU, zU]) rfl ?_
      exact H97 _ hP
    · have hP := zif_n hP c
      refine zV_aload_n dX3_digest_51 rfl ?_
      refine zV_sg dX3_digest_52 fm_101_24 sa_101 (by decide) fl_X3_62_3 rfl ?_
      refine zV_iload_n dX3_digest_55 rfl ?_
      obtain ⟨ob, hP⟩ := hP
      refine zV_ia dX3_digest_56 sa_119 ob ?_
      refine zV_top (fun x2_8 e_x2_8 => ?_)
      have hP := hP x2_8 e_x2_8
      refine zV_istore_n (ls' := [zR 101, zI y1, zI x2_8]) dX3_digest_57 rfl (Nat.le_of_ble_eq_true rfl) rfl rfl ?_
      obtain ⟨n58, hP⟩ := hP
      refine W_M_digest_L58 _ _ _ (fun h12 hP => ?_) n58 _ _ hP
      refine zV_aload_n dX3_digest_86 rfl ?_
      refine zV_iconst dX3_digest_87 ⟨by decide, by decide⟩ ?_
      refine zV_cVv (As := [zI 0]) (rest := []) dX3_digest_88 sa_101 (W_M_add _ _ _ hP) mi_X3_add ml_X3_647 (by decide) (Nat.le_of_ble_eq_true rfl) rfl rfl (fun r13 h14 hP => ?_)
      refine zV_inc (ls' := fun z => [zR 101, zI z, zU]) dX3_digest_91 (Nat.le_of_ble_eq_true rfl) rfl rfl (fun _ => rfl) (fun x1_15 e_x1_15 => ?_)
      have hP := hP x1_15 e_x1_15
      refine zV_goto (tgt := 43) dX3_digest_94 (by decide) ?_
      exact ih _ _ hP
def P_M_digest_L99 (Q : Int → zH → Prop) (k123 : zH → Prop) : Nat → Int → zH → Prop
| 0, _, _ => False
| n99 + 1, y1, h =>
if zd h 101 29 ≤ y1 then
(k123 h)
else
((0 ≤ y1 ∧ y1 < 20) ∧
P_M_add (zd h 122 y1) h (fun r17 h18 =>
∀ x1_19 : Int, x1_19 = w32 (y1 + 1) →
P_M_digest_L99 Q k123 n99 x1_19 h18))
theorem W_M_digest_L99 (Q : Int → zH → Prop) (k123 : zH → Prop) (H123 : ∀ (h' : zH), k123 h' → zV true zy_X3_digest 2 123 [zR 101, zU, zU] [] h' (zQ0 Q)) : ∀ (n99 : Nat) (y1 : Int) (h : zH), P_M_digest_L99 Q k123 n99 y1 h → zV true zy_X3_digest 2 99 [zR 101, zI y1, zU] [] h (zQ0 Q) := by
  intro n99
  induction n99 with
  | zero => intro y1 h hP; exact absurd hP id
  | succ n99 ih =>
    intro y1 h hP
    unfold P_M_digest_L99 at hP
    refine zV_iload_n dX3_digest_99 rfl ?_
    refine zV_aload_n dX3_digest_100 rfl ?_
    refine zV_gf dX3_digest_101 sa_101 (by decide) fl_X3_427_3 rfl (ki := 29) rfl ?_
    refine zV_icmp_ge (tgt := 123) dX3_digest_104 (by decide) (fun c => ?_) (fun c => ?_)
    · have hP := zif_p hP c
      refine zV_mask [true, false, true] (ls' := [zR 101, zU, zU]) rfl ?_
      exact H123 _ hP
    · have hP := zif_n hP c
      refine zV_aload_n dX3_digest_107 rfl ?_
      refine zV_aload_n dX3_digest_108 rfl ?_
      refine zV_sg dX3_digest_109 fm_101_28 sa_101 (by decide) fl_X3_71_3 rfl ?_
      refine zV_iload_n dX3_digest_112 rfl ?_
      obtain ⟨ob, hP⟩ := hP
      refine zV_ia dX3_digest_113 sa_122 ob ?_
      refine zV_cVv (As := [zI (zd h 122 y1)]) (rest := []) dX3_digest_114 sa_101 (W_M_add _ _ _ hP) mi_X3_add ml_X3_647 (by decide) (Nat.le_of_ble_eq_true rfl) rfl rfl (fun r17 h18 hP => ?_)
      refine zV_inc (ls' := fun z => [zR 101, zI z, zU]) dX3_digest_117 (Nat.le_of_ble_eq_true rfl) rfl rfl (fun _ => rfl) (fun x1_19 e_x1_19 => ?_)
      have hP := hP x1_19 e_x1_19
      refine zV_goto (tgt := 99) dX3_digest_120 (by decide) ?_
      exact ih _ _ hP
def P_M_digest_L161 (y1 : Int) (Q : Int → zH → Prop) (k192 : zH → Prop) : Nat → Int → zH → Prop
| 0, _, _ => False
| n161 + 1, y2, h =>
(0 ≤ y1 ∧ y1 < 40) ∧
if zd h 104 y1 ≤ y2 then
(k192 h)
else
((0 ≤ w32 ((w32 (12 * y1)) + y2) ∧ w32 ((w32 (12 * y1)) + y2) < 480) ∧
P_M_add (zd h 105 (w32 ((w32 (12 * y1)) + y2))) h (fun r25 h26 =>
∀ x2_27 : Int, x2_27 = w32 (y2 + 1) →
P_M_digest_L161 y1 Q k192 n161 x2_27 h26))
theorem W_M_digest_L161 (y1 : Int) (Q : Int → zH → Prop) (k192 : zH → Prop) (H192 : ∀ (h' : zH), k192 h' → zV true zy_X3_digest 2 192 [zR 101, zI y1, zU] [] h' (zQ0 Q)) : ∀ (n161 : Nat) (y2 : Int) (h : zH), P_M_digest_L161 y1 Q k192 n161 y2 h → zV true zy_X3_digest 2 161 [zR 101, zI y1, zI y2] [] h (zQ0 Q) := by
  intro n161
  induction n161 with
  | zero => intro y2 h hP; exact absurd hP id
  | succ n161 ih =>
    intro y2 h hP
    unfold P_M_digest_L161 at hP
    refine zV_iload_n dX3_digest_161 rfl ?_
    refine zV_aload_n dX3_digest_162 rfl ?_
    refine zV_sg dX3_digest_163 fm_101_5 sa_101 (by decide) fl_X3_17_3 rfl ?_
    refine zV_iload_n dX3_digest_166 rfl ?_
    obtain ⟨ob, hP⟩ := hP
    refine zV_ia dX3_digest_167 sa_104 ob ?_
    refine zV_icmp_ge (tgt := 192) dX3_digest_168 (by decide) (fun c => ?_) (fun c => ?_)
    · have hP := zif_p hP c
      refine zV_mask [true, true, false] (ls' := [zR 101, zI y1, zU]) rfl ?_
      exact H192 _ hP
    · have hP := zif_n hP c
      refine zV_aload_n dX3_digest_171 rfl ?_
      refine zV_aload_n dX3_digest_172 rfl ?_
      refine zV_sg dX3_digest_173 fm_101_6 sa_101 (by decide) fl_X3_20_3 rfl ?_
      refine zV_bipush dX3_digest_176 ⟨by decide, by decide, by decide⟩ ?_
      refine zV_iload_n dX3_digest_178 rfl ?_
      refine zV_imul dX3_digest_179 ?_
      refine zV_iload_n dX3_digest_180 rfl ?_
      refine zV_iadd dX3_digest_181 ?_
      obtain ⟨ob, hP⟩ := hP
      refine zV_ia dX3_digest_182 sa_105 ob ?_
      refine zV_cVv (As := [zI (zd h 105 (w32 ((w32 (12 * y1)) + y2)))]) (rest := []) dX3_digest_183 sa_101 (W_M_add _ _ _ hP) mi_X3_add ml_X3_647 (by decide) (Nat.le_of_ble_eq_true rfl) rfl rfl (fun r25 h26 hP => ?_)
      refine zV_inc (ls' := fun z => [zR 101, zI y1, zI z]) dX3_digest_186 (Nat.le_of_ble_eq_true rfl) rfl rfl (fun _ => rfl) (fun x2_27 e_x2_27 => ?_)
      have hP := hP x2_27 e_x2_27
      refine zV_goto (tgt := 161) dX3_digest_189 (by decide) ?_
      exact ih _ _ hP
def P_M_digest_J156 (y1 : Int) (s0 : Int) (h : zH) (Q : Int → zH → Prop) (k130 : Int → zH → Prop) : Prop :=
P_M_add s0 h (fun r23 h24 =>
∃ n161, P_M_digest_L161 y1 Q (fun h28 =>
∀ x1_29 : Int, x1_29 = w32 (y1 + 1) →
k130 x1_29 h28) n161 0 h24)
theorem W_M_digest_J156 (y1 : Int) (s0 : Int) (h : zH) (Q : Int → zH → Prop) (k130 : Int → zH → Prop) (H130 : ∀ (v1 : Int) (h' : zH), k130 v1 h' → zV true zy_X3_digest 2 130 [zR 101, zI v1, zU] [] h' (zQ0 Q)) (hP : P_M_digest_J156 y1 s0 h Q k130) : zV true zy_X3_digest 2 156 [zR 101, zI y1, zU] [zI s0, zR 101] h (zQ0 Q) := by
  unfold P_M_digest_J156 at hP
  refine zV_cVv (As := [zI s0]) (rest := []) dX3_digest_156 sa_101 (W_M_add _ _ _ hP) mi_X3_add ml_X3_647 (by decide) (Nat.le_of_ble_eq_true rfl) rfl rfl (fun r23 h24 hP => ?_)
  refine zV_iconst dX3_digest_159 ⟨by decide, by decide⟩ ?_
  refine zV_istore_n (ls' := [zR 101, zI y1, zI 0]) dX3_digest_160 rfl (Nat.le_of_ble_eq_true rfl) rfl rfl ?_
  obtain ⟨n161, hP⟩ := hP
  refine W_M_digest_L161 _ _ _ (fun h28 hP => ?_) n161 _ _ hP
  refine zV_inc (ls' := fun z => [zR 101, zI z, zU]) dX3_digest_192 (Nat.le_of_ble_eq_true rfl) rfl rfl (fun _ => rfl) (fun x1_29 e_x1_29 => ?_)
  have hP := hP x1_29 e_x1_29
  refine zV_goto (tgt := 130) dX3_digest_195 (by decide) ?_
  exact H130 _ _ hP
def P_M_digest_L130 (Q : Int → zH → Prop) (k198 : zH → Prop) : Nat → Int → zH → Prop
| 0, _, _ => False
| n130 + 1, y1, h =>
if 40 ≤ y1 then
(k198 h)
else
((0 ≤ y1 ∧ y1 < 40) ∧
(if 0 ≤ zd h 104 y1 then (0 ≤ y1 ∧ y1 < 40) ∧ True else True) ∧
P_M_digest_J156 y1 (if 0 ≤ zd h 104 y1 then zd h 104 y1 else (-1)) h Q (P_M_digest_L130 Q k198 n130))
theorem W_M_digest_L130 (Q : Int → zH → Prop) (k198 : zH → Prop) (H198 : ∀ (h' : zH), k198 h' → zV true zy_X3_digest 2 198 [zR 101, zU, zU] [] h' (zQ0 Q)) : ∀ (n130 : Nat) (y1 : Int) (h : zH), P_M_digest_L130 Q k198 n130 y1 h → zV true zy_X3_digest 2 130 [zR 101, zI y1, zU] [] h (zQ0 Q) := by
  intro n130
  induction n130 with
  | zero => intro y1 h hP; exact absurd hP id
  | succ n130 ih =>
    intro y1 h hP
    unfold P_M_digest_L130 at hP
    refine zV_iload_n dX3_digest_130 rfl ?_
    refine zV_bipush dX3_digest_131 ⟨by decide, by decide, by decide⟩ ?_
    refine zV_icmp_ge (tgt := 198) dX3_digest_133 (by decide) (fun c => ?_) (fun c => ?_)
    · have hP := zif_p hP c
      refine zV_mask [true, false, true] (ls' := [zR 101, zU, zU]) rfl ?_
      exact H198 _ hP
    · have hP := zif_n hP c
      refine zV_aload_n dX3_digest_136 rfl ?_
      refine zV_aload_n dX3_digest_137 rfl ?_
      refine zV_sg dX3_digest_138 fm_101_5 sa_101 (by decide) fl_X3_17_3 rfl ?_
      refine zV_iload_n dX3_digest_141 rfl ?_
      obtain ⟨ob, hP⟩ := hP
      refine zV_ia dX3_digest_142 sa_104 ob ?_
      obtain ⟨hO, hP⟩ := hP
      have K : zV true zy_X3_digest 2 156 [zR 101, zI y1, zU] [zI (if 0 ≤ zd h 104 y1 then zd h 104 y1 else (-1)), zR 101] h (zQ0 Q) := by
        exact W_M_digest_J156 _ _ _ _ _ ih hP
      clear hP
      refine zV_if_ge (tgt := 150) dX3_digest_143 (by decide) (fun c => ?_) (fun c => ?_)
      · try simp only [if_pos c] at K
        have hO := zif_p hO c
        refine zV_aload_n dX3_digest_150 rfl ?_
        refine zV_sg dX3_digest_151 fm_101_5 sa_101 (by decide) fl_X3_17_3 rfl ?_
        refine zV_iload_n dX3_digest_154 rfl ?_
        obtain ⟨ob, hO⟩ := hO
        refine zV_ia dX3_digest_155 sa_104 ob ?_
        refine zV_mask [true, true, false] rfl ?_
        exact K
      · try simp only [if_neg c] at K
        have hO := zif_n hO c
        refine zV_iconst dX3_digest_146 ⟨by decide, by decide⟩ ?_
        refine zV_goto (tgt := 156) dX3_digest_147 (by decide) ?_
        refine zV_mask [true, true, false] rfl ?_
        exact K
def P_M_digest_J239 (y1 : Int) (s0 : Int) (h : zH) (Q : Int → zH → Prop) (k216 : Int → zH → Prop) : Prop :=
P_M_add s0 h (fun r37 h38 =>
∀ x1_39 : Int, x1_39 = w32 (y1 + 1) →
k216 x1_39 h38)
theorem W_M_digest_J239 (y1 : Int) (s0 : Int) (h : zH) (Q : Int → zH → Prop) (k216 : Int → zH → Prop) (H216 : ∀ (v1 : Int) (h' : zH), k216 v1 h' → zV true zy_X3_digest 2 216 [zR 101, zI v1, zU] [] h' (zQ0 Q)) (hP : P_M_digest_J239 y1 s0 h Q k216) : zV true zy_X3_digest 2 239 [zR 101, zI y1, zU] [zI s0, zR 101] h (zQ0 Q) := by
  unfold P_M_digest_J239 at hP
  refine zV_cVv (As := [zI s0]) (rest := []) dX3_digest_239 sa_101 (W_M_add _ _ _ hP) mi_X3_add ml_X3_647 (by decide) (Nat.le_of_ble_eq_true rfl) rfl rfl (fun r37 h38 hP => ?_)
  refine zV_inc (ls' := fun z => [zR 101, zI z, zU]) dX3_digest_242 (Nat.le_of_ble_eq_true rfl) rfl rfl (fun _ => rfl) (fun x1_39 e_x1_39 => ?_)
  have hP := hP x1_39 e_x1_39
  refine zV_goto (tgt := 216) dX3_digest_245 (by decide) ?_
  exact H216 _ _ hP
def P_M_digest_L216 (Q : Int → zH → Prop) : Nat → Int → zH → Prop
| 0, _, _ => False
| n216 + 1, y1, h =>
if zd h 101 1 < y1 then
(P_M_add (zd h 101 32) h (fun r35 h36 =>
Q (zd h36 101 115) h36))
else
((0 ≤ y1 ∧ y1 < 301) ∧
P_M_digest_J239 y1 (if zd h 103 y1 = 0 then 0 else 1) h Q (P_M_digest_L216 Q n216))
theorem W_M_digest_L216 (Q : Int → zH → Prop) : ∀ (n216 : Nat) (y1 : Int) (h : zH), P_M_digest_L216 Q n216 y1 h → zV true zy_X3_digest 2 216 [zR 101, zI y1, zU] [] h (zQ0 Q) := by
  intro n216
  induction n216 with
  | zero => intro y1 h hP; exact absurd hP id
  | succ n216 ih =>
    intro y1 h hP
    unfold P_M_digest_L216 at hP
    refine zV_iload_n dX3_digest_216 rfl ?_
    refine zV_aload_n dX3_digest_217 rfl ?_
    refine zV_gf dX3_digest_218 sa_101 (by decide) fl_X3_246_3 rfl (ki := 1) rfl ?_
    refine zV_icmp_gt (tgt := 248) dX3_digest_221 (by decide) (fun c => ?_) (fun c => ?_)
    · have hP := zif_p hP c
      refine zV_aload_n dX3_digest_248 rfl ?_
      refine zV_aload_n dX3_digest_249 rfl ?_
      refine zV_gf dX3_digest_250 sa_101 (by decide) fl_X3_374_3 rfl (ki := 32) rfl ?_
      refine zV_cVv (As := [zI (zd h 101 32)]) (rest := []) dX3_digest_253 sa_101 (W_M_add _ _ _ hP) mi_X3_add ml_X3_647 (by decide) (Nat.le_of_ble_eq_true rfl) rfl rfl (fun r35 h36 hP => ?_)
      refine zV_aload_n dX3_digest_256 rfl ?_
      refine zV_gf dX3_digest_257 sa_101 (by decide) fl_X3_641_3 rfl (ki := 115) rfl ?_
      exact zV_lreturn dX3_digest_260 rfl ⟨rfl, hP⟩
    · have hP := zif_n hP c
      refine zV_aload_n dX3_digest_224 rfl ?_
      refine zV_aload_n dX3_digest_225 rfl ?_
      refine zV_sg dX3_digest_226 fm_101_3 sa_101 (by decide) fl_X3_13_3 rfl ?_
      refine zV_iload_n dX3_digest_229 rfl ?_
      obtain ⟨ob, hP⟩ := hP
      refine zV_za dX3_digest_230 sa_103 ob ?_
      have K : zV true zy_X3_digest 2 239 [zR 101, zI y1, zU] [zI (if zd h 103 y1 = 0 then 0 else 1), zR 101] h (zQ0 Q) := by
        exact W_M_digest_J239 _ _ _ _ _ ih hP
      clear hP
      refine zV_if_eq (tgt := 238) dX3_digest_231 (by decide) (fun c => ?_) (fun c => ?_)
      · try simp only [if_pos c] at K
        refine zV_iconst dX3_digest_238 ⟨by decide, by decide⟩ ?_
        refine zV_mask [true, true, false] rfl ?_
        exact K
      · try simp only [if_neg c] at K
        refine zV_iconst dX3_digest_234 ⟨by decide, by decide⟩ ?_
        refine zV_goto (tgt := 239) dX3_digest_235 (by decide) ?_
        refine zV_mask [true, true, false] rfl ?_
        exact K
def P_M_digest (h : zH) (Q : Int → zH → Prop) : Prop :=
∀ h1 : zH, h1 = zw h 101 115 7 →
P_M_add (zd h1 101 1) h1 (fun r2 h3 =>
∃ n17, P_M_digest_L17 Q (fun h7 =>
∃ n43, P_M_digest_L43 Q (fun h16 =>
∃ n99, P_M_digest_L99 Q (fun h20 =>
P_M_add 0 h20 (fun r21 h22 =>
∃ n130, P_M_digest_L130 Q (fun h30 =>
P_M_add (zd h30 101 30) h30 (fun r31 h32 =>
P_M_add (zd h32 101 31) h32 (fun r33 h34 =>
∃ n216, P_M_digest_L216 Q n216 1 h34))) n130 0 h22)) n99 0 h16) n43 0 h7) n17 1 h3)
theorem W_M_digest (h : zH) (Q : Int → zH → Prop) (hP : P_M_digest  h Q) : zC true zy_X3_digest 2 [zR 101] h (zQ0 Q) := by
  unfold P_M_digest at hP
  refine zC.of (by decide) (Nat.le_of_ble_eq_true rfl) ?_
  show zV true zy_X3_digest 2 0 [zR 101, zU, zU] [] h (zQ0 Q)
  refine zV_aload_n dX3_digest_0 rfl ?_
  refine zV_ldc2c (x := 7) dX3_digest_1 (by decide) q2765 ⟨by decide, by decide⟩ ?_
  refine zV_pf dX3_digest_4 sa_101 (by decide) fl_X3_641_3 rfl rfl trivial (ki := 115) rfl (fun h1 e_h1 => ?_)
  have hP := hP h1 e_h1
  refine zV_aload_n dX3_digest_7 rfl ?_
  refine zV_aload_n dX3_digest_8 rfl ?_
  refine zV_gf dX3_digest_9 sa_101 (by decide) fl_X3_246_3 rfl (ki := 1) rfl ?_
  refine zV_cVv (As := [zI (zd h1 101 1)]) (rest := []) dX3_digest_12 sa_101 (W_M_add _ _ _ hP) mi_X3_add ml_X3_647 (by decide) (Nat.le_of_ble_eq_true rfl) rfl rfl (fun r2 h3 hP => ?_)
  refine zV_iconst dX3_digest_15 ⟨by decide, by decide⟩ ?_
  refine zV_istore_n (ls' := [zR 101, zI 1, zU]) dX3_digest_16 rfl (Nat.le_of_ble_eq_true rfl) rfl rfl ?_
  obtain ⟨n17, hP⟩ := hP
  refine W_M_digest_L17 _ _ (fun h7 hP => ?_) n17 _ _ hP
  refine zV_iconst dX3_digest_41 ⟨by decide, by decide⟩ ?_
  refine zV_istore_n (ls' := [zR 101, zI 0, zU]) dX3_digest_42 rfl (Nat.le_of_ble_eq_true rfl) rfl rfl ?_
  obtain ⟨n43, hP⟩ := hP
  refine W_M_digest_L43 _ _ (fun h16 hP => ?_) n43 _ _ hP
  refine zV_iconst dX3_digest_97 ⟨by decide, by decide⟩ ?_
  refine zV_istore_n (ls' := [zR 101, zI 0, zU]) dX3_digest_98 rfl (Nat.le_of_ble_eq_true rfl) rfl rfl ?_
  obtain ⟨n99, hP⟩ := hP
  refine W_M_digest_L99 _ _ (fun h20 hP => ?_) n99 _ _ hP
  refine zV_aload_n dX3_digest_123 rfl ?_
  refine zV_iconst dX3_digest_124 ⟨by decide, by decide⟩ ?_
  refine zV_cVv (As := [zI 0]) (rest := []) dX3_digest_125 sa_101 (W_M_add _ _ _ hP) mi_X3_add ml_X3_647 (by decide) (Nat.le_of_ble_eq_true rfl) rfl rfl (fun r21 h22 hP => ?_)
  refine zV_iconst dX3_digest_128 ⟨by decide, by decide⟩ ?_
  refine zV_istore_n (ls' := [zR 101, zI 0, zU]) dX3_digest_129 rfl (Nat.le_of_ble_eq_true rfl) rfl rfl ?_
  obtain ⟨n130, hP⟩ := hP
  refine W_M_digest_L130 _ _ (fun h30 hP => ?_) n130 _ _ hP
  refine zV_aload_n dX3_digest_198 rfl ?_
  refine zV_aload_n dX3_digest_199 rfl ?_
  refine zV_gf dX3_digest_200 sa_101 (by decide) fl_X3_436_3 rfl (ki := 30) rfl ?_
  refine zV_cVv (As := [zI (zd h30 101 30)]) (rest := []) dX3_digest_203 sa_101 (W_M_add _ _ _ hP) mi_X3_add ml_X3_647 (by decide) (Nat.le_of_ble_eq_true rfl) rfl rfl (fun r31 h32 hP => ?_)
  refine zV_aload_n dX3_digest_206 rfl ?_
  refine zV_aload_n dX3_digest_207 rfl ?_
  refine zV_gf dX3_digest_208 sa_101 (by decide) fl_X3_439_3 rfl (ki := 31) rfl ?_
  refine zV_cVv (As := [zI (zd h32 101 31)]) (rest := []) dX3_digest_211 sa_101 (W_M_add _ _ _ hP) mi_X3_add ml_X3_647 (by decide) (Nat.le_of_ble_eq_true rfl) rfl rfl (fun r33 h34 hP => ?_)
  refine zV_iconst dX3_digest_214 ⟨by decide, by decide⟩ ?_
  refine zV_istore_n (ls' := [zR 101, zI 1, zU]) dX3_digest_215 rfl (Nat.le_of_ble_eq_true rfl) rfl rfl ?_
  obtain ⟨n216, hP⟩ := hP
  refine W_M_digest_L216 _ n216 _ _ hP
def P_M_status (h : zH) (Q : Int → zH → Prop) : Prop :=
Q (zd h 101 0) h
theorem W_M_status (h : zH) (Q : Int → zH → Prop) (hP : P_M_status  h Q) : zC true zy_X3_status 1 [zR 101] h (zQ0 Q) := by
  unfold P_M_status at hP
  refine zC.of (by decide) (Nat.le_of_ble_eq_true rfl) ?_
  show zV true zy_X3_status 1 0 [zR 101] [] h (zQ0 Q)
  refine zV_aload_n dX3_status_0 rfl ?_
  refine zV_gf dX3_status_1 sa_101 (by decide) fl_X3_235_3 rfl (ki := 0) rfl ?_
  exact zV_ireturn dX3_status_4 rfl rfl rfl ⟨rfl, hP⟩
def P_M_about (a1 : Int) (h : zH) (Q : Int → zH → Prop) : Prop :=
if a1 = 0 then
(Q (zd h 101 1) h)
else
(if a1 = 1 then
(Q (zd h 101 11) h)
else
(if a1 = 2 then
(Q (zd h 101 23) h)
else
(if a1 = 3 then
((0 ≤ zd h 101 23 ∧ zd h 101 23 < 501) ∧
Q (zd h 119 (zd h 101 23)) h)
else
(if a1 = 4 then
(Q (zd h 101 29) h)
else
(if a1 = 5 then
(Q (zd h 101 32) h)
else
(if a1 = 6 then
(Q (zd h 101 108) h)
else
(if a1 = 7 then
(Q (zd h 101 4) h)
else
(if a1 = 8 then
(Q (zd h 101 8) h)
else
(if a1 = 9 then
(Q (zd h 101 10) h)
else
(P_M_fail (-1001) h (fun r1 h2 =>
Q r1 h2)))))))))))
theorem W_M_about (a1 : Int) (h : zH) (Q : Int → zH → Prop) (hP : P_M_about a1 h Q) : zC true zy_X3_about 2 [zR 101, zI a1] h (zQ0 Q) := by
  unfold P_M_about at hP
  refine zC.of (by decide) (Nat.le_of_ble_eq_true rfl) ?_
  show zV true zy_X3_about 2 0 [zR 101, zI a1] [] h (zQ0 Q)
  refine zV_iload_n dX3_about_0 rfl ?_
  by_cases c : a1 = 0
  · have hP := zif_p hP c
    refine zV_ts (tgt := 56) dX3_about_1 0 c ⟨by decide, by decide⟩ rfl (by decide) ?_
    refine zV_aload_n dX3_about_56 rfl ?_
    refine zV_gf dX3_about_57 sa_101 (by decide) fl_X3_246_3 rfl (ki := 1) rfl ?_
    exact zV_ireturn dX3_about_60 rfl rfl rfl ⟨rfl, hP⟩
  · have hP := zif_n hP c
    have n0 := c
    by_cases c : a1 = 1
    · have hP := zif_p hP c
      refine zV_ts (tgt := 61) dX3_about_1 1 c ⟨by decide, by decide⟩ rfl (by decide) ?_
      refine zV_aload_n dX3_about_61 rfl ?_
      refine zV_gf dX3_about_62 sa_101 (by decide) fl_X3_264_3 rfl (ki := 11) rfl ?_
      exact zV_ireturn dX3_about_65 rfl rfl rfl ⟨rfl, hP⟩
    · have hP := zif_n hP c
      have n1 := c
      by_cases c : a1 = 2
      · have hP := zif_p hP c
        refine zV_ts (tgt := 66) dX3_about_1 2 c ⟨by decide, by decide⟩ rfl (by decide) ?_
        refine zV_aload_n dX3_about_66 rfl ?_
        refine zV_gf dX3_about_67 sa_101 (by decide) fl_X3_273_3 rfl (ki := 23) rfl ?_
        exact zV_ireturn dX3_about_70 rfl rfl rfl ⟨rfl, hP⟩
      · have hP := zif_n hP c
        have n2 := c
        by_cases c : a1 = 3
        · have hP := zif_p hP c
          refine zV_ts (tgt := 71) dX3_about_1 3 c ⟨by decide, by decide⟩ rfl (by decide) ?_
          refine zV_aload_n dX3_about_71 rfl ?_
          refine zV_sg dX3_about_72 fm_101_24 sa_101 (by decide) fl_X3_62_3 rfl ?_
          refine zV_aload_n dX3_about_75 rfl ?_
          refine zV_gf dX3_about_76 sa_101 (by decide) fl_X3_273_3 rfl (ki := 23) rfl ?_
          obtain ⟨ob, hP⟩ := hP
          refine zV_ia dX3_about_79 sa_119 ob ?_
          exact zV_ireturn dX3_about_80 rfl rfl rfl ⟨rfl, hP⟩
        · have hP := zif_n hP c
          have n3 := c
          by_cases c : a1 = 4
          · have hP := zif_p hP c
            refine zV_ts (tgt := 81) dX3_about_1 4 c ⟨by decide, by decide⟩ rfl (by decide) ?_
            refine zV_aload_n dX3_about_81 rfl ?_
            refine zV_gf dX3_about_82 sa_101 (by decide) fl_X3_427_3 rfl (ki := 29) rfl ?_
            exact zV_ireturn dX3_about_85 rfl rfl rfl ⟨rfl, hP⟩
          · have hP := zif_n hP c
            have n4 := c
            by_cases c : a1 = 5
            · have hP := zif_p hP c
              refine zV_ts (tgt := 86) dX3_about_1 5 c ⟨by decide, by decide⟩ rfl (by decide) ?_
              refine zV_aload_n dX3_about_86 rfl ?_
              refine zV_gf dX3_about_87 sa_101 (by decide) fl_X3_374_3 rfl (ki := 32) rfl ?_
              exact zV_ireturn dX3_about_90 rfl rfl rfl ⟨rfl, hP⟩
            · have hP := zif_n hP c
              have n5 := c
              by_cases c : a1 = 6
              · have hP := zif_p hP c
                refine zV_ts (tgt := 91) dX3_about_1 6 c ⟨by decide, by decide⟩ rfl (by decide) ?_
                refine zV_aload_n dX3_about_91 rfl ?_
                refine zV_gf dX3_about_92 sa_101 (by decide) fl_X3_605_3 rfl (ki := 108) rfl ?_
                exact zV_ireturn dX3_about_95 rfl rfl rfl ⟨rfl, hP⟩
              · have hP := zif_n hP c
                have n6 := c
                by_cases c : a1 = 7
                · have hP := zif_p hP c
                  refine zV_ts (tgt := 96) dX3_about_1 7 c ⟨by decide, by decide⟩ rfl (by decide) ?_
                  refine zV_aload_n dX3_about_96 rfl ?_
                  refine zV_gf dX3_about_97 sa_101 (by decide) fl_X3_630_3 rfl (ki := 4) rfl ?_
                  exact zV_ireturn dX3_about_100 rfl rfl rfl ⟨rfl, hP⟩
                · have hP := zif_n hP c
                  have n7 := c
                  by_cases c : a1 = 8
                  · have hP := zif_p hP c
                    refine zV_ts (tgt := 101) dX3_about_1 8 c ⟨by decide, by decide⟩ rfl (by decide) ?_
                    refine zV_aload_n dX3_about_101 rfl ?_
                    refine zV_gf dX3_about_102 sa_101 (by decide) fl_X3_259_3 rfl (ki := 8) rfl ?_
                    exact zV_ireturn dX3_about_105 rfl rfl rfl ⟨rfl, hP⟩
                  · have hP := zif_n hP c
                    have n8 := c
                    by_cases c : a1 = 9
                    · have hP := zif_p hP c
                      refine zV_ts (tgt := 106) dX3_about_1 9 c ⟨by decide, by decide⟩ rfl (by decide) ?_
                      refine zV_aload_n dX3_about_106 rfl ?_
                      refine zV_gf dX3_about_107 sa_101 (by decide) fl_X3_412_3 rfl (ki := 10) rfl ?_
                      exact zV_ireturn dX3_about_110 rfl rfl rfl ⟨rfl, hP⟩
                    · have hP := zif_n hP c
                      have n9 := c
                      refine zV_tsd (tgt := 111) dX3_about_1 (by omega) (by decide) ?_
                      refine zV_aload_n dX3_about_111 rfl ?_
                      refine zV_sipush dX3_about_112 ⟨by decide, by decide, by decide⟩ ?_
                      refine zV_cVk (As := [zI (-1001)]) (rest := []) dX3_about_115 sa_101 (W_M_fail _ _ _ hP) mi_X3_fail ml_X3_242 (by decide) (Nat.le_of_ble_eq_true rfl) rfl rfl rfl (fun r1 h2 hP => ?_)
                      exact zV_ireturn dX3_about_118 rfl rfl rfl ⟨rfl, hP⟩
