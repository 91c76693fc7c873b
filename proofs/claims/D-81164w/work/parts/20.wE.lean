/-! printed by gen.py: what the methods of ClauseCourt$Engine do, and that the machine does it -/
set_option maxRecDepth 100000
abbrev zy_X1_clear : zM := (yX1_clear, cX1_clear, 2, none)
theorem mi_X1_clear : zMI zy_X1_clear 1 0 := ⟨⟨RX1, TX1, 58, rfl, rfl, q1526, q1527, q158, zcw_in (by decide +kernel) q1528⟩, ⟨by decide +kernel, by decide +kernel, by decide +kernel⟩, Nat.le_of_ble_eq_true rfl, by decide⟩
theorem fl_X1_3_1 : zFL RX1 3 1 57 := ⟨RX1, TX1, 58, "ClauseCourt$Engine", rfl, by decide, Or.inl q294, Or.inl rfl, in_X1⟩
theorem fme_57 {e : Int} (he : zE e) : ((e, ((57 : Nat) : Int), 14) : Int × Int × Int) ∈ zFin := by rcases he with rfl | rfl <;> decide +kernel
theorem sae_0 {e : Int} (he : zE e) : zSA e 1 0 := by rcases he with rfl | rfl <;> (unfold zSA; decide +kernel)
theorem fl_X1_118_0 : zFL RX1 118 0 2 := ⟨RX0, TX0, 42, "ClauseCourt", rfl, by decide, Or.inr ⟨"ClauseCourt", q439⟩, Or.inl rfl, in_X0⟩
theorem sa_14 : zSA 14 0 0 := by unfold zSA; decide +kernel
theorem fl_X1_121_1 : zFL RX1 121 1 11 := ⟨RX1, TX1, 58, "ClauseCourt$Engine", rfl, by decide, Or.inl q221, Or.inl rfl, in_X1⟩
theorem fl_X1_124_1 : zFL RX1 124 1 10 := ⟨RX1, TX1, 58, "ClauseCourt$Engine", rfl, by decide, Or.inl q220, Or.inl rfl, in_X1⟩
theorem fl_X1_28_1 : zFL RX1 28 1 4 := ⟨RX1, TX1, 58, "ClauseCourt$Engine", rfl, by decide, Or.inl q213, Or.inl rfl, in_X1⟩
theorem fme_4 {e : Int} (he : zE e) : ((e, ((4 : Nat) : Int), e + 5) : Int × Int × Int) ∈ zFin := by rcases he with rfl | rfl <;> decide +kernel
theorem sae_5 {e : Int} (he : zE e) : zSA (e + 5) 52 1364 := by rcases he with rfl | rfl <;> (unfold zSA; decide +kernel)
theorem fl_X1_32_1 : zFL RX1 32 1 5 := ⟨RX1, TX1, 58, "ClauseCourt$Engine", rfl, by decide, Or.inl q214, Or.inl rfl, in_X1⟩
theorem fme_5 {e : Int} (he : zE e) : ((e, ((5 : Nat) : Int), e + 6) : Int × Int × Int) ∈ zFin := by rcases he with rfl | rfl <;> decide +kernel
theorem sae_6 {e : Int} (he : zE e) : zSA (e + 6) 53 22 := by rcases he with rfl | rfl <;> (unfold zSA; decide +kernel)
theorem fl_X1_45_1 : zFL RX1 45 1 9 := ⟨RX1, TX1, 58, "ClauseCourt$Engine", rfl, by decide, Or.inl q219, Or.inl rfl, in_X1⟩
theorem fme_9 {e : Int} (he : zE e) : ((e, ((9 : Nat) : Int), e + 10) : Int × Int × Int) ∈ zFin := by rcases he with rfl | rfl <;> decide +kernel
theorem sae_10 {e : Int} (he : zE e) : zSA (e + 10) 50 602 := by rcases he with rfl | rfl <;> (unfold zSA; decide +kernel)
theorem fl_X1_48_1 : zFL RX1 48 1 12 := ⟨RX1, TX1, 58, "ClauseCourt$Engine", rfl, by decide, Or.inl q223, Or.inl rfl, in_X1⟩
theorem fme_12 {e : Int} (he : zE e) : ((e, ((12 : Nat) : Int), e + 11) : Int × Int × Int) ∈ zFin := by rcases he with rfl | rfl <;> decide +kernel
theorem sae_11 {e : Int} (he : zE e) : zSA (e + 11) 50 301 := by rcases he with rfl | rfl <;> (unfold zSA; decide +kernel)
theorem fl_X1_57_1 : zFL RX1 57 1 15 := ⟨RX1, TX1, 58, "ClauseCourt$Engine", rfl, by decide, Or.inl q228, Or.inl rfl, in_X1⟩
theorem fme_15 {e : Int} (he : zE e) : ((e, ((15 : Nat) : Int), e + 14) : Int × Int × Int) ∈ zFin := by rcases he with rfl | rfl <;> decide +kernel
theorem sae_14 {e : Int} (he : zE e) : zSA (e + 14) 50 301 := by rcases he with rfl | rfl <;> (unfold zSA; decide +kernel)
theorem fl_X1_60_1 : zFL RX1 60 1 16 := ⟨RX1, TX1, 58, "ClauseCourt$Engine", rfl, by decide, Or.inl q229, Or.inl rfl, in_X1⟩
theorem fme_16 {e : Int} (he : zE e) : ((e, ((16 : Nat) : Int), e + 15) : Int × Int × Int) ∈ zFin := by rcases he with rfl | rfl <;> decide +kernel
theorem fl_X1_127_0 : zFL RX1 127 0 1 := ⟨RX0, TX0, 42, "ClauseCourt", rfl, by decide, Or.inr ⟨"ClauseCourt", q438⟩, Or.inl rfl, in_X0⟩
theorem fm_14_1 : ((14, ((1 : Nat) : Int), 15) : Int × Int × Int) ∈ zFin := by decide +kernel
theorem sa_15 : zSA 15 60 300 := by unfold zSA; decide +kernel
theorem fl_X1_131_4 : zFL RX1 131 4 1 := ⟨RX4, TX4, 3, "ClauseCourt$Name", rfl, by decide, Or.inr ⟨"ClauseCourt", q593⟩, Or.inl rfl, in_X4⟩
theorem sae_15 {e : Int} (he : zE e) : zSA (e + 15) 53 301 := by rcases he with rfl | rfl <;> (unfold zSA; decide +kernel)
theorem fl_X1_136_1 : zFL RX1 136 1 20 := ⟨RX1, TX1, 58, "ClauseCourt$Engine", rfl, by decide, Or.inl q236, Or.inl rfl, in_X1⟩
theorem fl_X1_139_1 : zFL RX1 139 1 21 := ⟨RX1, TX1, 58, "ClauseCourt$Engine", rfl, by decide, Or.inl q238, Or.inl rfl, in_X1⟩
theorem fl_X1_144_1 : zFL RX1 144 1 22 := ⟨RX1, TX1, 58, "ClauseCourt$Engine", rfl, by decide, Or.inl q240, Or.inl rfl, in_X1⟩
theorem fl_X1_148_1 : zFL RX1 148 1 25 := ⟨RX1, TX1, 58, "ClauseCourt$Engine", rfl, by decide, Or.inl q243, Or.inl rfl, in_X1⟩
theorem fl_X1_151_1 : zFL RX1 151 1 26 := ⟨RX1, TX1, 58, "ClauseCourt$Engine", rfl, by decide, Or.inl q245, Or.inl rfl, in_X1⟩
theorem fl_X1_154_1 : zFL RX1 154 1 28 := ⟨RX1, TX1, 58, "ClauseCourt$Engine", rfl, by decide, Or.inl q248, Or.inl rfl, in_X1⟩
theorem fl_X1_81_1 : zFL RX1 81 1 29 := ⟨RX1, TX1, 58, "ClauseCourt$Engine", rfl, by decide, Or.inl q250, Or.inl rfl, in_X1⟩
theorem fl_X1_157_1 : zFL RX1 157 1 30 := ⟨RX1, TX1, 58, "ClauseCourt$Engine", rfl, by decide, Or.inl q252, Or.inl rfl, in_X1⟩
theorem fl_X1_160_1 : zFL RX1 160 1 32 := ⟨RX1, TX1, 58, "ClauseCourt$Engine", rfl, by decide, Or.inl q256, Or.inl rfl, in_X1⟩
theorem fl_X1_163_1 : zFL RX1 163 1 33 := ⟨RX1, TX1, 58, "ClauseCourt$Engine", rfl, by decide, Or.inl q258, Or.inl rfl, in_X1⟩
theorem fl_X1_166_1 : zFL RX1 166 1 34 := ⟨RX1, TX1, 58, "ClauseCourt$Engine", rfl, by decide, Or.inl q260, Or.inl rfl, in_X1⟩
theorem fl_X1_169_1 : zFL RX1 169 1 35 := ⟨RX1, TX1, 58, "ClauseCourt$Engine", rfl, by decide, Or.inl q262, Or.inl rfl, in_X1⟩
theorem fl_X1_172_1 : zFL RX1 172 1 36 := ⟨RX1, TX1, 58, "ClauseCourt$Engine", rfl, by decide, Or.inl q264, Or.inl rfl, in_X1⟩
theorem fl_X1_175_1 : zFL RX1 175 1 37 := ⟨RX1, TX1, 58, "ClauseCourt$Engine", rfl, by decide, Or.inl q266, Or.inl rfl, in_X1⟩
theorem fl_X1_178_1 : zFL RX1 178 1 38 := ⟨RX1, TX1, 58, "ClauseCourt$Engine", rfl, by decide, Or.inl q268, Or.inl rfl, in_X1⟩
theorem fl_X1_181_1 : zFL RX1 181 1 39 := ⟨RX1, TX1, 58, "ClauseCourt$Engine", rfl, by decide, Or.inl q270, Or.inl rfl, in_X1⟩
theorem fl_X1_184_1 : zFL RX1 184 1 40 := ⟨RX1, TX1, 58, "ClauseCourt$Engine", rfl, by decide, Or.inl q271, Or.inl rfl, in_X1⟩
theorem fl_X1_187_1 : zFL RX1 187 1 42 := ⟨RX1, TX1, 58, "ClauseCourt$Engine", rfl, by decide, Or.inl q274, Or.inl rfl, in_X1⟩
theorem fl_X1_191_1 : zFL RX1 191 1 45 := ⟨RX1, TX1, 58, "ClauseCourt$Engine", rfl, by decide, Or.inl q280, Or.inl rfl, in_X1⟩
abbrev zy_X1_index : zM := (yX1_index, cX1_index, 2, some .int)
theorem mi_X1_index : zMI zy_X1_index 1 1 := ⟨⟨RX1, TX1, 58, rfl, rfl, q1540, qs35, q158, zcw_in (by decide +kernel) q1541⟩, ⟨by decide +kernel, by decide +kernel, by decide +kernel⟩, Nat.le_of_ble_eq_true rfl, by decide⟩
abbrev zy_X1_isTrue : zM := (yX1_isTrue, cX1_isTrue, 2, some .boolean)
theorem mi_X1_isTrue : zMI zy_X1_isTrue 1 1 := ⟨⟨RX1, TX1, 58, rfl, rfl, q1544, qs36, q158, zcw_in (by decide +kernel) q1545⟩, ⟨by decide +kernel, by decide +kernel, by decide +kernel⟩, Nat.le_of_ble_eq_true rfl, by decide⟩
abbrev zy_X1_look : zM := (yX1_look, cX1_look, 5, none)
theorem mi_X1_look : zMI zy_X1_look 1 1 := ⟨⟨RX1, TX1, 58, rfl, rfl, q1549, qs37, q158, zcw_in (by decide +kernel) q1550⟩, ⟨by decide +kernel, by decide +kernel, by decide +kernel⟩, Nat.le_of_ble_eq_true rfl, by decide⟩
theorem fl_X1_25_1 : zFL RX1 25 1 3 := ⟨RX1, TX1, 58, "ClauseCourt$Engine", rfl, by decide, Or.inl q212, Or.inl rfl, in_X1⟩
theorem fme_3 {e : Int} (he : zE e) : ((e, ((3 : Nat) : Int), e + 4) : Int × Int × Int) ∈ zFin := by rcases he with rfl | rfl <;> decide +kernel
theorem sae_4 {e : Int} (he : zE e) : zSA (e + 4) 50 1364 := by rcases he with rfl | rfl <;> (unfold zSA; decide +kernel)
theorem fl_X1_22_1 : zFL RX1 22 1 2 := ⟨RX1, TX1, 58, "ClauseCourt$Engine", rfl, by decide, Or.inl q211, Or.inl rfl, in_X1⟩
theorem fme_2 {e : Int} (he : zE e) : ((e, ((2 : Nat) : Int), e + 3) : Int × Int × Int) ∈ zFin := by rcases he with rfl | rfl <;> decide +kernel
theorem sae_3 {e : Int} (he : zE e) : zSA (e + 3) 50 1364 := by rcases he with rfl | rfl <;> (unfold zSA; decide +kernel)
theorem fl_X1_19_1 : zFL RX1 19 1 1 := ⟨RX1, TX1, 58, "ClauseCourt$Engine", rfl, by decide, Or.inl q209, Or.inl rfl, in_X1⟩
theorem fme_1 {e : Int} (he : zE e) : ((e, ((1 : Nat) : Int), e + 2) : Int × Int × Int) ∈ zFin := by rcases he with rfl | rfl <;> decide +kernel
theorem sae_2 {e : Int} (he : zE e) : zSA (e + 2) 50 1364 := by rcases he with rfl | rfl <;> (unfold zSA; decide +kernel)
abbrev zy_X1_lay : zM := (yX1_lay, cX1_lay, 7, none)
theorem mi_X1_lay : zMI zy_X1_lay 1 4 := ⟨⟨RX1, TX1, 58, rfl, rfl, q1535, q1536, q158, zcw_in (by decide +kernel) q1537⟩, ⟨by decide +kernel, by decide +kernel, by decide +kernel⟩, Nat.le_of_ble_eq_true rfl, by decide⟩
theorem fl_X1_15_1 : zFL RX1 15 1 0 := ⟨RX1, TX1, 58, "ClauseCourt$Engine", rfl, by decide, Or.inl q207, Or.inl rfl, in_X1⟩
theorem fme_0 {e : Int} (he : zE e) : ((e, ((0 : Nat) : Int), e + 1) : Int × Int × Int) ∈ zFin := by rcases he with rfl | rfl <;> decide +kernel
theorem sae_1 {e : Int} (he : zE e) : zSA (e + 1) 50 1364 := by rcases he with rfl | rfl <;> (unfold zSA; decide +kernel)
theorem ml_X1_202 : zML RX1 202 zy_X1_look := Or.inl q1547
theorem fl_X1_36_1 : zFL RX1 36 1 6 := ⟨RX1, TX1, 58, "ClauseCourt$Engine", rfl, by decide, Or.inl q215, Or.inl rfl, in_X1⟩
theorem fme_6 {e : Int} (he : zE e) : ((e, ((6 : Nat) : Int), e + 7) : Int × Int × Int) ∈ zFin := by rcases he with rfl | rfl <;> decide +kernel
theorem sae_7 {e : Int} (he : zE e) : zSA (e + 7) 50 12080 := by rcases he with rfl | rfl <;> (unfold zSA; decide +kernel)
theorem fl_X1_39_1 : zFL RX1 39 1 7 := ⟨RX1, TX1, 58, "ClauseCourt$Engine", rfl, by decide, Or.inl q217, Or.inl rfl, in_X1⟩
theorem fme_7 {e : Int} (he : zE e) : ((e, ((7 : Nat) : Int), e + 8) : Int × Int × Int) ∈ zFin := by rcases he with rfl | rfl <;> decide +kernel
theorem sae_8 {e : Int} (he : zE e) : zSA (e + 8) 50 12080 := by rcases he with rfl | rfl <;> (unfold zSA; decide +kernel)
theorem fl_X1_42_1 : zFL RX1 42 1 8 := ⟨RX1, TX1, 58, "ClauseCourt$Engine", rfl, by decide, Or.inl q218, Or.inl rfl, in_X1⟩
theorem fme_8 {e : Int} (he : zE e) : ((e, ((8 : Nat) : Int), e + 9) : Int × Int × Int) ∈ zFin := by rcases he with rfl | rfl <;> decide +kernel
theorem ml_X1_194 : zML RX1 194 zy_X1_index := Or.inl q1538
theorem sae_9 {e : Int} (he : zE e) : zSA (e + 9) 50 12080 := by rcases he with rfl | rfl <;> (unfold zSA; decide +kernel)
theorem ml_X1_198 : zML RX1 198 zy_X1_isTrue := Or.inl q1542
abbrev zy_X1_layCase : zM := (yX1_layCase, cX1_layCase, 3, none)
theorem mi_X1_layCase : zMI zy_X1_layCase 1 1 := ⟨⟨RX1, TX1, 58, rfl, rfl, q1531, q1532, q158, zcw_in (by decide +kernel) q1533⟩, ⟨by decide +kernel, by decide +kernel, by decide +kernel⟩, Nat.le_of_ble_eq_true rfl, by decide⟩
theorem fl_X1_206_0 : zFL RX1 206 0 18 := ⟨RX0, TX0, 42, "ClauseCourt", rfl, by decide, Or.inr ⟨"ClauseCourt", q458⟩, Or.inl rfl, in_X0⟩
theorem fl_X1_209_0 : zFL RX1 209 0 16 := ⟨RX0, TX0, 42, "ClauseCourt", rfl, by decide, Or.inr ⟨"ClauseCourt", q455⟩, Or.inl rfl, in_X0⟩
theorem fm_14_16 : ((14, ((16 : Nat) : Int), 22) : Int × Int × Int) ∈ zFin := by decide +kernel
theorem fl_X1_212_0 : zFL RX1 212 0 17 := ⟨RX0, TX0, 42, "ClauseCourt", rfl, by decide, Or.inr ⟨"ClauseCourt", q457⟩, Or.inl rfl, in_X0⟩
theorem fm_14_17 : ((14, ((17 : Nat) : Int), 23) : Int × Int × Int) ∈ zFin := by decide +kernel
theorem sa_23 : zSA 23 50 501 := by unfold zSA; decide +kernel
theorem ml_X1_215 : zML RX1 215 zy_X1_lay := Or.inl q1534
abbrev zy_J14_numberOfTrailingZeros : zM := (yJ14_numberOfTrailingZeros, cJ14_numberOfTrailingZeros, 2, some .int)
theorem mi_J14_numberOfTrailingZeros : zMS zy_J14_numberOfTrailingZeros 1 := ⟨by decide +kernel, ⟨q1572, q186, zcw_in (by decide +kernel) q1573⟩, ⟨by decide +kernel, by decide +kernel, by decide +kernel⟩, Nat.le_of_ble_eq_true rfl⟩
abbrev zy_J13_numberOfTrailingZeros : zM := (yJ13_numberOfTrailingZeros, cJ13_numberOfTrailingZeros, 3, some .int)
theorem mi_J13_numberOfTrailingZeros : zMS zy_J13_numberOfTrailingZeros 1 := ⟨by decide +kernel, ⟨q1569, q185, zcw_in (by decide +kernel) q1570⟩, ⟨by decide +kernel, by decide +kernel, by decide +kernel⟩, Nat.le_of_ble_eq_true rfl⟩
theorem ml_J13_311 : zML RJ13 311 zy_J14_numberOfTrailingZeros := Or.inl q1571
abbrev zy_X1_firstQuarrel : zM := (yX1_firstQuarrel, cX1_firstQuarrel, 5, some .int)
theorem mi_X1_firstQuarrel : zMI zy_X1_firstQuarrel 1 0 := ⟨⟨RX1, TX1, 58, rfl, rfl, q1566, qs39, q158, zcw_in (by decide +kernel) q1567⟩, ⟨by decide +kernel, by decide +kernel, by decide +kernel⟩, Nat.le_of_ble_eq_true rfl, by decide⟩
theorem ml_X1_244 : zML RX1 244 zy_J13_numberOfTrailingZeros := Or.inl q1568
abbrev zy_X1_firstForcing : zM := (yX1_firstForcing, cX1_firstForcing, 2, some .int)
theorem mi_X1_firstForcing : zMI zy_X1_firstForcing 1 0 := ⟨⟨RX1, TX1, 58, rfl, rfl, q1577, qs40, q158, zcw_in (by decide +kernel) q1578⟩, ⟨by decide +kernel, by decide +kernel, by decide +kernel⟩, Nat.le_of_ble_eq_true rfl, by decide⟩
abbrev zy_X1_step : zM := (yX1_step, cX1_step, 1, none)
theorem mi_X1_step : zMI zy_X1_step 1 0 := ⟨⟨RX1, TX1, 58, rfl, rfl, q1581, qs41, q158, zcw_in (by decide +kernel) q1582⟩, ⟨by decide +kernel, by decide +kernel, by decide +kernel⟩, Nat.le_of_ble_eq_true rfl, by decide⟩
theorem fl_X1_260_1 : zFL RX1 260 1 31 := ⟨RX1, TX1, 58, "ClauseCourt$Engine", rfl, by decide, Or.inl q254, Or.inl rfl, in_X1⟩
abbrev zy_X1_isOpen : zM := (yX1_isOpen, cX1_isOpen, 2, some .boolean)
theorem mi_X1_isOpen : zMI zy_X1_isOpen 1 1 := ⟨⟨RX1, TX1, 58, rfl, rfl, q1589, qs43, q158, zcw_in (by decide +kernel) q1590⟩, ⟨by decide +kernel, by decide +kernel, by decide +kernel⟩, Nat.le_of_ble_eq_true rfl, by decide⟩
abbrev zy_X1_openOf : zM := (yX1_openOf, cX1_openOf, 3, some .int)
theorem mi_X1_openOf : zMI zy_X1_openOf 1 1 := ⟨⟨RX1, TX1, 58, rfl, rfl, q1585, qs42, q158, zcw_in (by decide +kernel) q1586⟩, ⟨by decide +kernel, by decide +kernel, by decide +kernel⟩, Nat.le_of_ble_eq_true rfl, by decide⟩
theorem ml_X1_250 : zML RX1 250 zy_X1_isOpen := Or.inl q1587
abbrev zy_X1_addSource : zM := (yX1_addSource, cX1_addSource, 5, none)
theorem mi_X1_addSource : zMI zy_X1_addSource 1 3 := ⟨⟨RX1, TX1, 58, rfl, rfl, q1601, qs46, q158, zcw_in (by decide +kernel) q1602⟩, ⟨by decide +kernel, by decide +kernel, by decide +kernel⟩, Nat.le_of_ble_eq_true rfl, by decide⟩
theorem fl_X1_72_1 : zFL RX1 72 1 23 := ⟨RX1, TX1, 58, "ClauseCourt$Engine", rfl, by decide, Or.inl q241, Or.inl rfl, in_X1⟩
theorem fme_23 {e : Int} (he : zE e) : ((e, ((23 : Nat) : Int), e + 19) : Int × Int × Int) ∈ zFin := by rcases he with rfl | rfl <;> decide +kernel
theorem sae_19 {e : Int} (he : zE e) : zSA (e + 19) 53 6400 := by rcases he with rfl | rfl <;> (unfold zSA; decide +kernel)
abbrev zy_X1_addRoot : zM := (yX1_addRoot, cX1_addRoot, 5, none)
theorem mi_X1_addRoot : zMI zy_X1_addRoot 1 3 := ⟨⟨RX1, TX1, 58, rfl, rfl, q1605, qs47, q158, zcw_in (by decide +kernel) q1606⟩, ⟨by decide +kernel, by decide +kernel, by decide +kernel⟩, Nat.le_of_ble_eq_true rfl, by decide⟩
theorem fl_X1_63_1 : zFL RX1 63 1 17 := ⟨RX1, TX1, 58, "ClauseCourt$Engine", rfl, by decide, Or.inl q231, Or.inl rfl, in_X1⟩
theorem fme_17 {e : Int} (he : zE e) : ((e, ((17 : Nat) : Int), e + 16) : Int × Int × Int) ∈ zFin := by rcases he with rfl | rfl <;> decide +kernel
theorem sae_16 {e : Int} (he : zE e) : zSA (e + 16) 53 2408 := by rcases he with rfl | rfl <;> (unfold zSA; decide +kernel)
abbrev zy_X1_rootSource : zM := (yX1_rootSource, cX1_rootSource, 5, none)
theorem mi_X1_rootSource : zMI zy_X1_rootSource 1 2 := ⟨⟨RX1, TX1, 58, rfl, rfl, q1597, qs45, q158, zcw_in (by decide +kernel) q1598⟩, ⟨by decide +kernel, by decide +kernel, by decide +kernel⟩, Nat.le_of_ble_eq_true rfl, by decide⟩
theorem ml_X1_230 : zML RX1 230 zy_X1_addSource := Or.inl q1599
theorem ml_X1_234 : zML RX1 234 zy_X1_addRoot := Or.inl q1603
abbrev zy_X1_set : zM := (yX1_set, cX1_set, 5, none)
theorem mi_X1_set : zMI zy_X1_set 1 2 := ⟨⟨RX1, TX1, 58, rfl, rfl, q1593, qs44, q158, zcw_in (by decide +kernel) q1594⟩, ⟨by decide +kernel, by decide +kernel, by decide +kernel⟩, Nat.le_of_ble_eq_true rfl, by decide⟩
theorem fl_X1_51_1 : zFL RX1 51 1 13 := ⟨RX1, TX1, 58, "ClauseCourt$Engine", rfl, by decide, Or.inl q225, Or.inl rfl, in_X1⟩
theorem fme_13 {e : Int} (he : zE e) : ((e, ((13 : Nat) : Int), e + 12) : Int × Int × Int) ∈ zFin := by rcases he with rfl | rfl <;> decide +kernel
theorem sae_12 {e : Int} (he : zE e) : zSA (e + 12) 50 301 := by rcases he with rfl | rfl <;> (unfold zSA; decide +kernel)
theorem fl_X1_54_1 : zFL RX1 54 1 14 := ⟨RX1, TX1, 58, "ClauseCourt$Engine", rfl, by decide, Or.inl q226, Or.inl rfl, in_X1⟩
theorem fme_14 {e : Int} (he : zE e) : ((e, ((14 : Nat) : Int), e + 13) : Int × Int × Int) ∈ zFin := by rcases he with rfl | rfl <;> decide +kernel
theorem sae_13 {e : Int} (he : zE e) : zSA (e + 13) 50 301 := by rcases he with rfl | rfl <;> (unfold zSA; decide +kernel)
theorem fl_X1_66_1 : zFL RX1 66 1 18 := ⟨RX1, TX1, 58, "ClauseCourt$Engine", rfl, by decide, Or.inl q232, Or.inl rfl, in_X1⟩
theorem fme_18 {e : Int} (he : zE e) : ((e, ((18 : Nat) : Int), e + 17) : Int × Int × Int) ∈ zFin := by rcases he with rfl | rfl <;> decide +kernel
theorem sae_17 {e : Int} (he : zE e) : zSA (e + 17) 50 300 := by rcases he with rfl | rfl <;> (unfold zSA; decide +kernel)
theorem ml_X1_226 : zML RX1 226 zy_X1_rootSource := Or.inl q1595
abbrev zy_X1_force : zM := (yX1_force, cX1_force, 3, some .int)
theorem mi_X1_force : zMI zy_X1_force 1 0 := ⟨⟨RX1, TX1, 58, rfl, rfl, q1561, q1562, q158, zcw_in (by decide +kernel) q1563⟩, ⟨by decide +kernel, by decide +kernel, by decide +kernel⟩, Nat.le_of_ble_eq_true rfl, by decide⟩
theorem ml_X1_253 : zML RX1 253 zy_X1_firstQuarrel := Or.inl q1564
theorem ml_X1_257 : zML RX1 257 zy_X1_firstForcing := Or.inl q1575
theorem ml_X1_263 : zML RX1 263 zy_X1_step := Or.inl q1579
theorem ml_X1_266 : zML RX1 266 zy_X1_openOf := Or.inl q1583
theorem ml_X1_269 : zML RX1 269 zy_X1_set := Or.inl q1591
abbrev zy_X1_keepTruth : zM := (yX1_keepTruth, cX1_keepTruth, 2, none)
theorem mi_X1_keepTruth : zMI zy_X1_keepTruth 1 0 := ⟨⟨RX1, TX1, 58, rfl, rfl, q1609, qs48, q158, zcw_in (by decide +kernel) q1610⟩, ⟨by decide +kernel, by decide +kernel, by decide +kernel⟩, Nat.le_of_ble_eq_true rfl, by decide⟩
theorem fl_X1_115_1 : zFL RX1 115 1 56 := ⟨RX1, TX1, 58, "ClauseCourt$Engine", rfl, by decide, Or.inl q292, Or.inl rfl, in_X1⟩
theorem fme_56 {e : Int} (he : zE e) : ((e, ((56 : Nat) : Int), e + 32) : Int × Int × Int) ∈ zFin := by rcases he with rfl | rfl <;> decide +kernel
theorem sae_32 {e : Int} (he : zE e) : zSA (e + 32) 50 301 := by rcases he with rfl | rfl <;> (unfold zSA; decide +kernel)
abbrev zy_X1_back : zM := (yX1_back, cX1_back, 6, none)
theorem mi_X1_back : zMI zy_X1_back 1 1 := ⟨⟨RX1, TX1, 58, rfl, rfl, q1612, q1613, q158, zcw_in (by decide +kernel) q1614⟩, ⟨by decide +kernel, by decide +kernel, by decide +kernel⟩, Nat.le_of_ble_eq_true rfl, by decide⟩
theorem fl_X1_69_1 : zFL RX1 69 1 19 := ⟨RX1, TX1, 58, "ClauseCourt$Engine", rfl, by decide, Or.inl q234, Or.inl rfl, in_X1⟩
theorem fme_19 {e : Int} (he : zE e) : ((e, ((19 : Nat) : Int), e + 18) : Int × Int × Int) ∈ zFin := by rcases he with rfl | rfl <;> decide +kernel
theorem sae_18 {e : Int} (he : zE e) : zSA (e + 18) 50 322 := by rcases he with rfl | rfl <;> (unfold zSA; decide +kernel)
abbrev zy_X1_beginSet : zM := (yX1_beginSet, cX1_beginSet, 2, none)
theorem mi_X1_beginSet : zMI zy_X1_beginSet 1 0 := ⟨⟨RX1, TX1, 58, rfl, rfl, q1622, qs50, q158, zcw_in (by decide +kernel) q1623⟩, ⟨by decide +kernel, by decide +kernel, by decide +kernel⟩, Nat.le_of_ble_eq_true rfl, by decide⟩
theorem fl_X1_94_1 : zFL RX1 94 1 46 := ⟨RX1, TX1, 58, "ClauseCourt$Engine", rfl, by decide, Or.inl q282, Or.inl rfl, in_X1⟩
theorem fme_46 {e : Int} (he : zE e) : ((e, ((46 : Nat) : Int), e + 25) : Int × Int × Int) ∈ zFin := by rcases he with rfl | rfl <;> decide +kernel
theorem sae_25 {e : Int} (he : zE e) : zSA (e + 25) 52 301 := by rcases he with rfl | rfl <;> (unfold zSA; decide +kernel)
theorem fl_X1_97_1 : zFL RX1 97 1 47 := ⟨RX1, TX1, 58, "ClauseCourt$Engine", rfl, by decide, Or.inl q283, Or.inl rfl, in_X1⟩
theorem fme_47 {e : Int} (he : zE e) : ((e, ((47 : Nat) : Int), e + 26) : Int × Int × Int) ∈ zFin := by rcases he with rfl | rfl <;> decide +kernel
theorem sae_26 {e : Int} (he : zE e) : zSA (e + 26) 52 301 := by rcases he with rfl | rfl <;> (unfold zSA; decide +kernel)
theorem fl_X1_106_1 : zFL RX1 106 1 51 := ⟨RX1, TX1, 58, "ClauseCourt$Engine", rfl, by decide, Or.inl q287, Or.inl rfl, in_X1⟩
theorem fme_51 {e : Int} (he : zE e) : ((e, ((51 : Nat) : Int), e + 29) : Int × Int × Int) ∈ zFin := by rcases he with rfl | rfl <;> decide +kernel
theorem sae_29 {e : Int} (he : zE e) : zSA (e + 29) 53 8 := by rcases he with rfl | rfl <;> (unfold zSA; decide +kernel)
theorem fl_X1_278_1 : zFL RX1 278 1 50 := ⟨RX1, TX1, 58, "ClauseCourt$Engine", rfl, by decide, Or.inl q286, Or.inl rfl, in_X1⟩
theorem fl_X1_275_1 : zFL RX1 275 1 52 := ⟨RX1, TX1, 58, "ClauseCourt$Engine", rfl, by decide, Or.inl q288, Or.inl rfl, in_X1⟩
theorem fl_X1_272_1 : zFL RX1 272 1 54 := ⟨RX1, TX1, 58, "ClauseCourt$Engine", rfl, by decide, Or.inl q290, Or.inl rfl, in_X1⟩
abbrev zy_X1_gather : zM := (yX1_gather, cX1_gather, 7, some .int)
theorem mi_X1_gather : zMI zy_X1_gather 1 3 := ⟨⟨RX1, TX1, 58, rfl, rfl, q1626, qs51, q158, zcw_in (by decide +kernel) q1627⟩, ⟨by decide +kernel, by decide +kernel, by decide +kernel⟩, Nat.le_of_ble_eq_true rfl, by decide⟩
theorem fl_X1_109_1 : zFL RX1 109 1 53 := ⟨RX1, TX1, 58, "ClauseCourt$Engine", rfl, by decide, Or.inl q289, Or.inl rfl, in_X1⟩
theorem fme_53 {e : Int} (he : zE e) : ((e, ((53 : Nat) : Int), e + 30) : Int × Int × Int) ∈ zFin := by rcases he with rfl | rfl <;> decide +kernel
theorem sae_30 {e : Int} (he : zE e) : zSA (e + 30) 50 301 := by rcases he with rfl | rfl <;> (unfold zSA; decide +kernel)
abbrev zy_X1_hasRoom : zM := (yX1_hasRoom, cX1_hasRoom, 2, some .boolean)
theorem mi_X1_hasRoom : zMI zy_X1_hasRoom 1 1 := ⟨⟨RX1, TX1, 58, rfl, rfl, q1634, qs53, q158, zcw_in (by decide +kernel) q1635⟩, ⟨by decide +kernel, by decide +kernel, by decide +kernel⟩, Nat.le_of_ble_eq_true rfl, by decide⟩
abbrev zy_X1_keep : zM := (yX1_keep, cX1_keep, 4, none)
theorem mi_X1_keep : zMI zy_X1_keep 1 1 := ⟨⟨RX1, TX1, 58, rfl, rfl, q1638, qs54, q158, zcw_in (by decide +kernel) q1639⟩, ⟨by decide +kernel, by decide +kernel, by decide +kernel⟩, Nat.le_of_ble_eq_true rfl, by decide⟩
theorem fl_X1_75_1 : zFL RX1 75 1 24 := ⟨RX1, TX1, 58, "ClauseCourt$Engine", rfl, by decide, Or.inl q242, Or.inl rfl, in_X1⟩
theorem fme_24 {e : Int} (he : zE e) : ((e, ((24 : Nat) : Int), e + 20) : Int × Int × Int) ∈ zFin := by rcases he with rfl | rfl <;> decide +kernel
theorem sae_20 {e : Int} (he : zE e) : zSA (e + 20) 50 800 := by rcases he with rfl | rfl <;> (unfold zSA; decide +kernel)
theorem fl_X1_103_1 : zFL RX1 103 1 49 := ⟨RX1, TX1, 58, "ClauseCourt$Engine", rfl, by decide, Or.inl q285, Or.inl rfl, in_X1⟩
theorem fme_49 {e : Int} (he : zE e) : ((e, ((49 : Nat) : Int), e + 28) : Int × Int × Int) ∈ zFin := by rcases he with rfl | rfl <;> decide +kernel
abbrev zy_X1_no : zM := (yX1_no, cX1_no, 2, some .int)
theorem mi_X1_no : zMI zy_X1_no 1 0 := ⟨⟨RX1, TX1, 58, rfl, rfl, q1630, qs52, q158, zcw_in (by decide +kernel) q1631⟩, ⟨by decide +kernel, by decide +kernel, by decide +kernel⟩, Nat.le_of_ble_eq_true rfl, by decide⟩
theorem ml_X1_306 : zML RX1 306 zy_X1_hasRoom := Or.inl q1632
theorem ml_X1_324 : zML RX1 324 zy_X1_keep := Or.inl q1636
theorem fl_X1_88_1 : zFL RX1 88 1 43 := ⟨RX1, TX1, 58, "ClauseCourt$Engine", rfl, by decide, Or.inl q276, Or.inl rfl, in_X1⟩
theorem fme_43 {e : Int} (he : zE e) : ((e, ((43 : Nat) : Int), e + 23) : Int × Int × Int) ∈ zFin := by rcases he with rfl | rfl <;> decide +kernel
theorem sae_23 {e : Int} (he : zE e) : zSA (e + 23) 53 8 := by rcases he with rfl | rfl <;> (unfold zSA; decide +kernel)
abbrev zy_X1_numberOf : zM := (yX1_numberOf, cX1_numberOf, 2, some .int)
theorem mi_X1_numberOf : zMI zy_X1_numberOf 1 1 := ⟨⟨RX1, TX1, 58, rfl, rfl, q1646, qs56, q158, zcw_in (by decide +kernel) q1647⟩, ⟨by decide +kernel, by decide +kernel, by decide +kernel⟩, Nat.le_of_ble_eq_true rfl, by decide⟩
abbrev zy_X1_tell : zM := (yX1_tell, cX1_tell, 4, none)
theorem mi_X1_tell : zMI zy_X1_tell 1 3 := ⟨⟨RX1, TX1, 58, rfl, rfl, q1642, qs55, q158, zcw_in (by decide +kernel) q1643⟩, ⟨by decide +kernel, by decide +kernel, by decide +kernel⟩, Nat.le_of_ble_eq_true rfl, by decide⟩
theorem fl_X1_85_1 : zFL RX1 85 1 41 := ⟨RX1, TX1, 58, "ClauseCourt$Engine", rfl, by decide, Or.inl q272, Or.inl rfl, in_X1⟩
theorem fme_41 {e : Int} (he : zE e) : ((e, ((41 : Nat) : Int), e + 22) : Int × Int × Int) ∈ zFin := by rcases he with rfl | rfl <;> decide +kernel
theorem ml_X1_332 : zML RX1 332 zy_X1_numberOf := Or.inl q1644
theorem sae_22 {e : Int} (he : zE e) : zSA (e + 22) 50 5 := by rcases he with rfl | rfl <;> (unfold zSA; decide +kernel)
abbrev zy_X1_noAtAll : zM := (yX1_noAtAll, cX1_noAtAll, 3, some .int)
theorem mi_X1_noAtAll : zMI zy_X1_noAtAll 1 1 := ⟨⟨RX1, TX1, 58, rfl, rfl, q1618, qs49, q158, zcw_in (by decide +kernel) q1619⟩, ⟨by decide +kernel, by decide +kernel, by decide +kernel⟩, Nat.le_of_ble_eq_true rfl, by decide⟩
theorem ml_X1_281 : zML RX1 281 zy_X1_beginSet := Or.inl q1620
theorem ml_X1_284 : zML RX1 284 zy_X1_gather := Or.inl q1624
theorem ml_X1_335 : zML RX1 335 zy_X1_no := Or.inl q1628
theorem ml_X1_328 : zML RX1 328 zy_X1_tell := Or.inl q1640
abbrev zy_X1_learn : zM := (yX1_learn, cX1_learn, 6, none)
theorem mi_X1_learn : zMI zy_X1_learn 1 1 := ⟨⟨RX1, TX1, 58, rfl, rfl, q1654, qs58, q158, zcw_in (by decide +kernel) q1655⟩, ⟨by decide +kernel, by decide +kernel, by decide +kernel⟩, Nat.le_of_ble_eq_true rfl, by decide⟩
theorem sae_28 {e : Int} (he : zE e) : zSA (e + 28) 50 300 := by rcases he with rfl | rfl <;> (unfold zSA; decide +kernel)
abbrev zy_X1_heavier : zM := (yX1_heavier, cX1_heavier, 3, none)
theorem mi_X1_heavier : zMI zy_X1_heavier 1 0 := ⟨⟨RX1, TX1, 58, rfl, rfl, q1658, qs59, q158, zcw_in (by decide +kernel) q1659⟩, ⟨by decide +kernel, by decide +kernel, by decide +kernel⟩, Nat.le_of_ble_eq_true rfl, by decide⟩
abbrev zy_X1_turnNumber : zM := (yX1_turnNumber, cX1_turnNumber, 3, some .int)
theorem mi_X1_turnNumber : zMI zy_X1_turnNumber 1 0 := ⟨⟨RX1, TX1, 58, rfl, rfl, q1671, qs60, q158, zcw_in (by decide +kernel) q1672⟩, ⟨by decide +kernel, by decide +kernel, by decide +kernel⟩, Nat.le_of_ble_eq_true rfl, by decide⟩
abbrev zy_X1_isReason : zM := (yX1_isReason, cX1_isReason, 5, some .boolean)
theorem mi_X1_isReason : zMI zy_X1_isReason 1 1 := ⟨⟨RX1, TX1, 58, rfl, rfl, q1679, qs62, q158, zcw_in (by decide +kernel) q1680⟩, ⟨by decide +kernel, by decide +kernel, by decide +kernel⟩, Nat.le_of_ble_eq_true rfl, by decide⟩
abbrev zy_X1_forgets : zM := (yX1_forgets, cX1_forgets, 5, none)
theorem mi_X1_forgets : zMI zy_X1_forgets 1 0 := ⟨⟨RX1, TX1, 58, rfl, rfl, q1675, qs61, q158, zcw_in (by decide +kernel) q1676⟩, ⟨by decide +kernel, by decide +kernel, by decide +kernel⟩, Nat.le_of_ble_eq_true rfl, by decide⟩
theorem fl_X1_297_0 : zFL RX1 297 0 27 := ⟨RX0, TX0, 42, "ClauseCourt", rfl, by decide, Or.inr ⟨"ClauseCourt", q469⟩, Or.inl rfl, in_X0⟩
theorem ml_X1_300 : zML RX1 300 zy_X1_isReason := Or.inl q1677
theorem fl_X1_112_1 : zFL RX1 112 1 55 := ⟨RX1, TX1, 58, "ClauseCourt$Engine", rfl, by decide, Or.inl q291, Or.inl rfl, in_X1⟩
theorem fme_55 {e : Int} (he : zE e) : ((e, ((55 : Nat) : Int), e + 31) : Int × Int × Int) ∈ zFin := by rcases he with rfl | rfl <;> decide +kernel
theorem sae_31 {e : Int} (he : zE e) : zSA (e + 31) 50 800 := by rcases he with rfl | rfl <;> (unfold zSA; decide +kernel)
abbrev zy_X1_learns : zM := (yX1_learns, cX1_learns, 5, some .boolean)
theorem mi_X1_learns : zMI zy_X1_learns 1 1 := ⟨⟨RX1, TX1, 58, rfl, rfl, q1650, qs57, q158, zcw_in (by decide +kernel) q1651⟩, ⟨by decide +kernel, by decide +kernel, by decide +kernel⟩, Nat.le_of_ble_eq_true rfl, by decide⟩
theorem ml_X1_303 : zML RX1 303 zy_X1_learn := Or.inl q1652
theorem ml_X1_309 : zML RX1 309 zy_X1_heavier := Or.inl q1656
theorem ml_X1_312 : zML RX1 312 zy_X1_back := Or.inl q1611
theorem fl_X1_315_0 : zFL RX1 315 0 26 := ⟨RX0, TX0, 42, "ClauseCourt", rfl, by decide, Or.inr ⟨"ClauseCourt", q467⟩, Or.inl rfl, in_X0⟩
theorem ml_X1_321 : zML RX1 321 zy_X1_forgets := Or.inl q1673
theorem ml_X1_318 : zML RX1 318 zy_X1_turnNumber := Or.inl q1669
abbrev zy_X1_firstAssumed : zM := (yX1_firstAssumed, cX1_firstAssumed, 2, some .int)
theorem mi_X1_firstAssumed : zMI zy_X1_firstAssumed 1 0 := ⟨⟨RX1, TX1, 58, rfl, rfl, q1683, qs63, q158, zcw_in (by decide +kernel) q1684⟩, ⟨by decide +kernel, by decide +kernel, by decide +kernel⟩, Nat.le_of_ble_eq_true rfl, by decide⟩
theorem fl_X1_78_1 : zFL RX1 78 1 27 := ⟨RX1, TX1, 58, "ClauseCourt$Engine", rfl, by decide, Or.inl q246, Or.inl rfl, in_X1⟩
theorem fme_27 {e : Int} (he : zE e) : ((e, ((27 : Nat) : Int), e + 21) : Int × Int × Int) ∈ zFin := by rcases he with rfl | rfl <;> decide +kernel
theorem sae_21 {e : Int} (he : zE e) : zSA (e + 21) 50 20 := by rcases he with rfl | rfl <;> (unfold zSA; decide +kernel)
abbrev zy_X1_marks : zM := (yX1_marks, cX1_marks, 4, none)
theorem mi_X1_marks : zMI zy_X1_marks 1 2 := ⟨⟨RX1, TX1, 58, rfl, rfl, q1691, qs65, q158, zcw_in (by decide +kernel) q1692⟩, ⟨by decide +kernel, by decide +kernel, by decide +kernel⟩, Nat.le_of_ble_eq_true rfl, by decide⟩
abbrev zy_X1_noBy : zM := (yX1_noBy, cX1_noBy, 5, some .int)
theorem mi_X1_noBy : zMI zy_X1_noBy 1 1 := ⟨⟨RX1, TX1, 58, rfl, rfl, q1687, qs64, q158, zcw_in (by decide +kernel) q1688⟩, ⟨by decide +kernel, by decide +kernel, by decide +kernel⟩, Nat.le_of_ble_eq_true rfl, by decide⟩
theorem fl_X1_100_1 : zFL RX1 100 1 48 := ⟨RX1, TX1, 58, "ClauseCourt$Engine", rfl, by decide, Or.inl q284, Or.inl rfl, in_X1⟩
theorem fme_48 {e : Int} (he : zE e) : ((e, ((48 : Nat) : Int), e + 27) : Int × Int × Int) ∈ zFin := by rcases he with rfl | rfl <;> decide +kernel
theorem sae_27 {e : Int} (he : zE e) : zSA (e + 27) 52 301 := by rcases he with rfl | rfl <;> (unfold zSA; decide +kernel)
theorem ml_X1_338 : zML RX1 338 zy_X1_marks := Or.inl q1689
theorem fl_X1_91_1 : zFL RX1 91 1 44 := ⟨RX1, TX1, 58, "ClauseCourt$Engine", rfl, by decide, Or.inl q278, Or.inl rfl, in_X1⟩
theorem fme_44 {e : Int} (he : zE e) : ((e, ((44 : Nat) : Int), e + 24) : Int × Int × Int) ∈ zFin := by rcases he with rfl | rfl <;> decide +kernel
theorem sae_24 {e : Int} (he : zE e) : zSA (e + 24) 50 20 := by rcases he with rfl | rfl <;> (unfold zSA; decide +kernel)
abbrev zy_X1_heaviest : zM := (yX1_heaviest, cX1_heaviest, 3, some .int)
theorem mi_X1_heaviest : zMI zy_X1_heaviest 1 0 := ⟨⟨RX1, TX1, 58, rfl, rfl, q1695, qs66, q158, zcw_in (by decide +kernel) q1696⟩, ⟨by decide +kernel, by decide +kernel, by decide +kernel⟩, Nat.le_of_ble_eq_true rfl, by decide⟩
abbrev zy_X1_up : zM := (yX1_up, cX1_up, 1, none)
theorem mi_X1_up : zMI zy_X1_up 1 0 := ⟨⟨RX1, TX1, 58, rfl, rfl, q1699, qs67, q158, zcw_in (by decide +kernel) q1700⟩, ⟨by decide +kernel, by decide +kernel, by decide +kernel⟩, Nat.le_of_ble_eq_true rfl, by decide⟩
abbrev zy_X1_search : zM := (yX1_search, cX1_search, 8, some .int)
theorem mi_X1_search : zMI zy_X1_search 1 1 := ⟨⟨RX1, TX1, 58, rfl, rfl, q1557, q1558, q158, zcw_inW (hh := [(9, 45, 390, 0), (79, 102, 390, 0), (136, 158, 390, 0), (192, 222, 390, 0), (256, 282, 390, 0), (316, 326, 390, 0), (360, 392, 390, 0)]) (by decide +kernel) (by decide) q1559⟩, ⟨by decide +kernel, by decide +kernel, by decide +kernel⟩, Nat.le_of_ble_eq_true rfl, by decide⟩
theorem ml_X1_341 : zML RX1 341 zy_X1_force := Or.inl q1560
theorem ml_X1_353 : zML RX1 353 zy_X1_firstAssumed := Or.inl q1681
theorem ml_X1_359 : zML RX1 359 zy_X1_heaviest := Or.inl q1693
theorem ml_X1_362 : zML RX1 362 zy_X1_up := Or.inl q1697
theorem ml_X1_350 : zML RX1 350 zy_X1_learns := Or.inl q1648
theorem ml_X1_344 : zML RX1 344 zy_X1_keepTruth := Or.inl q1607
theorem ml_X1_347 : zML RX1 347 zy_X1_noAtAll := Or.inl q1616
theorem ml_X1_356 : zML RX1 356 zy_X1_noBy := Or.inl q1685
def P_E_clear_L18 (e : Int) (Q : Int → zH → Prop) (k38 : zH → Prop) : Nat → Int → zH → Prop
| 0, _, _ => False
| n18 + 1, y1, h =>
if 1364 ≤ y1 then
(k38 h)
else
((0 ≤ y1 ∧ y1 < 1364) ∧
∀ h3 : zH, h3 = zw h (e + 5) y1 (zbit 0) →
∀ x1_4 : Int, x1_4 = w32 (y1 + 1) →
P_E_clear_L18 e Q k38 n18 x1_4 h3)
theorem W_E_clear_L18 (e : Int) (he : zE e) (Q : Int → zH → Prop) (k38 : zH → Prop) (H38 : ∀ (h' : zH), k38 h' → zV true zy_X1_clear 1 38 [zR e, zU] [] h' (zQ0 Q)) : ∀ (n18 : Nat) (y1 : Int) (h : zH), P_E_clear_L18 e Q k38 n18 y1 h → zV true zy_X1_clear 1 18 [zR e, zI y1] [] h (zQ0 Q) := by
  intro n18
  induction n18 with
  | zero => intro y1 h hP; exact absurd hP id
  | succ n18 ih =>
    intro y1 h hP
    unfold P_E_clear_L18 at hP
    refine zV_iload_n dX1_clear_18 rfl ?_
    refine zV_sipush dX1_clear_19 ⟨by decide, by decide, by decide⟩ ?_
    refine zV_icmp_ge (tgt := 38) dX1_clear_22 (by decide) (fun c => ?_) (fun c => ?_)
    · have hP := zif_p hP c
      refine zV_mask [true, false] (ls' := [zR e, zU]) rfl ?_
      exact H38 _ hP
    · have hP := zif_n hP c
      refine zV_aload_n dX1_clear_25 rfl ?_
      refine zV_sg dX1_clear_26 (fme_4 he) (sae_0 he) (by decide) fl_X1_28_1 rfl ?_
      refine zV_iload_n dX1_clear_29 rfl ?_
      refine zV_iconst dX1_clear_30 ⟨by decide, by decide⟩ ?_
      obtain ⟨ob, hP⟩ := hP
      refine zV_zas dX1_clear_31 (sae_5 he) ob (fun h3 e_h3 => ?_)
      have hP := hP h3 e_h3
      refine zV_inc (ls' := fun z => [zR e, zI z]) dX1_clear_32 (Nat.le_of_ble_eq_true rfl) rfl rfl (fun _ => rfl) (fun x1_4 e_x1_4 => ?_)
      have hP := hP x1_4 e_x1_4
      refine zV_goto (tgt := 18) dX1_clear_35 (by decide) ?_
      exact ih _ _ hP
def P_E_clear_L40 (e : Int) (Q : Int → zH → Prop) (k59 : zH → Prop) : Nat → Int → zH → Prop
| 0, _, _ => False
| n40 + 1, y1, h =>
if 22 ≤ y1 then
(k59 h)
else
((0 ≤ y1 ∧ y1 < 22) ∧
∀ h6 : zH, h6 = zw h (e + 6) y1 0 →
∀ x1_7 : Int, x1_7 = w32 (y1 + 1) →
P_E_clear_L40 e Q k59 n40 x1_7 h6)
theorem W_E_clear_L40 (e : Int) (he : zE e) (Q : Int → zH → Prop) (k59 : zH → Prop) (H59 : ∀ (h' : zH), k59 h' → zV true zy_X1_clear 1 59 [zR e, zU] [] h' (zQ0 Q)) : ∀ (n40 : Nat) (y1 : Int) (h : zH), P_E_clear_L40 e Q k59 n40 y1 h → zV true zy_X1_clear 1 40 [zR e, zI y1] [] h (zQ0 Q) := by
  intro n40
  induction n40 with
  | zero => intro y1 h hP; exact absurd hP id
  | succ n40 ih =>
    intro y1 h hP
    unfold P_E_clear_L40 at hP
    refine zV_iload_n dX1_clear_40 rfl ?_
    refine zV_bipush dX1_clear_41 ⟨by decide, by decide, by decide⟩ ?_
    refine zV_icmp_ge (tgt := 59) dX1_clear_43 (by decide) (fun c => ?_) (fun c => ?_)
    · have hP := zif_p hP c
      refine zV_mask [true, false] (ls' := [zR e, zU]) rfl ?_
      exact H59 _ hP
    · have hP := zif_n hP c
      refine zV_aload_n dX1_clear_46 rfl ?_
      refine zV_sg dX1_clear_47 (fme_5 he) (sae_0 he) (by decide) fl_X1_32_1 rfl ?_
      refine zV_iload_n dX1_clear_50 rfl ?_
      refine zV_lconst (x := 0) dX1_clear_51 rfl ?_
      obtain ⟨ob, hP⟩ := hP
      refine zV_las dX1_clear_52 (sae_6 he) ob (fun h6 e_h6 => ?_)
      have hP := hP h6 e_h6
      refine zV_inc (ls' := fun z => [zR e, zI z]) dX1_clear_53 (Nat.le_of_ble_eq_true rfl) rfl rfl (fun _ => rfl) (fun x1_7 e_x1_7 => ?_)
      have hP := hP x1_7 e_x1_7
      refine zV_goto (tgt := 40) dX1_clear_56 (by decide) ?_
      exact ih _ _ hP
def P_E_clear_L61 (e : Int) (Q : Int → zH → Prop) (k85 : zH → Prop) : Nat → Int → zH → Prop
| 0, _, _ => False
| n61 + 1, y1, h =>
if 602 ≤ y1 then
(k85 h)
else
((0 ≤ y1 ∧ y1 < 602) ∧
∀ h9 : zH, h9 = zw h (e + 10) y1 (-1005) →
∀ x1_10 : Int, x1_10 = w32 (y1 + 1) →
P_E_clear_L61 e Q k85 n61 x1_10 h9)
theorem W_E_clear_L61 (e : Int) (he : zE e) (Q : Int → zH → Prop) (k85 : zH → Prop) (H85 : ∀ (h' : zH), k85 h' → zV true zy_X1_clear 1 85 [zR e, zU] [] h' (zQ0 Q)) : ∀ (n61 : Nat) (y1 : Int) (h : zH), P_E_clear_L61 e Q k85 n61 y1 h → zV true zy_X1_clear 1 61 [zR e, zI y1] [] h (zQ0 Q) := by
  intro n61
  induction n61 with
  | zero => intro y1 h hP; exact absurd hP id
  | succ n61 ih =>
    intro y1 h hP
    unfold P_E_clear_L61 at hP
    refine zV_iload_n dX1_clear_61 rfl ?_
    refine zV_aload_n dX1_clear_62 rfl ?_
    refine zV_sg dX1_clear_63 (fme_9 he) (sae_0 he) (by decide) fl_X1_45_1 rfl ?_
    refine zV_al dX1_clear_66 (sae_10 he) (by decide) ?_
    refine zV_icmp_ge (tgt := 85) dX1_clear_67 (by decide) (fun c => ?_) (fun c => ?_)
    · have hP := zif_p hP c
      refine zV_mask [true, false] (ls' := [zR e, zU]) rfl ?_
      exact H85 _ hP
    · have hP := zif_n hP c
      refine zV_aload_n dX1_clear_70 rfl ?_
      refine zV_sg dX1_clear_71 (fme_9 he) (sae_0 he) (by decide) fl_X1_45_1 rfl ?_
      refine zV_iload_n dX1_clear_74 rfl ?_
      refine zV_sipush dX1_clear_75 ⟨by decide, by decide, by decide⟩ ?_
      obtain ⟨ob, hP⟩ := hP
      refine zV_ias dX1_clear_78 (sae_10 he) ob (fun h9 e_h9 => ?_)
      have hP := hP h9 e_h9
      refine zV_inc (ls' := fun z => [zR e, zI z]) dX1_clear_79 (Nat.le_of_ble_eq_true rfl) rfl rfl (fun _ => rfl) (fun x1_10 e_x1_10 => ?_)
      have hP := hP x1_10 e_x1_10
      refine zV_goto (tgt := 61) dX1_clear_82 (by decide) ?_
      exact ih _ _ hP
def P_E_clear_L87 (e : Int) (Q : Int → zH → Prop) (k136 : zH → Prop) : Nat → Int → zH → Prop
| 0, _, _ => False
| n87 + 1, y1, h =>
if zd h e 11 < y1 then
(k136 h)
else
((0 ≤ y1 ∧ y1 < 301) ∧
∀ h12 : zH, h12 = zw h (e + 11) y1 0 →
(0 ≤ y1 ∧ y1 < 301) ∧
∀ h13 : zH, h13 = zw h12 (e + 14) y1 0 →
(0 ≤ w32 (y1 - 1) ∧ w32 (y1 - 1) < 300) ∧
(zt h13 (zd h13 15 (w32 (y1 - 1))) = 4) ∧
(0 ≤ y1 ∧ y1 < 301) ∧
∀ h14 : zH, h14 = zw h13 (e + 15) y1 (zd h13 (zd h13 15 (w32 (y1 - 1))) 1) →
∀ x1_15 : Int, x1_15 = w32 (y1 + 1) →
P_E_clear_L87 e Q k136 n87 x1_15 h14)
theorem W_E_clear_L87 (e : Int) (he : zE e) (Q : Int → zH → Prop) (k136 : zH → Prop) (H136 : ∀ (h' : zH), k136 h' → zV true zy_X1_clear 1 136 [zR e, zU] [] h' (zQ0 Q)) : ∀ (n87 : Nat) (y1 : Int) (h : zH), P_E_clear_L87 e Q k136 n87 y1 h → zV true zy_X1_clear 1 87 [zR e, zI y1] [] h (zQ0 Q) := by
  intro n87
  induction n87 with
  | zero => intro y1 h hP; exact absurd hP id
  | succ n87 ih =>
    intro y1 h hP
    unfold P_E_clear_L87 at hP
    refine zV_iload_n dX1_clear_87 rfl ?_
    refine zV_aload_n dX1_clear_88 rfl ?_
    refine zV_gf dX1_clear_89 (sae_0 he) (by decide) fl_X1_121_1 rfl (ki := 11) rfl ?_
    refine zV_icmp_gt (tgt := 136) dX1_clear_92 (by decide) (fun c => ?_) (fun c => ?_)
    · have hP := zif_p hP c
      refine zV_mask [true, false] (ls' := [zR e, zU]) rfl ?_
      exact H136 _ hP
    · have hP := zif_n hP c
      refine zV_aload_n dX1_clear_95 rfl ?_
      refine zV_sg dX1_clear_96 (fme_12 he) (sae_0 he) (by decide) fl_X1_48_1 rfl ?_
      refine zV_iload_n dX1_clear_99 rfl ?_
      refine zV_iconst dX1_clear_100 ⟨by decide, by decide⟩ ?_
      obtain ⟨ob, hP⟩ := hP
      refine zV_ias dX1_clear_101 (sae_11 he) ob (fun h12 e_h12 => ?_)
      have hP := hP h12 e_h12
      refine zV_aload_n dX1_clear_102 rfl ?_
      refine zV_sg dX1_clear_103 (fme_15 he) (sae_0 he) (by decide) fl_X1_57_1 rfl ?_
      refine zV_iload_n dX1_clear_106 rfl ?_
      refine zV_iconst dX1_clear_107 ⟨by decide, by decide⟩ ?_
      obtain ⟨ob, hP⟩ := hP
      refine zV_ias dX1_clear_108 (sae_14 he) ob (fun h13 e_h13 => ?_)
      have hP := hP h13 e_h13
      refine zV_aload_n dX1_clear_109 rfl ?_
      refine zV_sg dX1_clear_110 (fme_16 he) (sae_0 he) (by decide) fl_X1_60_1 rfl ?_
      refine zV_iload_n dX1_clear_113 rfl ?_
      refine zV_aload_n dX1_clear_114 rfl ?_
      refine zV_sg dX1_clear_115 (fme_57 he) (sae_0 he) (by decide) fl_X1_3_1 rfl ?_
      refine zV_sg dX1_clear_118 fm_14_1 sa_14 (by decide) fl_X1_127_0 rfl ?_
      refine zV_iload_n dX1_clear_121 rfl ?_
      refine zV_iconst dX1_clear_122 ⟨by decide, by decide⟩ ?_
      refine zV_isub dX1_clear_123 ?_
      obtain ⟨ob, hP⟩ := hP
      refine zV_aa dX1_clear_124 sa_15 (by decide) ob ?_
      obtain ⟨ob, hP⟩ := hP
      refine zV_gD dX1_clear_125 ob (by decide) fl_X1_131_4 rfl (ki := 1) rfl ?_
      refine zV_i2l dX1_clear_128 ?_
      obtain ⟨ob, hP⟩ := hP
      refine zV_las dX1_clear_129 (sae_15 he) ob (fun h14 e_h14 => ?_)
      have hP := hP h14 e_h14
      refine zV_inc (ls' := fun z => [zR e, zI z]) dX1_clear_130 (Nat.le_of_ble_eq_true rfl) rfl rfl (fun _ => rfl) (fun x1_15 e_x1_15 => ?_)
      have hP := hP x1_15 e_x1_15
      refine zV_goto (tgt := 87) dX1_clear_133 (by decide) ?_
      exact ih _ _ hP
def P_E_clear (e : Int) (h : zH) (Q : Int → zH → Prop) : Prop :=
∀ h1 : zH, h1 = zw h e 11 (zd h 14 2) →
∀ h2 : zH, h2 = zw h1 e 10 0 →
∃ n18, P_E_clear_L18 e Q (fun h5 =>
∃ n40, P_E_clear_L40 e Q (fun h8 =>
∃ n61, P_E_clear_L61 e Q (fun h11 =>
∃ n87, P_E_clear_L87 e Q (fun h16 =>
∀ h17 : zH, h17 = zw h16 e 20 0 →
∀ h18 : zH, h18 = zw h17 e 21 0 →
∀ h19 : zH, h19 = zw h18 e 22 64 →
∀ h20 : zH, h20 = zw h19 e 25 0 →
∀ h21 : zH, h21 = zw h20 e 26 0 →
∀ h22 : zH, h22 = zw h21 e 28 0 →
∀ h23 : zH, h23 = zw h22 e 29 (-1005) →
∀ h24 : zH, h24 = zw h23 e 30 0 →
∀ h25 : zH, h25 = zw h24 e 32 0 →
∀ h26 : zH, h26 = zw h25 e 33 0 →
∀ h27 : zH, h27 = zw h26 e 34 0 →
∀ h28 : zH, h28 = zw h27 e 35 0 →
∀ h29 : zH, h29 = zw h28 e 36 0 →
∀ h30 : zH, h30 = zw h29 e 37 0 →
∀ h31 : zH, h31 = zw h30 e 38 0 →
∀ h32 : zH, h32 = zw h31 e 39 0 →
∀ h33 : zH, h33 = zw h32 e 40 1 →
∀ h34 : zH, h34 = zw h33 e 42 0 →
∀ h35 : zH, h35 = zw h34 e 45 0 →
Q 0 h35) n87 1 h11) n61 0 h8) n40 0 h5) n18 0 h2
theorem W_E_clear (e : Int) (he : zE e) (h : zH) (Q : Int → zH → Prop) (hP : P_E_clear e  h Q) : zC true zy_X1_clear 1 [zR e] h (zQ0 Q) := by
  unfold P_E_clear at hP
  refine zC.of (by decide) (Nat.le_of_ble_eq_true rfl) ?_
  show zV true zy_X1_clear 1 0 [zR e, zU] [] h (zQ0 Q)
  refine zV_aload_n dX1_clear_0 rfl ?_
  refine zV_aload_n dX1_clear_1 rfl ?_
  refine zV_sg dX1_clear_2 (fme_57 he) (sae_0 he) (by decide) fl_X1_3_1 rfl ?_
  refine zV_gf dX1_clear_5 sa_14 (by decide) fl_X1_118_0 rfl (ki := 2) rfl ?_
  refine zV_pf dX1_clear_8 (sae_0 he) (by decide) fl_X1_121_1 rfl rfl trivial (ki := 11) rfl (fun h1 e_h1 => ?_)
  have hP := hP h1 e_h1
  refine zV_aload_n dX1_clear_11 rfl ?_
  refine zV_iconst dX1_clear_12 ⟨by decide, by decide⟩ ?_
  refine zV_pf dX1_clear_13 (sae_0 he) (by decide) fl_X1_124_1 rfl rfl trivial (ki := 10) rfl (fun h2 e_h2 => ?_)
  have hP := hP h2 e_h2
  refine zV_iconst dX1_clear_16 ⟨by decide, by decide⟩ ?_
  refine zV_istore_n (ls' := [zR e, zI 0]) dX1_clear_17 rfl (Nat.le_of_ble_eq_true rfl) rfl rfl ?_
  obtain ⟨n18, hP⟩ := hP
  refine W_E_clear_L18 e he _ _ (fun h5 hP => ?_) n18 _ _ hP
  refine zV_iconst dX1_clear_38 ⟨by decide, by decide⟩ ?_
  refine zV_istore_n (ls' := [zR e, zI 0]) dX1_clear_39 rfl (Nat.le_of_ble_eq_true rfl) rfl rfl ?_
  obtain ⟨n40, hP⟩ := hP
  refine W_E_clear_L40 e he _ _ (fun h8 hP => ?_) n40 _ _ hP
  refine zV_iconst dX1_clear_59 ⟨by decide, by decide⟩ ?_
  refine zV_istore_n (ls' := [zR e, zI 0]) dX1_clear_60 rfl (Nat.le_of_ble_eq_true rfl) rfl rfl ?_
  obtain ⟨n61, hP⟩ := hP
  refine W_E_clear_L61 e he _ _ (fun h11 hP => ?_) n61 _ _ hP
  refine zV_iconst dX1_clear_85 ⟨by decide, by decide⟩ ?_
  refine zV_istore_n (ls' := [zR e, zI 1]) dX1_clear_86 rfl (Nat.le_of_ble_eq_true rfl) rfl rfl ?_
  obtain ⟨n87, hP⟩ := hP
  refine W_E_clear_L87 e he _ _ (fun h16 hP => ?_) n87 _ _ hP
  refine zV_aload_n dX1_clear_136 rfl ?_
  refine zV_iconst dX1_clear_137 ⟨by decide, by decide⟩ ?_
  refine zV_pf dX1_clear_138 (sae_0 he) (by decide) fl_X1_136_1 rfl rfl trivial (ki := 20) rfl (fun h17 e_h17 => ?_)
  have hP := hP h17 e_h17
  refine zV_aload_n dX1_clear_141 rfl ?_
  refine zV_iconst dX1_clear_142 ⟨by decide, by decide⟩ ?_
  refine zV_pf dX1_clear_143 (sae_0 he) (by decide) fl_X1_139_1 rfl rfl trivial (ki := 21) rfl (fun h18 e_h18 => ?_)
  have hP := hP h18 e_h18
  refine zV_aload_n dX1_clear_146 rfl ?_
  refine zV_ldc2c (x := 64) dX1_clear_147 (by decide) q1529 ⟨by decide, by decide⟩ ?_
  refine zV_pf dX1_clear_150 (sae_0 he) (by decide) fl_X1_144_1 rfl rfl trivial (ki := 22) rfl (fun h19 e_h19 => ?_)
  have hP := hP h19 e_h19
  refine zV_aload_n dX1_clear_153 rfl ?_
  refine zV_iconst dX1_clear_154 ⟨by decide, by decide⟩ ?_
  refine zV_pf dX1_clear_155 (sae_0 he) (by decide) fl_X1_148_1 rfl rfl trivial (ki := 25) rfl (fun h20 e_h20 => ?_)
  have hP := hP h20 e_h20
  refine zV_aload_n dX1_clear_158 rfl ?_
  refine zV_iconst dX1_clear_159 ⟨by decide, by decide⟩ ?_
  refine zV_pf dX1_clear_160 (sae_0 he) (by decide) fl_X1_151_1 rfl rfl trivial (ki := 26) rfl (fun h21 e_h21 => ?_)
  have hP := hP h21 e_h21
  refine zV_aload_n dX1_clear_163 rfl ?_
  refine zV_iconst dX1_clear_164 ⟨by decide, by decide⟩ ?_
  refine zV_pf dX1_clear_165 (sae_0 he) (by decide) fl_X1_154_1 rfl rfl trivial (ki := 28) rfl (fun h22 e_h22 => ?_)
  have hP := hP h22 e_h22
  refine zV_aload_n dX1_clear_168 rfl ?_
  refine zV_sipush dX1_clear_169 ⟨by decide, by decide, by decide⟩ ?_
  refine zV_pf dX1_clear_172 (sae_0 he) (by decide) fl_X1_81_1 rfl rfl trivial (ki := 29) rfl (fun h23 e_h23 => ?_)
  have hP := hP h23 e_h23
  refine zV_aload_n dX1_clear_175 rfl ?_
  refine zV_iconst dX1_clear_176 ⟨by decide, by decide⟩ ?_
  refine zV_pf dX1_clear_177 (sae_0 he) (by decide) fl_X1_157_1 rfl rfl trivial (ki := 30) rfl (fun h24 e_h24 => ?_)
  have hP := hP h24 e_h24
  refine zV_aload_n dX1_clear_180 rfl ?_
  refine zV_iconst dX1_clear_181 ⟨by decide, by decide⟩ ?_
  refine zV_pf dX1_clear_182 (sae_0 he) (by decide) fl_X1_160_1 rfl rfl trivial (ki := 32) rfl (fun h25 e_h25 => ?_)
  have hP := hP h25 e_h25
  refine zV_aload_n dX1_clear_185 rfl ?_
  refine zV_iconst dX1_clear_186 ⟨by decide, by decide⟩ ?_
  refine zV_pf dX1_clear_187 (sae_0 he) (by decide) fl_X1_163_1 rfl rfl trivial (ki := 33) rfl (fun h26 e_h26 => ?_)
  have hP := hP h26 e_h26
  refine zV_aload_n dX1_clear_190 rfl ?_
  refine zV_iconst dX1_clear_191 ⟨by decide, by decide⟩ ?_
  refine zV_pf dX1_clear_192 (sae_0 he) (by decide) fl_X1_166_1 rfl rfl trivial (ki := 34) rfl (fun h27 e_h27 => ?_)
  have hP := hP h27 e_h27
  refine zV_aload_n dX1_clear_195 rfl ?_
  refine zV_iconst dX1_clear_196 ⟨by decide, by decide⟩ ?_
  refine zV_pf dX1_clear_197 (sae_0 he) (by decide) fl_X1_169_1 rfl rfl trivial (ki := 35) rfl (fun h28 e_h28 => ?_)
  have hP := hP h28 e_h28
  refine zV_aload_n dX1_clear_200 rfl ?_
  refine zV_iconst dX1_clear_201 ⟨by decide, by decide⟩ ?_
  refine zV_pf dX1_clear_202 (sae_0 he) (by decide) fl_X1_172_1 rfl rfl trivial (ki := 36) rfl (fun h29 e_h29 => ?_)
  have hP := hP h29 e_h29
  refine zV_aload_n dX1_clear_205 rfl ?_
  refine zV_iconst dX1_clear_206 ⟨by decide, by decide⟩ ?_
  refine zV_pf dX1_clear_207 (sae_0 he) (by decide) fl_X1_175_1 rfl rfl trivial (ki := 37) rfl (fun h30 e_h30 => ?_)
  have hP := hP h30 e_h30
  refine zV_aload_n dX1_clear_210 rfl ?_
  refine zV_iconst dX1_clear_211 ⟨by decide, by decide⟩ ?_
  refine zV_pf dX1_clear_212 (sae_0 he) (by decide) fl_X1_178_1 rfl rfl trivial (ki := 38) rfl (fun h31 e_h31 => ?_)
  have hP := hP h31 e_h31
  refine zV_aload_n dX1_clear_215 rfl ?_
  refine zV_iconst dX1_clear_216 ⟨by decide, by decide⟩ ?_
  refine zV_pf dX1_clear_217 (sae_0 he) (by decide) fl_X1_181_1 rfl rfl trivial (ki := 39) rfl (fun h32 e_h32 => ?_)
  have hP := hP h32 e_h32
  refine zV_aload_n dX1_clear_220 rfl ?_
  refine zV_iconst dX1_clear_221 ⟨by decide, by decide⟩ ?_
  refine zV_pf dX1_clear_222 (sae_0 he) (by decide) fl_X1_184_1 rfl rfl trivial (ki := 40) rfl (fun h33 e_h33 => ?_)
  have hP := hP h33 e_h33
  refine zV_aload_n dX1_clear_225 rfl ?_
  refine zV_iconst dX1_clear_226 ⟨by decide, by decide⟩ ?_
  refine zV_pf dX1_clear_227 (sae_0 he) (by decide) fl_X1_187_1 rfl rfl z0 (ki := 42) rfl (fun h34 e_h34 => ?_)
  have hP := hP h34 e_h34
  refine zV_aload_n dX1_clear_230 rfl ?_
  refine zV_iconst dX1_clear_231 ⟨by decide, by decide⟩ ?_
  refine zV_pf dX1_clear_232 (sae_0 he) (by decide) fl_X1_191_1 rfl rfl trivial (ki := 45) rfl (fun h35 e_h35 => ?_)
  have hP := hP h35 e_h35
  exact zV_return dX1_clear_235 rfl ⟨rfl, hP⟩
def P_E_index (e : Int) (a1 : Int) (h : zH) (Q : Int → zH → Prop) : Prop :=
Q (if a1 ≤ 0 then w32 (1 - (w32 (2 * a1))) else w32 (2 * a1)) h
theorem W_E_index (e : Int) (he : zE e) (a1 : Int) (h : zH) (Q : Int → zH → Prop) (hP : P_E_index e a1 h Q) : zC true zy_X1_index 1 [zR e, zI a1] h (zQ0 Q) := by
  unfold P_E_index at hP
  refine zC.of (by decide) (Nat.le_of_ble_eq_true rfl) ?_
  show zV true zy_X1_index 1 0 [zR e, zI a1] [] h (zQ0 Q)
  refine zV_iload_n dX1_index_0 rfl ?_
  have K : zV true zy_X1_index 1 15 [zU, zU] [zI (if a1 ≤ 0 then w32 (1 - (w32 (2 * a1))) else w32 (2 * a1))] h (zQ0 Q) := by
    exact zV_ireturn dX1_index_15 rfl rfl rfl ⟨rfl, hP⟩
  clear hP
  refine zV_if_le (tgt := 10) dX1_index_1 (by decide) (fun c => ?_) (fun c => ?_)
  · try simp only [if_pos c] at K
    refine zV_iconst dX1_index_10 ⟨by decide, by decide⟩ ?_
    refine zV_iconst dX1_index_11 ⟨by decide, by decide⟩ ?_
    refine zV_iload_n dX1_index_12 rfl ?_
    refine zV_imul dX1_index_13 ?_
    refine zV_isub dX1_index_14 ?_
    refine zV_mask [false, false] rfl ?_
    exact K
  · try simp only [if_neg c] at K
    refine zV_iconst dX1_index_4 ⟨by decide, by decide⟩ ?_
    refine zV_iload_n dX1_index_5 rfl ?_
    refine zV_imul dX1_index_6 ?_
    refine zV_goto (tgt := 15) dX1_index_7 (by decide) ?_
    refine zV_mask [false, false] rfl ?_
    exact K
def P_E_isTrue_J18 (e : Int) (s0 : Int) (s1 : Int) (h : zH) (Q : Int → zH → Prop) : Prop :=
Q (if s1 = s0 then 1 else 0) h
theorem W_E_isTrue_J18 (e : Int) (he : zE e) (s0 : Int) (s1 : Int) (h : zH) (Q : Int → zH → Prop) (hP : P_E_isTrue_J18 e s0 s1 h Q) : zV true zy_X1_isTrue 2 18 [zU, zU] [zI s0, zI s1] h (zQ0 Q) := by
  unfold P_E_isTrue_J18 at hP
  have K : zV true zy_X1_isTrue 2 26 [zU, zU] [zI (if s1 = s0 then 1 else 0)] h (zQ0 Q) := by
    exact zV_ireturn dX1_isTrue_26 rfl rfl (z01 (z01_if z1 z0)) ⟨rfl, hP⟩
  clear hP
  refine zV_icmp_ne (tgt := 25) dX1_isTrue_18 (by decide) (fun c => ?_) (fun c => ?_)
  · try simp only [if_neg c] at K
    refine zV_iconst dX1_isTrue_25 ⟨by decide, by decide⟩ ?_
    refine zV_mask [false, false] rfl ?_
    exact K
  · try simp only [if_pos c] at K
    refine zV_iconst dX1_isTrue_21 ⟨by decide, by decide⟩ ?_
    refine zV_goto (tgt := 26) dX1_isTrue_22 (by decide) ?_
    refine zV_mask [false, false] rfl ?_
    exact K
def P_E_isTrue (e : Int) (a1 : Int) (h : zH) (Q : Int → zH → Prop) : Prop :=
(0 ≤ zabs a1 ∧ zabs a1 < 301) ∧
P_E_isTrue_J18 e (if a1 ≤ 0 then (-1) else 1) (zd h (e + 11) (zabs a1)) h Q
theorem W_E_isTrue (e : Int) (he : zE e) (a1 : Int) (h : zH) (Q : Int → zH → Prop) (hP : P_E_isTrue e a1 h Q) : zC true zy_X1_isTrue 2 [zR e, zI a1] h (zQ0 Q) := by
  unfold P_E_isTrue at hP
  refine zC.of (by decide) (Nat.le_of_ble_eq_true rfl) ?_
  show zV true zy_X1_isTrue 2 0 [zR e, zI a1] [] h (zQ0 Q)
  refine zV_aload_n dX1_isTrue_0 rfl ?_
  refine zV_sg dX1_isTrue_1 (fme_12 he) (sae_0 he) (by decide) fl_X1_48_1 rfl ?_
  refine zV_iload_n dX1_isTrue_4 rfl ?_
  refine zV_mabs dX1_isTrue_5 q1546 q806 q171 q807 (Nat.le_of_ble_eq_true rfl) (by decide) ?_
  obtain ⟨ob, hP⟩ := hP
  refine zV_ia dX1_isTrue_8 (sae_11 he) ob ?_
  refine zV_iload_n dX1_isTrue_9 rfl ?_
  have K : zV true zy_X1_isTrue 2 18 [zU, zU] [zI (if a1 ≤ 0 then (-1) else 1), zI (zd h (e + 11) (zabs a1))] h (zQ0 Q) := by
    exact W_E_isTrue_J18 e he _ _ _ _ hP
  clear hP
  refine zV_if_le (tgt := 17) dX1_isTrue_10 (by decide) (fun c => ?_) (fun c => ?_)
  · try simp only [if_pos c] at K
    refine zV_iconst dX1_isTrue_17 ⟨by decide, by decide⟩ ?_
    refine zV_mask [false, false] rfl ?_
    exact K
  · try simp only [if_neg c] at K
    refine zV_iconst dX1_isTrue_13 ⟨by decide, by decide⟩ ?_
    refine zV_goto (tgt := 18) dX1_isTrue_14 (by decide) ?_
    refine zV_mask [false, false] rfl ?_
    exact K
def P_E_look_J40 (e : Int) (y1 : Int) (s0 : Int) (h : zH) (Q : Int → zH → Prop) : Prop :=
∀ x3_1 : Int, x3_1 = (zlshl 1 (zand y1 63)) →
(if s0 = 0 then (0 ≤ zshr y1 6 ∧ zshr y1 6 < 22) ∧ True else (0 ≤ zshr y1 6 ∧ zshr y1 6 < 22) ∧ True) ∧
(0 ≤ zshr y1 6 ∧ zshr y1 6 < 22) ∧
∀ h2 : zH, h2 = zw h (e + 6) (zshr y1 6) (if s0 = 0 then zland (zd h (e + 6) (zshr y1 6)) (zlxor x3_1 (-1)) else zlor (zd h (e + 6) (zshr y1 6)) x3_1) →
Q 0 h2
theorem W_E_look_J40 (e : Int) (he : zE e) (y1 : Int) (s0 : Int) (h : zH) (Q : Int → zH → Prop) (hP : P_E_look_J40 e y1 s0 h Q) : zV true zy_X1_look 1 40 [zR e, zI y1, zU, zU, zU] [zI s0] h (zQ0 Q) := by
  unfold P_E_look_J40 at hP
  refine zV_istore_n (ls' := [zR e, zI y1, zI s0, zU, zU]) dX1_look_40 rfl (Nat.le_of_ble_eq_true rfl) rfl rfl ?_
  refine zV_lconst (x := 1) dX1_look_41 rfl ?_
  refine zV_iload_n dX1_look_42 rfl ?_
  refine zV_bipush dX1_look_43 ⟨by decide, by decide, by decide⟩ ?_
  refine zV_iand dX1_look_45 ?_
  refine zV_lshl dX1_look_46 ?_
  refine zV_top (fun x3_1 e_x3_1 => ?_)
  have hP := hP x3_1 e_x3_1
  refine zV_lstore_n (ls' := [zR e, zI y1, zI s0, zJ x3_1, zU]) dX1_look_47 rfl (Nat.le_of_ble_eq_true rfl) rfl rfl ?_
  refine zV_aload_n dX1_look_48 rfl ?_
  refine zV_sg dX1_look_49 (fme_5 he) (sae_0 he) (by decide) fl_X1_32_1 rfl ?_
  refine zV_iload_n dX1_look_52 rfl ?_
  refine zV_bipush dX1_look_53 ⟨by decide, by decide, by decide⟩ ?_
  refine zV_ishr dX1_look_55 ?_
  refine zV_iload_n dX1_look_56 rfl ?_
  obtain ⟨hO, hP⟩ := hP
  have K : zV true zy_X1_look 1 89 [zU, zU, zU, zU, zU] [zJ (if s0 = 0 then zland (zd h (e + 6) (zshr y1 6)) (zlxor x3_1 (-1)) else zlor (zd h (e + 6) (zshr y1 6)) x3_1), zI (zshr y1 6), zR (e + 6)] h (zQ0 Q) := by
    obtain ⟨ob, hP⟩ := hP
    refine zV_las dX1_look_89 (sae_6 he) ob (fun h2 e_h2 => ?_)
    have hP := hP h2 e_h2
    exact zV_return dX1_look_90 rfl ⟨rfl, hP⟩
  clear hP
  refine zV_if_eq (tgt := 74) dX1_look_57 (by decide) (fun c => ?_) (fun c => ?_)
  · try simp only [if_pos c] at K
    have hO := zif_p hO c
    refine zV_aload_n dX1_look_74 rfl ?_
    refine zV_sg dX1_look_75 (fme_5 he) (sae_0 he) (by decide) fl_X1_32_1 rfl ?_
    refine zV_iload_n dX1_look_78 rfl ?_
    refine zV_bipush dX1_look_79 ⟨by decide, by decide, by decide⟩ ?_
    refine zV_ishr dX1_look_81 ?_
    obtain ⟨ob, hO⟩ := hO
    refine zV_la dX1_look_82 (sae_6 he) ob ?_
    refine zV_lload_n dX1_look_83 rfl ?_
    refine zV_ldc2c (x := (-1)) dX1_look_84 (by decide) q1551 ⟨by decide, by decide⟩ ?_
    refine zV_lxor dX1_look_87 ?_
    refine zV_land dX1_look_88 ?_
    refine zV_mask [false, false, false, false, false] rfl ?_
    exact K
  · try simp only [if_neg c] at K
    have hO := zif_n hO c
    refine zV_aload_n dX1_look_60 rfl ?_
    refine zV_sg dX1_look_61 (fme_5 he) (sae_0 he) (by decide) fl_X1_32_1 rfl ?_
    refine zV_iload_n dX1_look_64 rfl ?_
    refine zV_bipush dX1_look_65 ⟨by decide, by decide, by decide⟩ ?_
    refine zV_ishr dX1_look_67 ?_
    obtain ⟨ob, hO⟩ := hO
    refine zV_la dX1_look_68 (sae_6 he) ob ?_
    refine zV_lload_n dX1_look_69 rfl ?_
    refine zV_lor dX1_look_70 ?_
    refine zV_goto (tgt := 89) dX1_look_71 (by decide) ?_
    refine zV_mask [false, false, false, false, false] rfl ?_
    exact K
def P_E_look (e : Int) (a1 : Int) (h : zH) (Q : Int → zH → Prop) : Prop :=
(0 ≤ a1 ∧ a1 < 1364) ∧
(if zd h (e + 5) a1 = 0 then True else (0 ≤ a1 ∧ a1 < 1364) ∧ (if zd h (e + 4) a1 = 0 then (0 ≤ a1 ∧ a1 < 1364) ∧ (0 ≤ a1 ∧ a1 < 1364) ∧ True else True)) ∧
P_E_look_J40 e a1 (if zd h (e + 5) a1 = 0 then 0 else if zd h (e + 4) a1 = 0 then if zd h (e + 3) a1 < w32 ((zd h (e + 2) a1) - 1) then 0 else 1 else 0) h Q
theorem W_E_look (e : Int) (he : zE e) (a1 : Int) (h : zH) (Q : Int → zH → Prop) (hP : P_E_look e a1 h Q) : zC true zy_X1_look 1 [zR e, zI a1] h (zQ0 Q) := by
  unfold P_E_look at hP
  refine zC.of (by decide) (Nat.le_of_ble_eq_true rfl) ?_
  show zV true zy_X1_look 1 0 [zR e, zI a1, zU, zU, zU] [] h (zQ0 Q)
  refine zV_aload_n dX1_look_0 rfl ?_
  refine zV_sg dX1_look_1 (fme_4 he) (sae_0 he) (by decide) fl_X1_28_1 rfl ?_
  refine zV_iload_n dX1_look_4 rfl ?_
  obtain ⟨ob, hP⟩ := hP
  refine zV_za dX1_look_5 (sae_5 he) ob ?_
  obtain ⟨hO, hP⟩ := hP
  have K : zV true zy_X1_look 1 40 [zR e, zI a1, zU, zU, zU] [zI (if zd h (e + 5) a1 = 0 then 0 else if zd h (e + 4) a1 = 0 then if zd h (e + 3) a1 < w32 ((zd h (e + 2) a1) - 1) then 0 else 1 else 0)] h (zQ0 Q) := by
    exact W_E_look_J40 e he _ _ _ _ hP
  clear hP
  refine zV_if_eq (tgt := 39) dX1_look_6 (by decide) (fun c => ?_) (fun c => ?_)
  · try simp only [if_pos c] at K
    have hO := zif_p hO c
    refine zV_iconst dX1_look_39 ⟨by decide, by decide⟩ ?_
    refine zV_mask [true, true, false, false, false] rfl ?_
    exact K
  · try simp only [if_neg c] at K
    have hO := zif_n hO c
    refine zV_aload_n dX1_look_9 rfl ?_
    refine zV_sg dX1_look_10 (fme_3 he) (sae_0 he) (by decide) fl_X1_25_1 rfl ?_
    refine zV_iload_n dX1_look_13 rfl ?_
    obtain ⟨ob, hO⟩ := hO
    refine zV_ia dX1_look_14 (sae_4 he) ob ?_
    refine zV_if_ne (tgt := 39) dX1_look_15 (by decide) (fun c => ?_) (fun c => ?_)
    · try simp only [if_neg c] at K
      have hO := zif_n hO c
      refine zV_iconst dX1_look_39 ⟨by decide, by decide⟩ ?_
      refine zV_mask [true, true, false, false, false] rfl ?_
      exact K
    · try simp only [if_pos c] at K
      have hO := zif_p hO c
      refine zV_aload_n dX1_look_18 rfl ?_
      refine zV_sg dX1_look_19 (fme_2 he) (sae_0 he) (by decide) fl_X1_22_1 rfl ?_
      refine zV_iload_n dX1_look_22 rfl ?_
      obtain ⟨ob, hO⟩ := hO
      refine zV_ia dX1_look_23 (sae_3 he) ob ?_
      refine zV_aload_n dX1_look_24 rfl ?_
      refine zV_sg dX1_look_25 (fme_1 he) (sae_0 he) (by decide) fl_X1_19_1 rfl ?_
      refine zV_iload_n dX1_look_28 rfl ?_
      obtain ⟨ob, hO⟩ := hO
      refine zV_ia dX1_look_29 (sae_2 he) ob ?_
      refine zV_iconst dX1_look_30 ⟨by decide, by decide⟩ ?_
      refine zV_isub dX1_look_31 ?_
      refine zV_icmp_lt (tgt := 39) dX1_look_32 (by decide) (fun c => ?_) (fun c => ?_)
      · try simp only [if_pos c] at K
        refine zV_iconst dX1_look_39 ⟨by decide, by decide⟩ ?_
        refine zV_mask [true, true, false, false, false] rfl ?_
        exact K
      · try simp only [if_neg c] at K
        refine zV_iconst dX1_look_35 ⟨by decide, by decide⟩ ?_
        refine zV_goto (tgt := 40) dX1_look_36 (by decide) ?_
        refine zV_mask [true, true, false, false, false] rfl ?_
        exact K
def P_E_lay_J168 (e : Int) (y1 : Int) (y2 : Int) (y4 : Int) (y5 : Int) (s0 : Int) (s1 : Int) (s2 : Int) (h : zH) (Q : Int → zH → Prop) (k44 : Int → zH → Prop) : Prop :=
(0 ≤ s2 ∧ s2 < 1364) ∧
∀ h23 : zH, h23 = zw h (e + 3) s2 (w32 (s1 + s0)) →
∀ x5_24 : Int, x5_24 = w32 (y5 + 1) →
k44 x5_24 h23
theorem W_E_lay_J168 (e : Int) (he : zE e) (y1 : Int) (y2 : Int) (y4 : Int) (y5 : Int) (s0 : Int) (s1 : Int) (s2 : Int) (h : zH) (Q : Int → zH → Prop) (k44 : Int → zH → Prop) (H44 : ∀ (v5 : Int) (h' : zH), k44 v5 h' → zV true zy_X1_lay 3 44 [zR e, zI y1, zR y2, zU, zI y4, zI v5, zU] [] h' (zQ0 Q)) (hP : P_E_lay_J168 e y1 y2 y4 y5 s0 s1 s2 h Q k44) : zV true zy_X1_lay 3 168 [zR e, zI y1, zR y2, zU, zI y4, zI y5, zU] [zI s0, zI s1, zI s2, zR (e + 3)] h (zQ0 Q) := by
  unfold P_E_lay_J168 at hP
  refine zV_iadd dX1_lay_168 ?_
  obtain ⟨ob, hP⟩ := hP
  refine zV_ias dX1_lay_169 (sae_3 he) ob (fun h23 e_h23 => ?_)
  have hP := hP h23 e_h23
  refine zV_inc (ls' := fun z => [zR e, zI y1, zR y2, zU, zI y4, zI z, zU]) dX1_lay_170 (Nat.le_of_ble_eq_true rfl) rfl rfl (fun _ => rfl) (fun x5_24 e_x5_24 => ?_)
  have hP := hP x5_24 e_x5_24
  refine zV_goto (tgt := 44) dX1_lay_173 (by decide) ?_
  exact H44 _ _ hP
def P_E_lay_J144 (e : Int) (y1 : Int) (y2 : Int) (y4 : Int) (y5 : Int) (y6 : Int) (s0 : Int) (s1 : Int) (s2 : Int) (h : zH) (Q : Int → zH → Prop) (k44 : Int → zH → Prop) : Prop :=
(0 ≤ s2 ∧ s2 < 1364) ∧
∀ h20 : zH, h20 = zw h (e + 4) s2 (w32 (s1 + s0)) →
(0 ≤ y1 ∧ y1 < 1364) ∧
P_E_isTrue e (w32 (-y6)) h20 (fun r21 h22 =>
P_E_lay_J168 e y1 y2 y4 y5 (if r21 = 0 then 0 else 1) (zd h20 (e + 3) y1) y1 h22 Q k44)
theorem W_E_lay_J144 (e : Int) (he : zE e) (y1 : Int) (y2 : Int) (y4 : Int) (y5 : Int) (y6 : Int) (s0 : Int) (s1 : Int) (s2 : Int) (h : zH) (Q : Int → zH → Prop) (k44 : Int → zH → Prop) (H44 : ∀ (v5 : Int) (h' : zH), k44 v5 h' → zV true zy_X1_lay 3 44 [zR e, zI y1, zR y2, zU, zI y4, zI v5, zU] [] h' (zQ0 Q)) (hP : P_E_lay_J144 e y1 y2 y4 y5 y6 s0 s1 s2 h Q k44) : zV true zy_X1_lay 3 144 [zR e, zI y1, zR y2, zU, zI y4, zI y5, zI y6] [zI s0, zI s1, zI s2, zR (e + 4)] h (zQ0 Q) := by
  unfold P_E_lay_J144 at hP
  refine zV_iadd dX1_lay_144 ?_
  obtain ⟨ob, hP⟩ := hP
  refine zV_ias dX1_lay_145 (sae_4 he) ob (fun h20 e_h20 => ?_)
  have hP := hP h20 e_h20
  refine zV_aload_n dX1_lay_146 rfl ?_
  refine zV_sg dX1_lay_147 (fme_2 he) (sae_0 he) (by decide) fl_X1_22_1 rfl ?_
  refine zV_iload_n dX1_lay_150 rfl ?_
  refine zV_dup2 dX1_lay_151 (Nat.ne_of_beq_eq_false rfl) (Nat.ne_of_beq_eq_false rfl) ?_
  obtain ⟨ob, hP⟩ := hP
  refine zV_ia dX1_lay_152 (sae_3 he) ob ?_
  refine zV_aload_n dX1_lay_153 rfl ?_
  refine zV_iload dX1_lay_154 rfl ?_
  refine zV_ineg dX1_lay_156 ?_
  refine zV_cVk (As := [zI (w32 (-y6))]) (rest := [zI (zd h20 (e + 3) y1), zI y1, zR (e + 3)]) dX1_lay_157 (sae_0 he) (W_E_isTrue e he _ _ _ hP) mi_X1_isTrue ml_X1_198 (by decide) (Nat.le_of_ble_eq_true rfl) rfl rfl rfl (fun r21 h22 hP => ?_)
  have K : zV true zy_X1_lay 3 168 [zR e, zI y1, zR y2, zU, zI y4, zI y5, zU] [zI (if r21 = 0 then 0 else 1), zI (zd h20 (e + 3) y1), zI y1, zR (e + 3)] h22 (zQ0 Q) := by
    exact W_E_lay_J168 e he _ _ _ _ _ _ _ _ _ _ H44 hP
  clear hP
  refine zV_if_eq (tgt := 167) dX1_lay_160 (by decide) (fun c => ?_) (fun c => ?_)
  · try simp only [if_pos c] at K
    refine zV_iconst dX1_lay_167 ⟨by decide, by decide⟩ ?_
    refine zV_mask [true, true, true, false, true, true, false] rfl ?_
    exact K
  · try simp only [if_neg c] at K
    refine zV_iconst dX1_lay_163 ⟨by decide, by decide⟩ ?_
    refine zV_goto (tgt := 168) dX1_lay_164 (by decide) ?_
    refine zV_mask [true, true, true, false, true, true, false] rfl ?_
    exact K
def P_E_lay_L44 (e : Int) (y1 : Int) (y2 : Int) (y4 : Int) (Q : Int → zH → Prop) : Nat → Int → zH → Prop
| 0, _, _ => False
| n44 + 1, y5, h =>
if y4 ≤ y5 then
(P_E_look e y1 h (fun r6 h7 =>
Q 0 h7))
else
((zt h y2 = 50 ∧ 0 ≤ y5 ∧ y5 < zl h y2) ∧
∀ x6_8 : Int, x6_8 = (zd h y2 y5) →
(0 ≤ zd h e 10 ∧ zd h e 10 < 12080) ∧
∀ h9 : zH, h9 = zw h (e + 7) (zd h e 10) x6_8 →
(0 ≤ zd h9 e 10 ∧ zd h9 e 10 < 12080) ∧
∀ h10 : zH, h10 = zw h9 (e + 8) (zd h9 e 10) y1 →
P_E_index e x6_8 h10 (fun r11 h12 =>
(0 ≤ r11 ∧ r11 < 602) ∧
(0 ≤ zd h10 e 10 ∧ zd h10 e 10 < 12080) ∧
∀ h13 : zH, h13 = zw h12 (e + 9) (zd h10 e 10) (zd h12 (e + 10) r11) →
P_E_index e x6_8 h13 (fun r14 h15 =>
(0 ≤ r14 ∧ r14 < 602) ∧
∀ h16 : zH, h16 = zw h15 (e + 10) r14 (zd h15 e 10) →
∀ h17 : zH, h17 = zw h16 e 10 (w32 ((zd h16 e 10) + 1)) →
(0 ≤ y1 ∧ y1 < 1364) ∧
P_E_isTrue e x6_8 h17 (fun r18 h19 =>
P_E_lay_J144 e y1 y2 y4 y5 x6_8 (if r18 = 0 then 0 else 1) (zd h17 (e + 4) y1) y1 h19 Q (P_E_lay_L44 e y1 y2 y4 Q n44)))))
theorem W_E_lay_L44 (e : Int) (he : zE e) (y1 : Int) (y2 : Int) (y4 : Int) (Q : Int → zH → Prop) : ∀ (n44 : Nat) (y5 : Int) (h : zH), P_E_lay_L44 e y1 y2 y4 Q n44 y5 h → zV true zy_X1_lay 3 44 [zR e, zI y1, zR y2, zU, zI y4, zI y5, zU] [] h (zQ0 Q) := by
  intro n44
  induction n44 with
  | zero => intro y5 h hP; exact absurd hP id
  | succ n44 ih =>
    intro y5 h hP
    unfold P_E_lay_L44 at hP
    refine zV_iload dX1_lay_44 rfl ?_
    refine zV_iload dX1_lay_46 rfl ?_
    refine zV_icmp_ge (tgt := 176) dX1_lay_48 (by decide) (fun c => ?_) (fun c => ?_)
    · have hP := zif_p hP c
      refine zV_aload_n dX1_lay_176 rfl ?_
      refine zV_iload_n dX1_lay_177 rfl ?_
      refine zV_cVv (As := [zI y1]) (rest := []) dX1_lay_178 (sae_0 he) (W_E_look e he _ _ _ hP) mi_X1_look ml_X1_202 (by decide) (Nat.le_of_ble_eq_true rfl) rfl rfl (fun r6 h7 hP => ?_)
      exact zV_return dX1_lay_181 rfl ⟨rfl, hP⟩
    · have hP := zif_n hP c
      refine zV_aload_n dX1_lay_51 rfl ?_
      refine zV_iload dX1_lay_52 rfl ?_
      obtain ⟨ob, hP⟩ := hP
      refine zV_iaD dX1_lay_54 ob ?_
      refine zV_top (fun x6_8 e_x6_8 => ?_)
      have hP := hP x6_8 e_x6_8
      refine zV_istore (ls' := [zR e, zI y1, zR y2, zU, zI y4, zI y5, zI x6_8]) dX1_lay_55 (Nat.le_of_ble_eq_true rfl) rfl rfl ?_
      refine zV_aload_n dX1_lay_57 rfl ?_
      refine zV_sg dX1_lay_58 (fme_6 he) (sae_0 he) (by decide) fl_X1_36_1 rfl ?_
      refine zV_aload_n dX1_lay_61 rfl ?_
      refine zV_gf dX1_lay_62 (sae_0 he) (by decide) fl_X1_124_1 rfl (ki := 10) rfl ?_
      refine zV_iload dX1_lay_65 rfl ?_
      obtain ⟨ob, hP⟩ := hP
      refine zV_ias dX1_lay_67 (sae_7 he) ob (fun h9 e_h9 => ?_)
      have hP := hP h9 e_h9
      refine zV_aload_n dX1_lay_68 rfl ?_
      refine zV_sg dX1_lay_69 (fme_7 he) (sae_0 he) (by decide) fl_X1_39_1 rfl ?_
      refine zV_aload_n dX1_lay_72 rfl ?_
      refine zV_gf dX1_lay_73 (sae_0 he) (by decide) fl_X1_124_1 rfl (ki := 10) rfl ?_
      refine zV_iload_n dX1_lay_76 rfl ?_
      obtain ⟨ob, hP⟩ := hP
      refine zV_ias dX1_lay_77 (sae_8 he) ob (fun h10 e_h10 => ?_)
      have hP := hP h10 e_h10
      refine zV_aload_n dX1_lay_78 rfl ?_
      refine zV_sg dX1_lay_79 (fme_8 he) (sae_0 he) (by decide) fl_X1_42_1 rfl ?_
      refine zV_aload_n dX1_lay_82 rfl ?_
      refine zV_gf dX1_lay_83 (sae_0 he) (by decide) fl_X1_124_1 rfl (ki := 10) rfl ?_
      refine zV_aload_n dX1_lay_86 rfl ?_
      refine zV_sg dX1_lay_87 (fme_9 he) (sae_0 he) (by decide) fl_X1_45_1 rfl ?_
      refine zV_aload_n dX1_lay_90 rfl ?_
      refine zV_iload dX1_lay_91 rfl ?_
      refine zV_cVk (As := [zI x6_8]) (rest := [zR (e + 10), zI (zd h10 e 10), zR (e + 9)]) dX1_lay_93 (sae_0 he) (W_E_index e he _ _ _ hP) mi_X1_index ml_X1_194 (by decide) (Nat.le_of_ble_eq_true rfl) rfl rfl rfl (fun r11 h12 hP => ?_)
      obtain ⟨ob, hP⟩ := hP
      refine zV_ia dX1_lay_96 (sae_10 he) ob ?_
      obtain ⟨ob, hP⟩ := hP
      refine zV_ias dX1_lay_97 (sae_9 he) ob (fun h13 e_h13 => ?_)
      have hP := hP h13 e_h13
      refine zV_aload_n dX1_lay_98 rfl ?_
      refine zV_sg dX1_lay_99 (fme_9 he) (sae_0 he) (by decide) fl_X1_45_1 rfl ?_
      refine zV_aload_n dX1_lay_102 rfl ?_
      refine zV_iload dX1_lay_103 rfl ?_
      refine zV_cVk (As := [zI x6_8]) (rest := [zR (e + 10)]) dX1_lay_105 (sae_0 he) (W_E_index e he _ _ _ hP) mi_X1_index ml_X1_194 (by decide) (Nat.le_of_ble_eq_true rfl) rfl rfl rfl (fun r14 h15 hP => ?_)
      refine zV_aload_n dX1_lay_108 rfl ?_
      refine zV_gf dX1_lay_109 (sae_0 he) (by decide) fl_X1_124_1 rfl (ki := 10) rfl ?_
      obtain ⟨ob, hP⟩ := hP
      refine zV_ias dX1_lay_112 (sae_10 he) ob (fun h16 e_h16 => ?_)
      have hP := hP h16 e_h16
      refine zV_aload_n dX1_lay_113 rfl ?_
      refine zV_dup dX1_lay_114 (Nat.ne_of_beq_eq_false rfl) ?_
      refine zV_gf dX1_lay_115 (sae_0 he) (by decide) fl_X1_124_1 rfl (ki := 10) rfl ?_
      refine zV_iconst dX1_lay_118 ⟨by decide, by decide⟩ ?_
      refine zV_iadd dX1_lay_119 ?_
      refine zV_pf dX1_lay_120 (sae_0 he) (by decide) fl_X1_124_1 rfl rfl trivial (ki := 10) rfl (fun h17 e_h17 => ?_)
      have hP := hP h17 e_h17
      refine zV_aload_n dX1_lay_123 rfl ?_
      refine zV_sg dX1_lay_124 (fme_3 he) (sae_0 he) (by decide) fl_X1_25_1 rfl ?_
      refine zV_iload_n dX1_lay_127 rfl ?_
      refine zV_dup2 dX1_lay_128 (Nat.ne_of_beq_eq_false rfl) (Nat.ne_of_beq_eq_false rfl) ?_
      obtain ⟨ob, hP⟩ := hP
      refine zV_ia dX1_lay_129 (sae_4 he) ob ?_
      refine zV_aload_n dX1_lay_130 rfl ?_
      refine zV_iload dX1_lay_131 rfl ?_
      refine zV_cVk (As := [zI x6_8]) (rest := [zI (zd h17 (e + 4) y1), zI y1, zR (e + 4)]) dX1_lay_133 (sae_0 he) (W_E_isTrue e he _ _ _ hP) mi_X1_isTrue ml_X1_198 (by decide) (Nat.le_of_ble_eq_true rfl) rfl rfl rfl (fun r18 h19 hP => ?_)
      have K : zV true zy_X1_lay 3 144 [zR e, zI y1, zR y2, zU, zI y4, zI y5, zI x6_8] [zI (if r18 = 0 then 0 else 1), zI (zd h17 (e + 4) y1), zI y1, zR (e + 4)] h19 (zQ0 Q) := by
        exact W_E_lay_J144 e he _ _ _ _ _ _ _ _ _ _ _ ih hP
      clear hP
      refine zV_if_eq (tgt := 143) dX1_lay_136 (by decide) (fun c => ?_) (fun c => ?_)
      · try simp only [if_pos c] at K
        refine zV_iconst dX1_lay_143 ⟨by decide, by decide⟩ ?_
        refine zV_mask [true, true, true, false, true, true, true] rfl ?_
        exact K
      · try simp only [if_neg c] at K
        refine zV_iconst dX1_lay_139 ⟨by decide, by decide⟩ ?_
        refine zV_goto (tgt := 144) dX1_lay_140 (by decide) ?_
        refine zV_mask [true, true, true, false, true, true, true] rfl ?_
        exact K
def P_E_lay (e : Int) (a1 : Int) (a2 : Int) (a3 : Int) (a4 : Int) (h : zH) (Q : Int → zH → Prop) : Prop :=
(0 ≤ a1 ∧ a1 < 1364) ∧
∀ h1 : zH, h1 = zw h (e + 1) a1 (zd h e 10) →
(0 ≤ a1 ∧ a1 < 1364) ∧
∀ h2 : zH, h2 = zw h1 (e + 2) a1 (w32 (a4 - a3)) →
(0 ≤ a1 ∧ a1 < 1364) ∧
∀ h3 : zH, h3 = zw h2 (e + 3) a1 0 →
(0 ≤ a1 ∧ a1 < 1364) ∧
∀ h4 : zH, h4 = zw h3 (e + 4) a1 0 →
(0 ≤ a1 ∧ a1 < 1364) ∧
∀ h5 : zH, h5 = zw h4 (e + 5) a1 (zbit 1) →
∃ n44, P_E_lay_L44 e a1 a2 a4 Q n44 a3 h5
theorem W_E_lay (e : Int) (he : zE e) (a1 : Int) (a2 : Int) (a3 : Int) (a4 : Int) (h : zH) (Q : Int → zH → Prop) (hP : P_E_lay e a1 a2 a3 a4 h Q) : zC true zy_X1_lay 3 [zR e, zI a1, zR a2, zI a3, zI a4] h (zQ0 Q) := by
  unfold P_E_lay at hP
  refine zC.of (by decide) (Nat.le_of_ble_eq_true rfl) ?_
  show zV true zy_X1_lay 3 0 [zR e, zI a1, zR a2, zI a3, zI a4, zU, zU] [] h (zQ0 Q)
  refine zV_aload_n dX1_lay_0 rfl ?_
  refine zV_sg dX1_lay_1 (fme_0 he) (sae_0 he) (by decide) fl_X1_15_1 rfl ?_
  refine zV_iload_n dX1_lay_4 rfl ?_
  refine zV_aload_n dX1_lay_5 rfl ?_
  refine zV_gf dX1_lay_6 (sae_0 he) (by decide) fl_X1_124_1 rfl (ki := 10) rfl ?_
  obtain ⟨ob, hP⟩ := hP
  refine zV_ias dX1_lay_9 (sae_1 he) ob (fun h1 e_h1 => ?_)
  have hP := hP h1 e_h1
  refine zV_aload_n dX1_lay_10 rfl ?_
  refine zV_sg dX1_lay_11 (fme_1 he) (sae_0 he) (by decide) fl_X1_19_1 rfl ?_
  refine zV_iload_n dX1_lay_14 rfl ?_
  refine zV_iload dX1_lay_15 rfl ?_
  refine zV_iload_n dX1_lay_17 rfl ?_
  refine zV_isub dX1_lay_18 ?_
  obtain ⟨ob, hP⟩ := hP
  refine zV_ias dX1_lay_19 (sae_2 he) ob (fun h2 e_h2 => ?_)
  have hP := hP h2 e_h2
  refine zV_aload_n dX1_lay_20 rfl ?_
  refine zV_sg dX1_lay_21 (fme_2 he) (sae_0 he) (by decide) fl_X1_22_1 rfl ?_
  refine zV_iload_n dX1_lay_24 rfl ?_
  refine zV_iconst dX1_lay_25 ⟨by decide, by decide⟩ ?_
  obtain ⟨ob, hP⟩ := hP
  refine zV_ias dX1_lay_26 (sae_3 he) ob (fun h3 e_h3 => ?_)
  have hP := hP h3 e_h3
  refine zV_aload_n dX1_lay_27 rfl ?_
  refine zV_sg dX1_lay_28 (fme_3 he) (sae_0 he) (by decide) fl_X1_25_1 rfl ?_
  refine zV_iload_n dX1_lay_31 rfl ?_
  refine zV_iconst dX1_lay_32 ⟨by decide, by decide⟩ ?_
  obtain ⟨ob, hP⟩ := hP
  refine zV_ias dX1_lay_33 (sae_4 he) ob (fun h4 e_h4 => ?_)
  have hP := hP h4 e_h4
  refine zV_aload_n dX1_lay_34 rfl ?_
  refine zV_sg dX1_lay_35 (fme_4 he) (sae_0 he) (by decide) fl_X1_28_1 rfl ?_
  refine zV_iload_n dX1_lay_38 rfl ?_
  refine zV_iconst dX1_lay_39 ⟨by decide, by decide⟩ ?_
  obtain ⟨ob, hP⟩ := hP
  refine zV_zas dX1_lay_40 (sae_5 he) ob (fun h5 e_h5 => ?_)
  have hP := hP h5 e_h5
  refine zV_iload_n dX1_lay_41 rfl ?_
  refine zV_istore (ls' := [zR e, zI a1, zR a2, zI a3, zI a4, zI a3, zU]) dX1_lay_42 (Nat.le_of_ble_eq_true rfl) rfl rfl ?_
  obtain ⟨n44, hP⟩ := hP
  refine zV_mask [true, true, true, false, true, true, true] (ls' := [zR e, zI a1, zR a2, zU, zI a4, zI a3, zU]) rfl ?_
  refine W_E_lay_L44 e he _ _ _ _ n44 _ _ hP
def P_E_layCase_J55 (e : Int) (y1 : Int) (y2 : Int) (h : zH) (Q : Int → zH → Prop) (k2 : Int → zH → Prop) : Prop :=
∀ x2_3 : Int, x2_3 = w32 (y2 + 1) →
k2 x2_3 h
theorem W_E_layCase_J55 (e : Int) (he : zE e) (y1 : Int) (y2 : Int) (h : zH) (Q : Int → zH → Prop) (k2 : Int → zH → Prop) (H2 : ∀ (v2 : Int) (h' : zH), k2 v2 h' → zV true zy_X1_layCase 4 2 [zR e, zR y1, zI v2] [] h' (zQ0 Q)) (hP : P_E_layCase_J55 e y1 y2 h Q k2) : zV true zy_X1_layCase 4 55 [zR e, zR y1, zI y2] [] h (zQ0 Q) := by
  unfold P_E_layCase_J55 at hP
  refine zV_inc (ls' := fun z => [zR e, zR y1, zI z]) dX1_layCase_55 (Nat.le_of_ble_eq_true rfl) rfl rfl (fun _ => rfl) (fun x2_3 e_x2_3 => ?_)
  have hP := hP x2_3 e_x2_3
  refine zV_goto (tgt := 2) dX1_layCase_58 (by decide) ?_
  exact H2 _ _ hP
def P_E_layCase_J23 (e : Int) (y1 : Int) (y2 : Int) (h : zH) (Q : Int → zH → Prop) (k2 : Int → zH → Prop) : Prop :=
(0 ≤ y2 ∧ y2 < 501) ∧
(0 ≤ w32 (y2 + 1) ∧ w32 (y2 + 1) < 501) ∧
P_E_lay e y2 22 (zd h 23 y2) (zd h 23 (w32 (y2 + 1))) h (fun r1 h2 =>
P_E_layCase_J55 e y1 y2 h2 Q k2)
theorem W_E_layCase_J23 (e : Int) (he : zE e) (y1 : Int) (y2 : Int) (h : zH) (Q : Int → zH → Prop) (k2 : Int → zH → Prop) (H2 : ∀ (v2 : Int) (h' : zH), k2 v2 h' → zV true zy_X1_layCase 4 2 [zR e, zR y1, zI v2] [] h' (zQ0 Q)) (hP : P_E_layCase_J23 e y1 y2 h Q k2) : zV true zy_X1_layCase 4 23 [zR e, zR y1, zI y2] [] h (zQ0 Q) := by
  unfold P_E_layCase_J23 at hP
  refine zV_aload_n dX1_layCase_23 rfl ?_
  refine zV_iload_n dX1_layCase_24 rfl ?_
  refine zV_aload_n dX1_layCase_25 rfl ?_
  refine zV_sg dX1_layCase_26 (fme_57 he) (sae_0 he) (by decide) fl_X1_3_1 rfl ?_
  refine zV_sg dX1_layCase_29 fm_14_16 sa_14 (by decide) fl_X1_209_0 rfl ?_
  refine zV_aload_n dX1_layCase_32 rfl ?_
  refine zV_sg dX1_layCase_33 (fme_57 he) (sae_0 he) (by decide) fl_X1_3_1 rfl ?_
  refine zV_sg dX1_layCase_36 fm_14_17 sa_14 (by decide) fl_X1_212_0 rfl ?_
  refine zV_iload_n dX1_layCase_39 rfl ?_
  obtain ⟨ob, hP⟩ := hP
  refine zV_ia dX1_layCase_40 sa_23 ob ?_
  refine zV_aload_n dX1_layCase_41 rfl ?_
  refine zV_sg dX1_layCase_42 (fme_57 he) (sae_0 he) (by decide) fl_X1_3_1 rfl ?_
  refine zV_sg dX1_layCase_45 fm_14_17 sa_14 (by decide) fl_X1_212_0 rfl ?_
  refine zV_iload_n dX1_layCase_48 rfl ?_
  refine zV_iconst dX1_layCase_49 ⟨by decide, by decide⟩ ?_
  refine zV_iadd dX1_layCase_50 ?_
  obtain ⟨ob, hP⟩ := hP
  refine zV_ia dX1_layCase_51 sa_23 ob ?_
  refine zV_cVv (As := [zI y2, zR 22, zI (zd h 23 y2), zI (zd h 23 (w32 (y2 + 1)))]) (rest := []) dX1_layCase_52 (sae_0 he) (W_E_lay e he _ _ _ _ _ _ hP) mi_X1_lay ml_X1_215 (by decide) (Nat.le_of_ble_eq_true rfl) rfl rfl (fun r1 h2 hP => ?_)
  exact W_E_layCase_J55 e he _ _ _ _ _ H2 hP
def P_E_layCase_L2 (e : Int) (y1 : Int) (Q : Int → zH → Prop) : Nat → Int → zH → Prop
| 0, _, _ => False
| n2 + 1, y2, h =>
if zd h 14 18 ≤ y2 then
(Q 0 h)
else
(if y1 = 0 then
(P_E_layCase_J23 e y1 y2 h Q (P_E_layCase_L2 e y1 Q n2))
else
((zt h y1 = 52 ∧ 0 ≤ y2 ∧ y2 < zl h y1) ∧
if zd h y1 y2 = 0 then
(P_E_layCase_J23 e y1 y2 h Q (P_E_layCase_L2 e y1 Q n2))
else
(P_E_layCase_J55 e y1 y2 h Q (P_E_layCase_L2 e y1 Q n2))))
theorem W_E_layCase_L2 (e : Int) (he : zE e) (y1 : Int) (Q : Int → zH → Prop) : ∀ (n2 : Nat) (y2 : Int) (h : zH), P_E_layCase_L2 e y1 Q n2 y2 h → zV true zy_X1_layCase 4 2 [zR e, zR y1, zI y2] [] h (zQ0 Q) := by
  intro n2
  induction n2 with
  | zero => intro y2 h hP; exact absurd hP id
  | succ n2 ih =>
    intro y2 h hP
    unfold P_E_layCase_L2 at hP
    refine zV_iload_n dX1_layCase_2 rfl ?_
    refine zV_aload_n dX1_layCase_3 rfl ?_
    refine zV_sg dX1_layCase_4 (fme_57 he) (sae_0 he) (by decide) fl_X1_3_1 rfl ?_
    refine zV_gf dX1_layCase_7 sa_14 (by decide) fl_X1_206_0 rfl (ki := 18) rfl ?_
    refine zV_icmp_ge (tgt := 61) dX1_layCase_10 (by decide) (fun c => ?_) (fun c => ?_)
    · have hP := zif_p hP c
      exact zV_return dX1_layCase_61 rfl ⟨rfl, hP⟩
    · have hP := zif_n hP c
      refine zV_aload_n dX1_layCase_13 rfl ?_
      refine zV_ifnull (tgt := 23) dX1_layCase_14 (by decide) (fun c => ?_) (fun c => ?_)
      · have hP := zif_p hP c
        exact W_E_layCase_J23 e he _ _ _ _ _ ih hP
      · have hP := zif_n hP c
        refine zV_aload_n dX1_layCase_17 rfl ?_
        refine zV_iload_n dX1_layCase_18 rfl ?_
        obtain ⟨ob, hP⟩ := hP
        refine zV_zaD dX1_layCase_19 ⟨Or.inr ob.1, ob.2⟩ ?_
        refine zV_if_ne (tgt := 55) dX1_layCase_20 (by decide) (fun c => ?_) (fun c => ?_)
        · have hP := zif_n hP c
          exact W_E_layCase_J55 e he _ _ _ _ _ ih hP
        · have hP := zif_p hP c
          exact W_E_layCase_J23 e he _ _ _ _ _ ih hP
def P_E_layCase (e : Int) (a1 : Int) (h : zH) (Q : Int → zH → Prop) : Prop :=
∃ n2, P_E_layCase_L2 e a1 Q n2 0 h
theorem W_E_layCase (e : Int) (he : zE e) (a1 : Int) (h : zH) (Q : Int → zH → Prop) (hP : P_E_layCase e a1 h Q) : zC true zy_X1_layCase 4 [zR e, zR a1] h (zQ0 Q) := by
  unfold P_E_layCase at hP
  refine zC.of (by decide) (Nat.le_of_ble_eq_true rfl) ?_
  show zV true zy_X1_layCase 4 0 [zR e, zR a1, zU] [] h (zQ0 Q)
  refine zV_iconst dX1_layCase_0 ⟨by decide, by decide⟩ ?_
  refine zV_istore_n (ls' := [zR e, zR a1, zI 0]) dX1_layCase_1 rfl (Nat.le_of_ble_eq_true rfl) rfl rfl ?_
  obtain ⟨n2, hP⟩ := hP
  refine W_E_layCase_L2 e he _ _ n2 _ _ hP
def P_JI_numberOfTrailingZeros_J62 (y0 : Int) (y1 : Int) (h : zH) (Q : Int → zH → Prop) : Prop :=
if y0 ≤ 4 then
(Q (w32 (y1 + (zushr y0 1))) h)
else
(∀ x1_2 : Int, x1_2 = w32 (y1 + 2) →
∀ x0_3 : Int, x0_3 = (zushr y0 2) →
Q (w32 (x1_2 + (zushr x0_3 1))) h)
theorem W_JI_numberOfTrailingZeros_J62 (y0 : Int) (y1 : Int) (h : zH) (Q : Int → zH → Prop) (hP : P_JI_numberOfTrailingZeros_J62 y0 y1 h Q) : zV true zy_J14_numberOfTrailingZeros 1 62 [zI y0, zI y1] [] h (zQ0 Q) := by
  unfold P_JI_numberOfTrailingZeros_J62 at hP
  refine zV_iload_n dJ14_numberOfTrailingZeros_62 rfl ?_
  refine zV_iconst dJ14_numberOfTrailingZeros_63 ⟨by decide, by decide⟩ ?_
  refine zV_icmp_le (tgt := 74) dJ14_numberOfTrailingZeros_64 (by decide) (fun c => ?_) (fun c => ?_)
  · have hP := zif_p hP c
    refine zV_iload_n dJ14_numberOfTrailingZeros_74 rfl ?_
    refine zV_iload_n dJ14_numberOfTrailingZeros_75 rfl ?_
    refine zV_iconst dJ14_numberOfTrailingZeros_76 ⟨by decide, by decide⟩ ?_
    refine zV_iushr dJ14_numberOfTrailingZeros_77 ?_
    refine zV_iadd dJ14_numberOfTrailingZeros_78 ?_
    exact zV_ireturn dJ14_numberOfTrailingZeros_79 rfl rfl rfl ⟨rfl, hP⟩
  · have hP := zif_n hP c
    refine zV_inc (ls' := fun z => [zI y0, zI z]) dJ14_numberOfTrailingZeros_67 (Nat.le_of_ble_eq_true rfl) rfl rfl (fun _ => rfl) (fun x1_2 e_x1_2 => ?_)
    have hP := hP x1_2 e_x1_2
    refine zV_iload_n dJ14_numberOfTrailingZeros_70 rfl ?_
    refine zV_iconst dJ14_numberOfTrailingZeros_71 ⟨by decide, by decide⟩ ?_
    refine zV_iushr dJ14_numberOfTrailingZeros_72 ?_
    refine zV_top (fun x0_3 e_x0_3 => ?_)
    have hP := hP x0_3 e_x0_3
    refine zV_istore_n (ls' := [zI x0_3, zI x1_2]) dJ14_numberOfTrailingZeros_73 rfl (Nat.le_of_ble_eq_true rfl) rfl rfl ?_
    refine zV_iload_n dJ14_numberOfTrailingZeros_74 rfl ?_
    refine zV_iload_n dJ14_numberOfTrailingZeros_75 rfl ?_
    refine zV_iconst dJ14_numberOfTrailingZeros_76 ⟨by decide, by decide⟩ ?_
    refine zV_iushr dJ14_numberOfTrailingZeros_77 ?_
    refine zV_iadd dJ14_numberOfTrailingZeros_78 ?_
    exact zV_ireturn dJ14_numberOfTrailingZeros_79 rfl rfl rfl ⟨rfl, hP⟩
def P_JI_numberOfTrailingZeros_J49 (y0 : Int) (y1 : Int) (h : zH) (Q : Int → zH → Prop) : Prop :=
if y0 ≤ 16 then
(P_JI_numberOfTrailingZeros_J62 y0 y1 h Q)
else
(∀ x1_4 : Int, x1_4 = w32 (y1 + 4) →
∀ x0_5 : Int, x0_5 = (zushr y0 4) →
P_JI_numberOfTrailingZeros_J62 x0_5 x1_4 h Q)
theorem W_JI_numberOfTrailingZeros_J49 (y0 : Int) (y1 : Int) (h : zH) (Q : Int → zH → Prop) (hP : P_JI_numberOfTrailingZeros_J49 y0 y1 h Q) : zV true zy_J14_numberOfTrailingZeros 1 49 [zI y0, zI y1] [] h (zQ0 Q) := by
  unfold P_JI_numberOfTrailingZeros_J49 at hP
  refine zV_iload_n dJ14_numberOfTrailingZeros_49 rfl ?_
  refine zV_bipush dJ14_numberOfTrailingZeros_50 ⟨by decide, by decide, by decide⟩ ?_
  refine zV_icmp_le (tgt := 62) dJ14_numberOfTrailingZeros_52 (by decide) (fun c => ?_) (fun c => ?_)
  · have hP := zif_p hP c
    exact W_JI_numberOfTrailingZeros_J62 _ _ _ _ hP
  · have hP := zif_n hP c
    refine zV_inc (ls' := fun z => [zI y0, zI z]) dJ14_numberOfTrailingZeros_55 (Nat.le_of_ble_eq_true rfl) rfl rfl (fun _ => rfl) (fun x1_4 e_x1_4 => ?_)
    have hP := hP x1_4 e_x1_4
    refine zV_iload_n dJ14_numberOfTrailingZeros_58 rfl ?_
    refine zV_iconst dJ14_numberOfTrailingZeros_59 ⟨by decide, by decide⟩ ?_
    refine zV_iushr dJ14_numberOfTrailingZeros_60 ?_
    refine zV_top (fun x0_5 e_x0_5 => ?_)
    have hP := hP x0_5 e_x0_5
    refine zV_istore_n (ls' := [zI x0_5, zI x1_4]) dJ14_numberOfTrailingZeros_61 rfl (Nat.le_of_ble_eq_true rfl) rfl rfl ?_
    exact W_JI_numberOfTrailingZeros_J62 _ _ _ _ hP
def P_JI_numberOfTrailingZeros_J34 (y0 : Int) (y1 : Int) (h : zH) (Q : Int → zH → Prop) : Prop :=
if y0 ≤ 256 then
(P_JI_numberOfTrailingZeros_J49 y0 y1 h Q)
else
(∀ x1_6 : Int, x1_6 = w32 (y1 + 8) →
∀ x0_7 : Int, x0_7 = (zushr y0 8) →
P_JI_numberOfTrailingZeros_J49 x0_7 x1_6 h Q)
theorem W_JI_numberOfTrailingZeros_J34 (y0 : Int) (y1 : Int) (h : zH) (Q : Int → zH → Prop) (hP : P_JI_numberOfTrailingZeros_J34 y0 y1 h Q) : zV true zy_J14_numberOfTrailingZeros 1 34 [zI y0, zI y1] [] h (zQ0 Q) := by
  unfold P_JI_numberOfTrailingZeros_J34 at hP
  refine zV_iload_n dJ14_numberOfTrailingZeros_34 rfl ?_
  refine zV_sipush dJ14_numberOfTrailingZeros_35 ⟨by decide, by decide, by decide⟩ ?_
  refine zV_icmp_le (tgt := 49) dJ14_numberOfTrailingZeros_38 (by decide) (fun c => ?_) (fun c => ?_)
  · have hP := zif_p hP c
    exact W_JI_numberOfTrailingZeros_J49 _ _ _ _ hP
  · have hP := zif_n hP c
    refine zV_inc (ls' := fun z => [zI y0, zI z]) dJ14_numberOfTrailingZeros_41 (Nat.le_of_ble_eq_true rfl) rfl rfl (fun _ => rfl) (fun x1_6 e_x1_6 => ?_)
    have hP := hP x1_6 e_x1_6
    refine zV_iload_n dJ14_numberOfTrailingZeros_44 rfl ?_
    refine zV_bipush dJ14_numberOfTrailingZeros_45 ⟨by decide, by decide, by decide⟩ ?_
    refine zV_iushr dJ14_numberOfTrailingZeros_47 ?_
    refine zV_top (fun x0_7 e_x0_7 => ?_)
    have hP := hP x0_7 e_x0_7
    refine zV_istore_n (ls' := [zI x0_7, zI x1_6]) dJ14_numberOfTrailingZeros_48 rfl (Nat.le_of_ble_eq_true rfl) rfl rfl ?_
    exact W_JI_numberOfTrailingZeros_J49 _ _ _ _ hP
def P_JI_numberOfTrailingZeros (a1 : Int) (h : zH) (Q : Int → zH → Prop) : Prop :=
∀ x0_1 : Int, x0_1 = (zand (zxor a1 (-1)) (w32 (a1 - 1))) →
if 0 < x0_1 then
(if x0_1 ≤ 65536 then
(P_JI_numberOfTrailingZeros_J34 x0_1 1 h Q)
else
(∀ x1_8 : Int, x1_8 = w32 (1 + 16) →
∀ x0_9 : Int, x0_9 = (zushr x0_1 16) →
P_JI_numberOfTrailingZeros_J34 x0_9 x1_8 h Q))
else
(Q (zand x0_1 32) h)
theorem W_JI_numberOfTrailingZeros (a1 : Int) (h : zH) (Q : Int → zH → Prop) (hP : P_JI_numberOfTrailingZeros a1 h Q) : zC true zy_J14_numberOfTrailingZeros 1 [zI a1] h (zQ0 Q) := by
  unfold P_JI_numberOfTrailingZeros at hP
  refine zC.of (by decide) (Nat.le_of_ble_eq_true rfl) ?_
  show zV true zy_J14_numberOfTrailingZeros 1 0 [zI a1, zU] [] h (zQ0 Q)
  refine zV_iload_n dJ14_numberOfTrailingZeros_0 rfl ?_
  refine zV_iconst dJ14_numberOfTrailingZeros_1 ⟨by decide, by decide⟩ ?_
  refine zV_ixor dJ14_numberOfTrailingZeros_2 ?_
  refine zV_iload_n dJ14_numberOfTrailingZeros_3 rfl ?_
  refine zV_iconst dJ14_numberOfTrailingZeros_4 ⟨by decide, by decide⟩ ?_
  refine zV_isub dJ14_numberOfTrailingZeros_5 ?_
  refine zV_iand dJ14_numberOfTrailingZeros_6 ?_
  refine zV_top (fun x0_1 e_x0_1 => ?_)
  have hP := hP x0_1 e_x0_1
  refine zV_istore_n (ls' := [zI x0_1, zU]) dJ14_numberOfTrailingZeros_7 rfl (Nat.le_of_ble_eq_true rfl) rfl rfl ?_
  refine zV_iload_n dJ14_numberOfTrailingZeros_8 rfl ?_
  refine zV_if_gt (tgt := 17) dJ14_numberOfTrailingZeros_9 (by decide) (fun c => ?_) (fun c => ?_)
  · have hP := zif_p hP c
    refine zV_iconst dJ14_numberOfTrailingZeros_17 ⟨by decide, by decide⟩ ?_
    refine zV_istore_n (ls' := [zI x0_1, zI 1]) dJ14_numberOfTrailingZeros_18 rfl (Nat.le_of_ble_eq_true rfl) rfl rfl ?_
    refine zV_iload_n dJ14_numberOfTrailingZeros_19 rfl ?_
    refine zV_ldcwc (x := 65536) dJ14_numberOfTrailingZeros_20 (by decide) q1574 ⟨by decide, by decide⟩ ?_
    refine zV_icmp_le (tgt := 34) dJ14_numberOfTrailingZeros_23 (by decide) (fun c => ?_) (fun c => ?_)
    · have hP := zif_p hP c
      exact W_JI_numberOfTrailingZeros_J34 _ _ _ _ hP
    · have hP := zif_n hP c
      refine zV_inc (ls' := fun z => [zI x0_1, zI z]) dJ14_numberOfTrailingZeros_26 (Nat.le_of_ble_eq_true rfl) rfl rfl (fun _ => rfl) (fun x1_8 e_x1_8 => ?_)
      have hP := hP x1_8 e_x1_8
      refine zV_iload_n dJ14_numberOfTrailingZeros_29 rfl ?_
      refine zV_bipush dJ14_numberOfTrailingZeros_30 ⟨by decide, by decide, by decide⟩ ?_
      refine zV_iushr dJ14_numberOfTrailingZeros_32 ?_
      refine zV_top (fun x0_9 e_x0_9 => ?_)
      have hP := hP x0_9 e_x0_9
      refine zV_istore_n (ls' := [zI x0_9, zI x1_8]) dJ14_numberOfTrailingZeros_33 rfl (Nat.le_of_ble_eq_true rfl) rfl rfl ?_
      exact W_JI_numberOfTrailingZeros_J34 _ _ _ _ hP
  · have hP := zif_n hP c
    refine zV_iload_n dJ14_numberOfTrailingZeros_12 rfl ?_
    refine zV_bipush dJ14_numberOfTrailingZeros_13 ⟨by decide, by decide, by decide⟩ ?_
    refine zV_iand dJ14_numberOfTrailingZeros_15 ?_
    exact zV_ireturn dJ14_numberOfTrailingZeros_16 rfl rfl rfl ⟨rfl, hP⟩
def P_JL_numberOfTrailingZeros (a1 : Int) (h : zH) (Q : Int → zH → Prop) : Prop :=
∀ x2_1 : Int, x2_1 = (w32 a1) →
if x2_1 = 0 then
(P_JI_numberOfTrailingZeros (w32 (zlushr a1 32)) h (fun r4 h5 =>
Q (w32 (32 + r4)) h5))
else
(P_JI_numberOfTrailingZeros x2_1 h (fun r2 h3 =>
Q r2 h3))
theorem W_JL_numberOfTrailingZeros (a1 : Int) (h : zH) (Q : Int → zH → Prop) (hP : P_JL_numberOfTrailingZeros a1 h Q) : zC true zy_J13_numberOfTrailingZeros 2 [zJ a1] h (zQ0 Q) := by
  unfold P_JL_numberOfTrailingZeros at hP
  refine zC.of (by decide) (Nat.le_of_ble_eq_true rfl) ?_
  show zV true zy_J13_numberOfTrailingZeros 2 0 [zJ a1, zU, zU] [] h (zQ0 Q)
  refine zV_lload_n dJ13_numberOfTrailingZeros_0 rfl ?_
  refine zV_l2i dJ13_numberOfTrailingZeros_1 ?_
  refine zV_top (fun x2_1 e_x2_1 => ?_)
  have hP := hP x2_1 e_x2_1
  refine zV_istore_n (ls' := [zJ a1, zU, zI x2_1]) dJ13_numberOfTrailingZeros_2 rfl (Nat.le_of_ble_eq_true rfl) rfl rfl ?_
  refine zV_iload_n dJ13_numberOfTrailingZeros_3 rfl ?_
  refine zV_if_ne (tgt := 21) dJ13_numberOfTrailingZeros_4 (by decide) (fun c => ?_) (fun c => ?_)
  · have hP := zif_n hP c
    refine zV_iload_n dJ13_numberOfTrailingZeros_21 rfl ?_
    refine zV_cSk (As := [zI x2_1]) (rest := []) dJ13_numberOfTrailingZeros_22 (W_JI_numberOfTrailingZeros _ _ _ hP) mi_J14_numberOfTrailingZeros ml_J13_311 (by decide) (Nat.le_of_ble_eq_true rfl) rfl rfl rfl (fun r2 h3 hP => ?_)
    exact zV_ireturn dJ13_numberOfTrailingZeros_25 rfl rfl rfl ⟨rfl, hP⟩
  · have hP := zif_p hP c
    refine zV_bipush dJ13_numberOfTrailingZeros_7 ⟨by decide, by decide, by decide⟩ ?_
    refine zV_lload_n dJ13_numberOfTrailingZeros_9 rfl ?_
    refine zV_bipush dJ13_numberOfTrailingZeros_10 ⟨by decide, by decide, by decide⟩ ?_
    refine zV_lushr dJ13_numberOfTrailingZeros_12 ?_
    refine zV_l2i dJ13_numberOfTrailingZeros_13 ?_
    refine zV_cSk (As := [zI (w32 (zlushr a1 32))]) (rest := [zI 32]) dJ13_numberOfTrailingZeros_14 (W_JI_numberOfTrailingZeros _ _ _ hP) mi_J14_numberOfTrailingZeros ml_J13_311 (by decide) (Nat.le_of_ble_eq_true rfl) rfl rfl rfl (fun r4 h5 hP => ?_)
    refine zV_iadd dJ13_numberOfTrailingZeros_17 ?_
    refine zV_goto (tgt := 25) dJ13_numberOfTrailingZeros_18 (by decide) ?_
    exact zV_ireturn dJ13_numberOfTrailingZeros_25 rfl rfl rfl ⟨rfl, hP⟩
def P_E_firstQuarrel_L15 (e : Int) (y1 : Int) (Q : Int → zH → Prop) (k61 : zH → Prop) : Nat → Int → zH → Prop
| 0, _, _ => False
| n15 + 1, y2, h =>
if zcmp y2 0 = 0 then
(k61 h)
else
(P_JL_numberOfTrailingZeros y2 h (fun r2 h3 =>
∀ x4_4 : Int, x4_4 = (w32 ((w32 (64 * y1)) + r2)) →
(0 ≤ x4_4 ∧ x4_4 < 1364) ∧
(0 ≤ x4_4 ∧ x4_4 < 1364) ∧
if zd h3 (e + 3) x4_4 = zd h3 (e + 2) x4_4 then
(Q x4_4 h3)
else
(∀ x2_5 : Int, x2_5 = (zland y2 (w64 (y2 - 1))) →
P_E_firstQuarrel_L15 e y1 Q k61 n15 x2_5 h3)))
theorem W_E_firstQuarrel_L15 (e : Int) (he : zE e) (y1 : Int) (Q : Int → zH → Prop) (k61 : zH → Prop) (H61 : ∀ (h' : zH), k61 h' → zV true zy_X1_firstQuarrel 3 61 [zR e, zI y1, zU, zU, zU] [] h' (zQ0 Q)) : ∀ (n15 : Nat) (y2 : Int) (h : zH), P_E_firstQuarrel_L15 e y1 Q k61 n15 y2 h → zV true zy_X1_firstQuarrel 3 15 [zR e, zI y1, zJ y2, zU, zU] [] h (zQ0 Q) := by
  intro n15
  induction n15 with
  | zero => intro y2 h hP; exact absurd hP id
  | succ n15 ih =>
    intro y2 h hP
    unfold P_E_firstQuarrel_L15 at hP
    refine zV_lload_n dX1_firstQuarrel_15 rfl ?_
    refine zV_lconst (x := 0) dX1_firstQuarrel_16 rfl ?_
    refine zV_lcmp dX1_firstQuarrel_17 ?_
    refine zV_if_eq (tgt := 61) dX1_firstQuarrel_18 (by decide) (fun c => ?_) (fun c => ?_)
    · have hP := zif_p hP c
      refine zV_mask [true, true, false, true, true] (ls' := [zR e, zI y1, zU, zU, zU]) rfl ?_
      exact H61 _ hP
    · have hP := zif_n hP c
      refine zV_bipush dX1_firstQuarrel_21 ⟨by decide, by decide, by decide⟩ ?_
      refine zV_iload_n dX1_firstQuarrel_23 rfl ?_
      refine zV_imul dX1_firstQuarrel_24 ?_
      refine zV_lload_n dX1_firstQuarrel_25 rfl ?_
      refine zV_cSk (As := [zJ y2]) (rest := [zI (w32 (64 * y1))]) dX1_firstQuarrel_26 (W_JL_numberOfTrailingZeros _ _ _ hP) mi_J13_numberOfTrailingZeros ml_X1_244 (by decide) (Nat.le_of_ble_eq_true rfl) rfl rfl rfl (fun r2 h3 hP => ?_)
      refine zV_iadd dX1_firstQuarrel_29 ?_
      refine zV_top (fun x4_4 e_x4_4 => ?_)
      have hP := hP x4_4 e_x4_4
      refine zV_istore (ls' := [zR e, zI y1, zJ y2, zU, zI x4_4]) dX1_firstQuarrel_30 (Nat.le_of_ble_eq_true rfl) rfl rfl ?_
      refine zV_aload_n dX1_firstQuarrel_32 rfl ?_
      refine zV_sg dX1_firstQuarrel_33 (fme_2 he) (sae_0 he) (by decide) fl_X1_22_1 rfl ?_
      refine zV_iload dX1_firstQuarrel_36 rfl ?_
      obtain ⟨ob, hP⟩ := hP
      refine zV_ia dX1_firstQuarrel_38 (sae_3 he) ob ?_
      refine zV_aload_n dX1_firstQuarrel_39 rfl ?_
      refine zV_sg dX1_firstQuarrel_40 (fme_1 he) (sae_0 he) (by decide) fl_X1_19_1 rfl ?_
      refine zV_iload dX1_firstQuarrel_43 rfl ?_
      obtain ⟨ob, hP⟩ := hP
      refine zV_ia dX1_firstQuarrel_45 (sae_2 he) ob ?_
      refine zV_icmp_ne (tgt := 52) dX1_firstQuarrel_46 (by decide) (fun c => ?_) (fun c => ?_)
      · have hP := zif_n hP c
        refine zV_lload_n dX1_firstQuarrel_52 rfl ?_
        refine zV_lload_n dX1_firstQuarrel_53 rfl ?_
        refine zV_lconst (x := 1) dX1_firstQuarrel_54 rfl ?_
        refine zV_lsub dX1_firstQuarrel_55 ?_
        refine zV_land dX1_firstQuarrel_56 ?_
        refine zV_top (fun x2_5 e_x2_5 => ?_)
        have hP := hP x2_5 e_x2_5
        refine zV_lstore_n (ls' := [zR e, zI y1, zJ x2_5, zU, zI x4_4]) dX1_firstQuarrel_57 rfl (Nat.le_of_ble_eq_true rfl) rfl rfl ?_
        refine zV_goto (tgt := 15) dX1_firstQuarrel_58 (by decide) ?_
        refine zV_mask [true, true, true, true, false] (ls' := [zR e, zI y1, zJ x2_5, zU, zU]) rfl ?_
        exact ih _ _ hP
      · have hP := zif_p hP c
        refine zV_iload dX1_firstQuarrel_49 rfl ?_
        exact zV_ireturn dX1_firstQuarrel_51 rfl rfl rfl ⟨rfl, hP⟩
def P_E_firstQuarrel_L2 (e : Int) (Q : Int → zH → Prop) : Nat → Int → zH → Prop
| 0, _, _ => False
| n2 + 1, y1, h =>
if 22 ≤ y1 then
(Q (-1005) h)
else
((0 ≤ y1 ∧ y1 < 22) ∧
∀ x2_1 : Int, x2_1 = (zd h (e + 6) y1) →
∃ n15, P_E_firstQuarrel_L15 e y1 Q (fun h6 =>
∀ x1_7 : Int, x1_7 = w32 (y1 + 1) →
P_E_firstQuarrel_L2 e Q n2 x1_7 h6) n15 x2_1 h)
theorem W_E_firstQuarrel_L2 (e : Int) (he : zE e) (Q : Int → zH → Prop) : ∀ (n2 : Nat) (y1 : Int) (h : zH), P_E_firstQuarrel_L2 e Q n2 y1 h → zV true zy_X1_firstQuarrel 3 2 [zR e, zI y1, zU, zU, zU] [] h (zQ0 Q) := by
  intro n2
  induction n2 with
  | zero => intro y1 h hP; exact absurd hP id
  | succ n2 ih =>
    intro y1 h hP
    unfold P_E_firstQuarrel_L2 at hP
    refine zV_iload_n dX1_firstQuarrel_2 rfl ?_
    refine zV_bipush dX1_firstQuarrel_3 ⟨by decide, by decide, by decide⟩ ?_
    refine zV_icmp_ge (tgt := 67) dX1_firstQuarrel_5 (by decide) (fun c => ?_) (fun c => ?_)
    · have hP := zif_p hP c
      refine zV_sipush dX1_firstQuarrel_67 ⟨by decide, by decide, by decide⟩ ?_
      exact zV_ireturn dX1_firstQuarrel_70 rfl rfl rfl ⟨rfl, hP⟩
    · have hP := zif_n hP c
      refine zV_aload_n dX1_firstQuarrel_8 rfl ?_
      refine zV_sg dX1_firstQuarrel_9 (fme_5 he) (sae_0 he) (by decide) fl_X1_32_1 rfl ?_
      refine zV_iload_n dX1_firstQuarrel_12 rfl ?_
      obtain ⟨ob, hP⟩ := hP
      refine zV_la dX1_firstQuarrel_13 (sae_6 he) ob ?_
      refine zV_top (fun x2_1 e_x2_1 => ?_)
      have hP := hP x2_1 e_x2_1
      refine zV_lstore_n (ls' := [zR e, zI y1, zJ x2_1, zU, zU]) dX1_firstQuarrel_14 rfl (Nat.le_of_ble_eq_true rfl) rfl rfl ?_
      obtain ⟨n15, hP⟩ := hP
      refine W_E_firstQuarrel_L15 e he _ _ _ (fun h6 hP => ?_) n15 _ _ hP
      refine zV_inc (ls' := fun z => [zR e, zI z, zU, zU, zU]) dX1_firstQuarrel_61 (Nat.le_of_ble_eq_true rfl) rfl rfl (fun _ => rfl) (fun x1_7 e_x1_7 => ?_)
      have hP := hP x1_7 e_x1_7
      refine zV_goto (tgt := 2) dX1_firstQuarrel_64 (by decide) ?_
      exact ih _ _ hP
def P_E_firstQuarrel (e : Int) (h : zH) (Q : Int → zH → Prop) : Prop :=
∃ n2, P_E_firstQuarrel_L2 e Q n2 0 h
theorem W_E_firstQuarrel (e : Int) (he : zE e) (h : zH) (Q : Int → zH → Prop) (hP : P_E_firstQuarrel e  h Q) : zC true zy_X1_firstQuarrel 3 [zR e] h (zQ0 Q) := by
  unfold P_E_firstQuarrel at hP
  refine zC.of (by decide) (Nat.le_of_ble_eq_true rfl) ?_
  show zV true zy_X1_firstQuarrel 3 0 [zR e, zU, zU, zU, zU] [] h (zQ0 Q)
  refine zV_iconst dX1_firstQuarrel_0 ⟨by decide, by decide⟩ ?_
  refine zV_istore_n (ls' := [zR e, zI 0, zU, zU, zU]) dX1_firstQuarrel_1 rfl (Nat.le_of_ble_eq_true rfl) rfl rfl ?_
  obtain ⟨n2, hP⟩ := hP
  refine W_E_firstQuarrel_L2 e he _ n2 _ _ hP
def P_E_firstForcing_L2 (e : Int) (Q : Int → zH → Prop) (k19 : Int → zH → Prop) : Nat → Int → zH → Prop
| 0, _, _ => False
| n2 + 1, y1, h =>
if 22 ≤ y1 then
(Q (-1005) h)
else
((0 ≤ y1 ∧ y1 < 22) ∧
if zcmp (zd h (e + 6) y1) 0 = 0 then
(∀ x1_1 : Int, x1_1 = w32 (y1 + 1) →
P_E_firstForcing_L2 e Q k19 n2 x1_1 h)
else
(k19 y1 h))
theorem W_E_firstForcing_L2 (e : Int) (he : zE e) (Q : Int → zH → Prop) (k19 : Int → zH → Prop) (H19 : ∀ (v1 : Int) (h' : zH), k19 v1 h' → zV true zy_X1_firstForcing 3 19 [zR e, zI v1] [] h' (zQ0 Q)) : ∀ (n2 : Nat) (y1 : Int) (h : zH), P_E_firstForcing_L2 e Q k19 n2 y1 h → zV true zy_X1_firstForcing 3 2 [zR e, zI y1] [] h (zQ0 Q) := by
  intro n2
  induction n2 with
  | zero => intro y1 h hP; exact absurd hP id
  | succ n2 ih =>
    intro y1 h hP
    unfold P_E_firstForcing_L2 at hP
    refine zV_iload_n dX1_firstForcing_2 rfl ?_
    refine zV_bipush dX1_firstForcing_3 ⟨by decide, by decide, by decide⟩ ?_
    refine zV_icmp_ge (tgt := 40) dX1_firstForcing_5 (by decide) (fun c => ?_) (fun c => ?_)
    · have hP := zif_p hP c
      refine zV_sipush dX1_firstForcing_40 ⟨by decide, by decide, by decide⟩ ?_
      exact zV_ireturn dX1_firstForcing_43 rfl rfl rfl ⟨rfl, hP⟩
    · have hP := zif_n hP c
      refine zV_aload_n dX1_firstForcing_8 rfl ?_
      refine zV_sg dX1_firstForcing_9 (fme_5 he) (sae_0 he) (by decide) fl_X1_32_1 rfl ?_
      refine zV_iload_n dX1_firstForcing_12 rfl ?_
      obtain ⟨ob, hP⟩ := hP
      refine zV_la dX1_firstForcing_13 (sae_6 he) ob ?_
      refine zV_lconst (x := 0) dX1_firstForcing_14 rfl ?_
      refine zV_lcmp dX1_firstForcing_15 ?_
      refine zV_if_eq (tgt := 34) dX1_firstForcing_16 (by decide) (fun c => ?_) (fun c => ?_)
      · have hP := zif_p hP c
        refine zV_inc (ls' := fun z => [zR e, zI z]) dX1_firstForcing_34 (Nat.le_of_ble_eq_true rfl) rfl rfl (fun _ => rfl) (fun x1_1 e_x1_1 => ?_)
        have hP := hP x1_1 e_x1_1
        refine zV_goto (tgt := 2) dX1_firstForcing_37 (by decide) ?_
        exact ih _ _ hP
      · have hP := zif_n hP c
        exact H19 _ _ hP
def P_E_firstForcing (e : Int) (h : zH) (Q : Int → zH → Prop) : Prop :=
∃ n2, P_E_firstForcing_L2 e Q (fun u1_19 h2 =>
(0 ≤ u1_19 ∧ u1_19 < 22) ∧
P_JL_numberOfTrailingZeros (zd h2 (e + 6) u1_19) h2 (fun r3 h4 =>
Q (w32 ((w32 (64 * u1_19)) + r3)) h4)) n2 0 h
theorem W_E_firstForcing (e : Int) (he : zE e) (h : zH) (Q : Int → zH → Prop) (hP : P_E_firstForcing e  h Q) : zC true zy_X1_firstForcing 3 [zR e] h (zQ0 Q) := by
  unfold P_E_firstForcing at hP
  refine zC.of (by decide) (Nat.le_of_ble_eq_true rfl) ?_
  show zV true zy_X1_firstForcing 3 0 [zR e, zU] [] h (zQ0 Q)
  refine zV_iconst dX1_firstForcing_0 ⟨by decide, by decide⟩ ?_
  refine zV_istore_n (ls' := [zR e, zI 0]) dX1_firstForcing_1 rfl (Nat.le_of_ble_eq_true rfl) rfl rfl ?_
  obtain ⟨n2, hP⟩ := hP
  refine W_E_firstForcing_L2 e he _ _ (fun u1_19 h2 hP => ?_) n2 _ _ hP
  refine zV_bipush dX1_firstForcing_19 ⟨by decide, by decide, by decide⟩ ?_
  refine zV_iload_n dX1_firstForcing_21 rfl ?_
  refine zV_imul dX1_firstForcing_22 ?_
  refine zV_aload_n dX1_firstForcing_23 rfl ?_
  refine zV_sg dX1_firstForcing_24 (fme_5 he) (sae_0 he) (by decide) fl_X1_32_1 rfl ?_
  refine zV_iload_n dX1_firstForcing_27 rfl ?_
  obtain ⟨ob, hP⟩ := hP
  refine zV_la dX1_firstForcing_28 (sae_6 he) ob ?_
  refine zV_cSk (As := [zJ (zd h2 (e + 6) u1_19)]) (rest := [zI (w32 (64 * u1_19))]) dX1_firstForcing_29 (W_JL_numberOfTrailingZeros _ _ _ hP) mi_J13_numberOfTrailingZeros ml_X1_244 (by decide) (Nat.le_of_ble_eq_true rfl) rfl rfl rfl (fun r3 h4 hP => ?_)
  refine zV_iadd dX1_firstForcing_32 ?_
  exact zV_ireturn dX1_firstForcing_33 rfl rfl rfl ⟨rfl, hP⟩
def P_E_step (e : Int) (h : zH) (Q : Int → zH → Prop) : Prop :=
∀ h1 : zH, h1 = zw h e 31 (w32 ((zd h e 31) - 1)) →
∀ h2 : zH, h2 = zw h1 e 30 (w32 ((zd h1 e 30) + 1)) →
Q 0 h2
theorem W_E_step (e : Int) (he : zE e) (h : zH) (Q : Int → zH → Prop) (hP : P_E_step e  h Q) : zC true zy_X1_step 1 [zR e] h (zQ0 Q) := by
  unfold P_E_step at hP
  refine zC.of (by decide) (Nat.le_of_ble_eq_true rfl) ?_
  show zV true zy_X1_step 1 0 [zR e] [] h (zQ0 Q)
  refine zV_aload_n dX1_step_0 rfl ?_
  refine zV_dup dX1_step_1 (Nat.ne_of_beq_eq_false rfl) ?_
  refine zV_gf dX1_step_2 (sae_0 he) (by decide) fl_X1_260_1 rfl (ki := 31) rfl ?_
  refine zV_iconst dX1_step_5 ⟨by decide, by decide⟩ ?_
  refine zV_isub dX1_step_6 ?_
  refine zV_pf dX1_step_7 (sae_0 he) (by decide) fl_X1_260_1 rfl rfl trivial (ki := 31) rfl (fun h1 e_h1 => ?_)
  have hP := hP h1 e_h1
  refine zV_aload_n dX1_step_10 rfl ?_
  refine zV_dup dX1_step_11 (Nat.ne_of_beq_eq_false rfl) ?_
  refine zV_gf dX1_step_12 (sae_0 he) (by decide) fl_X1_157_1 rfl (ki := 30) rfl ?_
  refine zV_iconst dX1_step_15 ⟨by decide, by decide⟩ ?_
  refine zV_iadd dX1_step_16 ?_
  refine zV_pf dX1_step_17 (sae_0 he) (by decide) fl_X1_157_1 rfl rfl trivial (ki := 30) rfl (fun h2 e_h2 => ?_)
  have hP := hP h2 e_h2
  exact zV_return dX1_step_20 rfl ⟨rfl, hP⟩
def P_E_isOpen (e : Int) (a1 : Int) (h : zH) (Q : Int → zH → Prop) : Prop :=
(0 ≤ zabs a1 ∧ zabs a1 < 301) ∧
Q (if zd h (e + 11) (zabs a1) = 0 then 1 else 0) h
theorem W_E_isOpen (e : Int) (he : zE e) (a1 : Int) (h : zH) (Q : Int → zH → Prop) (hP : P_E_isOpen e a1 h Q) : zC true zy_X1_isOpen 2 [zR e, zI a1] h (zQ0 Q) := by
  unfold P_E_isOpen at hP
  refine zC.of (by decide) (Nat.le_of_ble_eq_true rfl) ?_
  show zV true zy_X1_isOpen 2 0 [zR e, zI a1] [] h (zQ0 Q)
  refine zV_aload_n dX1_isOpen_0 rfl ?_
  refine zV_sg dX1_isOpen_1 (fme_12 he) (sae_0 he) (by decide) fl_X1_48_1 rfl ?_
  refine zV_iload_n dX1_isOpen_4 rfl ?_
  refine zV_mabs dX1_isOpen_5 q1546 q806 q171 q807 (Nat.le_of_ble_eq_true rfl) (by decide) ?_
  obtain ⟨ob, hP⟩ := hP
  refine zV_ia dX1_isOpen_8 (sae_11 he) ob ?_
  have K : zV true zy_X1_isOpen 2 17 [zU, zU] [zI (if zd h (e + 11) (zabs a1) = 0 then 1 else 0)] h (zQ0 Q) := by
    exact zV_ireturn dX1_isOpen_17 rfl rfl (z01 (z01_if z1 z0)) ⟨rfl, hP⟩
  clear hP
  refine zV_if_ne (tgt := 16) dX1_isOpen_9 (by decide) (fun c => ?_) (fun c => ?_)
  · try simp only [if_neg c] at K
    refine zV_iconst dX1_isOpen_16 ⟨by decide, by decide⟩ ?_
    refine zV_mask [false, false] rfl ?_
    exact K
  · try simp only [if_pos c] at K
    refine zV_iconst dX1_isOpen_12 ⟨by decide, by decide⟩ ?_
    refine zV_goto (tgt := 17) dX1_isOpen_13 (by decide) ?_
    refine zV_mask [false, false] rfl ?_
    exact K
def P_E_openOf_L7 (e : Int) (Q : Int → zH → Prop) : Nat → Int → zH → Prop
| 0, _, _ => False
| n7 + 1, y2, h =>
(0 ≤ y2 ∧ y2 < 12080) ∧
P_E_isOpen e (zd h (e + 7) y2) h (fun r2 h3 =>
if r2 = 0 then
(∀ x2_4 : Int, x2_4 = w32 (y2 + 1) →
P_E_openOf_L7 e Q n7 x2_4 h3)
else
((0 ≤ y2 ∧ y2 < 12080) ∧
Q (zd h3 (e + 7) y2) h3))
theorem W_E_openOf_L7 (e : Int) (he : zE e) (Q : Int → zH → Prop) : ∀ (n7 : Nat) (y2 : Int) (h : zH), P_E_openOf_L7 e Q n7 y2 h → zV true zy_X1_openOf 3 7 [zR e, zU, zI y2] [] h (zQ0 Q) := by
  intro n7
  induction n7 with
  | zero => intro y2 h hP; exact absurd hP id
  | succ n7 ih =>
    intro y2 h hP
    unfold P_E_openOf_L7 at hP
    refine zV_aload_n dX1_openOf_7 rfl ?_
    refine zV_aload_n dX1_openOf_8 rfl ?_
    refine zV_sg dX1_openOf_9 (fme_6 he) (sae_0 he) (by decide) fl_X1_36_1 rfl ?_
    refine zV_iload_n dX1_openOf_12 rfl ?_
    obtain ⟨ob, hP⟩ := hP
    refine zV_ia dX1_openOf_13 (sae_7 he) ob ?_
    refine zV_cVk (As := [zI (zd h (e + 7) y2)]) (rest := []) dX1_openOf_14 (sae_0 he) (W_E_isOpen e he _ _ _ hP) mi_X1_isOpen ml_X1_250 (by decide) (Nat.le_of_ble_eq_true rfl) rfl rfl rfl (fun r2 h3 hP => ?_)
    refine zV_if_ne (tgt := 26) dX1_openOf_17 (by decide) (fun c => ?_) (fun c => ?_)
    · have hP := zif_n hP c
      refine zV_aload_n dX1_openOf_26 rfl ?_
      refine zV_sg dX1_openOf_27 (fme_6 he) (sae_0 he) (by decide) fl_X1_36_1 rfl ?_
      refine zV_iload_n dX1_openOf_30 rfl ?_
      obtain ⟨ob, hP⟩ := hP
      refine zV_ia dX1_openOf_31 (sae_7 he) ob ?_
      exact zV_ireturn dX1_openOf_32 rfl rfl rfl ⟨rfl, hP⟩
    · have hP := zif_p hP c
      refine zV_inc (ls' := fun z => [zR e, zU, zI z]) dX1_openOf_20 (Nat.le_of_ble_eq_true rfl) rfl rfl (fun _ => rfl) (fun x2_4 e_x2_4 => ?_)
      have hP := hP x2_4 e_x2_4
      refine zV_goto (tgt := 7) dX1_openOf_23 (by decide) ?_
      exact ih _ _ hP
def P_E_openOf (e : Int) (a1 : Int) (h : zH) (Q : Int → zH → Prop) : Prop :=
(0 ≤ a1 ∧ a1 < 1364) ∧
∀ x2_1 : Int, x2_1 = (zd h (e + 1) a1) →
∃ n7, P_E_openOf_L7 e Q n7 x2_1 h
theorem W_E_openOf (e : Int) (he : zE e) (a1 : Int) (h : zH) (Q : Int → zH → Prop) (hP : P_E_openOf e a1 h Q) : zC true zy_X1_openOf 3 [zR e, zI a1] h (zQ0 Q) := by
  unfold P_E_openOf at hP
  refine zC.of (by decide) (Nat.le_of_ble_eq_true rfl) ?_
  show zV true zy_X1_openOf 3 0 [zR e, zI a1, zU] [] h (zQ0 Q)
  refine zV_aload_n dX1_openOf_0 rfl ?_
  refine zV_sg dX1_openOf_1 (fme_0 he) (sae_0 he) (by decide) fl_X1_15_1 rfl ?_
  refine zV_iload_n dX1_openOf_4 rfl ?_
  obtain ⟨ob, hP⟩ := hP
  refine zV_ia dX1_openOf_5 (sae_1 he) ob ?_
  refine zV_top (fun x2_1 e_x2_1 => ?_)
  have hP := hP x2_1 e_x2_1
  refine zV_istore_n (ls' := [zR e, zI a1, zI x2_1]) dX1_openOf_6 rfl (Nat.le_of_ble_eq_true rfl) rfl rfl ?_
  obtain ⟨n7, hP⟩ := hP
  refine zV_mask [true, false, true] (ls' := [zR e, zU, zI x2_1]) rfl ?_
  refine W_E_openOf_L7 e he _ n7 _ _ hP
def P_E_addSource_L37 (e : Int) (y1 : Int) (y2 : Int) (y3 : Int) (Q : Int → zH → Prop) : Nat → Int → zH → Prop
| 0, _, _ => False
| n37 + 1, y4, h =>
if 8 ≤ y4 then
(Q 0 h)
else
((zt h y1 = 53 ∧ 0 ≤ w32 (y2 + y4) ∧ w32 (y2 + y4) < zl h y1) ∧
(0 ≤ w32 ((w32 ((w32 (y3 - 564)) * 8)) + y4) ∧ w32 ((w32 ((w32 (y3 - 564)) * 8)) + y4) < 6400) ∧
(zt h y1 = 53 ∧ 0 ≤ w32 (y2 + y4) ∧ w32 (y2 + y4) < zl h y1) ∧
∀ h1 : zH, h1 = zw h y1 (w32 (y2 + y4)) (zlor (zd h y1 (w32 (y2 + y4))) (zd h (e + 19) (w32 ((w32 ((w32 (y3 - 564)) * 8)) + y4)))) →
∀ x4_2 : Int, x4_2 = w32 (y4 + 1) →
P_E_addSource_L37 e y1 y2 y3 Q n37 x4_2 h1)
theorem W_E_addSource_L37 (e : Int) (he : zE e) (y1 : Int) (y2 : Int) (y3 : Int) (Q : Int → zH → Prop) : ∀ (n37 : Nat) (y4 : Int) (h : zH), P_E_addSource_L37 e y1 y2 y3 Q n37 y4 h → zV true zy_X1_addSource 1 37 [zR e, zR y1, zI y2, zI y3, zI y4] [] h (zQ0 Q) := by
  intro n37
  induction n37 with
  | zero => intro y4 h hP; exact absurd hP id
  | succ n37 ih =>
    intro y4 h hP
    unfold P_E_addSource_L37 at hP
    refine zV_iload dX1_addSource_37 rfl ?_
    refine zV_bipush dX1_addSource_39 ⟨by decide, by decide, by decide⟩ ?_
    refine zV_icmp_ge (tgt := 75) dX1_addSource_41 (by decide) (fun c => ?_) (fun c => ?_)
    · have hP := zif_p hP c
      exact zV_return dX1_addSource_75 rfl ⟨rfl, hP⟩
    · have hP := zif_n hP c
      refine zV_aload_n dX1_addSource_44 rfl ?_
      refine zV_iload_n dX1_addSource_45 rfl ?_
      refine zV_iload dX1_addSource_46 rfl ?_
      refine zV_iadd dX1_addSource_48 ?_
      refine zV_dup2 dX1_addSource_49 (Nat.ne_of_beq_eq_false rfl) (Nat.ne_of_beq_eq_false rfl) ?_
      obtain ⟨ob, hP⟩ := hP
      refine zV_laD dX1_addSource_50 ob ?_
      refine zV_aload_n dX1_addSource_51 rfl ?_
      refine zV_sg dX1_addSource_52 (fme_23 he) (sae_0 he) (by decide) fl_X1_72_1 rfl ?_
      refine zV_iload_n dX1_addSource_55 rfl ?_
      refine zV_sipush dX1_addSource_56 ⟨by decide, by decide, by decide⟩ ?_
      refine zV_isub dX1_addSource_59 ?_
      refine zV_bipush dX1_addSource_60 ⟨by decide, by decide, by decide⟩ ?_
      refine zV_imul dX1_addSource_62 ?_
      refine zV_iload dX1_addSource_63 rfl ?_
      refine zV_iadd dX1_addSource_65 ?_
      obtain ⟨ob, hP⟩ := hP
      refine zV_la dX1_addSource_66 (sae_19 he) ob ?_
      refine zV_lor dX1_addSource_67 ?_
      obtain ⟨ob, hP⟩ := hP
      refine zV_lasD dX1_addSource_68 ob (fun h1 e_h1 => ?_)
      have hP := hP h1 e_h1
      refine zV_inc (ls' := fun z => [zR e, zR y1, zI y2, zI y3, zI z]) dX1_addSource_69 (Nat.le_of_ble_eq_true rfl) rfl rfl (fun _ => rfl) (fun x4_2 e_x4_2 => ?_)
      have hP := hP x4_2 e_x4_2
      refine zV_goto (tgt := 37) dX1_addSource_72 (by decide) ?_
      exact ih _ _ hP
def P_E_addSource (e : Int) (a1 : Int) (a2 : Int) (a3 : Int) (h : zH) (Q : Int → zH → Prop) : Prop :=
if 500 ≤ a3 then
(if a3 < 564 then
(Q 0 h)
else
(∃ n37, P_E_addSource_L37 e a1 a2 a3 Q n37 0 h))
else
((zt h a1 = 53 ∧ 0 ≤ w32 (a2 + (zshr a3 6)) ∧ w32 (a2 + (zshr a3 6)) < zl h a1) ∧
(zt h a1 = 53 ∧ 0 ≤ w32 (a2 + (zshr a3 6)) ∧ w32 (a2 + (zshr a3 6)) < zl h a1) ∧
∀ h3 : zH, h3 = zw h a1 (w32 (a2 + (zshr a3 6))) (zlor (zd h a1 (w32 (a2 + (zshr a3 6)))) (zlshl 1 (zand a3 63))) →
Q 0 h3)
theorem W_E_addSource (e : Int) (he : zE e) (a1 : Int) (a2 : Int) (a3 : Int) (h : zH) (Q : Int → zH → Prop) (hP : P_E_addSource e a1 a2 a3 h Q) : zC true zy_X1_addSource 1 [zR e, zR a1, zI a2, zI a3] h (zQ0 Q) := by
  unfold P_E_addSource at hP
  refine zC.of (by decide) (Nat.le_of_ble_eq_true rfl) ?_
  show zV true zy_X1_addSource 1 0 [zR e, zR a1, zI a2, zI a3, zU] [] h (zQ0 Q)
  refine zV_iload_n dX1_addSource_0 rfl ?_
  refine zV_sipush dX1_addSource_1 ⟨by decide, by decide, by decide⟩ ?_
  refine zV_icmp_ge (tgt := 27) dX1_addSource_4 (by decide) (fun c => ?_) (fun c => ?_)
  · have hP := zif_p hP c
    refine zV_iload_n dX1_addSource_27 rfl ?_
    refine zV_sipush dX1_addSource_28 ⟨by decide, by decide, by decide⟩ ?_
    refine zV_icmp_lt (tgt := 75) dX1_addSource_31 (by decide) (fun c => ?_) (fun c => ?_)
    · have hP := zif_p hP c
      exact zV_return dX1_addSource_75 rfl ⟨rfl, hP⟩
    · have hP := zif_n hP c
      refine zV_iconst dX1_addSource_34 ⟨by decide, by decide⟩ ?_
      refine zV_istore (ls' := [zR e, zR a1, zI a2, zI a3, zI 0]) dX1_addSource_35 (Nat.le_of_ble_eq_true rfl) rfl rfl ?_
      obtain ⟨n37, hP⟩ := hP
      refine W_E_addSource_L37 e he _ _ _ _ n37 _ _ hP
  · have hP := zif_n hP c
    refine zV_aload_n dX1_addSource_7 rfl ?_
    refine zV_iload_n dX1_addSource_8 rfl ?_
    refine zV_iload_n dX1_addSource_9 rfl ?_
    refine zV_bipush dX1_addSource_10 ⟨by decide, by decide, by decide⟩ ?_
    refine zV_ishr dX1_addSource_12 ?_
    refine zV_iadd dX1_addSource_13 ?_
    refine zV_dup2 dX1_addSource_14 (Nat.ne_of_beq_eq_false rfl) (Nat.ne_of_beq_eq_false rfl) ?_
    obtain ⟨ob, hP⟩ := hP
    refine zV_laD dX1_addSource_15 ob ?_
    refine zV_lconst (x := 1) dX1_addSource_16 rfl ?_
    refine zV_iload_n dX1_addSource_17 rfl ?_
    refine zV_bipush dX1_addSource_18 ⟨by decide, by decide, by decide⟩ ?_
    refine zV_iand dX1_addSource_20 ?_
    refine zV_lshl dX1_addSource_21 ?_
    refine zV_lor dX1_addSource_22 ?_
    obtain ⟨ob, hP⟩ := hP
    refine zV_lasD dX1_addSource_23 ob (fun h3 e_h3 => ?_)
    have hP := hP h3 e_h3
    refine zV_goto (tgt := 75) dX1_addSource_24 (by decide) ?_
    exact zV_return dX1_addSource_75 rfl ⟨rfl, hP⟩
def P_E_addRoot_L3 (e : Int) (y1 : Int) (y2 : Int) (y3 : Int) (Q : Int → zH → Prop) : Nat → Int → zH → Prop
| 0, _, _ => False
| n3 + 1, y4, h =>
if 8 ≤ y4 then
(Q 0 h)
else
((zt h y1 = 53 ∧ 0 ≤ w32 (y2 + y4) ∧ w32 (y2 + y4) < zl h y1) ∧
(0 ≤ w32 ((w32 (y3 * 8)) + y4) ∧ w32 ((w32 (y3 * 8)) + y4) < 2408) ∧
(zt h y1 = 53 ∧ 0 ≤ w32 (y2 + y4) ∧ w32 (y2 + y4) < zl h y1) ∧
∀ h1 : zH, h1 = zw h y1 (w32 (y2 + y4)) (zlor (zd h y1 (w32 (y2 + y4))) (zd h (e + 16) (w32 ((w32 (y3 * 8)) + y4)))) →
∀ x4_2 : Int, x4_2 = w32 (y4 + 1) →
P_E_addRoot_L3 e y1 y2 y3 Q n3 x4_2 h1)
theorem W_E_addRoot_L3 (e : Int) (he : zE e) (y1 : Int) (y2 : Int) (y3 : Int) (Q : Int → zH → Prop) : ∀ (n3 : Nat) (y4 : Int) (h : zH), P_E_addRoot_L3 e y1 y2 y3 Q n3 y4 h → zV true zy_X1_addRoot 1 3 [zR e, zR y1, zI y2, zI y3, zI y4] [] h (zQ0 Q) := by
  intro n3
  induction n3 with
  | zero => intro y4 h hP; exact absurd hP id
  | succ n3 ih =>
    intro y4 h hP
    unfold P_E_addRoot_L3 at hP
    refine zV_iload dX1_addRoot_3 rfl ?_
    refine zV_bipush dX1_addRoot_5 ⟨by decide, by decide, by decide⟩ ?_
    refine zV_icmp_ge (tgt := 37) dX1_addRoot_7 (by decide) (fun c => ?_) (fun c => ?_)
    · have hP := zif_p hP c
      exact zV_return dX1_addRoot_37 rfl ⟨rfl, hP⟩
    · have hP := zif_n hP c
      refine zV_aload_n dX1_addRoot_10 rfl ?_
      refine zV_iload_n dX1_addRoot_11 rfl ?_
      refine zV_iload dX1_addRoot_12 rfl ?_
      refine zV_iadd dX1_addRoot_14 ?_
      refine zV_dup2 dX1_addRoot_15 (Nat.ne_of_beq_eq_false rfl) (Nat.ne_of_beq_eq_false rfl) ?_
      obtain ⟨ob, hP⟩ := hP
      refine zV_laD dX1_addRoot_16 ob ?_
      refine zV_aload_n dX1_addRoot_17 rfl ?_
      refine zV_sg dX1_addRoot_18 (fme_17 he) (sae_0 he) (by decide) fl_X1_63_1 rfl ?_
      refine zV_iload_n dX1_addRoot_21 rfl ?_
      refine zV_bipush dX1_addRoot_22 ⟨by decide, by decide, by decide⟩ ?_
      refine zV_imul dX1_addRoot_24 ?_
      refine zV_iload dX1_addRoot_25 rfl ?_
      refine zV_iadd dX1_addRoot_27 ?_
      obtain ⟨ob, hP⟩ := hP
      refine zV_la dX1_addRoot_28 (sae_16 he) ob ?_
      refine zV_lor dX1_addRoot_29 ?_
      obtain ⟨ob, hP⟩ := hP
      refine zV_lasD dX1_addRoot_30 ob (fun h1 e_h1 => ?_)
      have hP := hP h1 e_h1
      refine zV_inc (ls' := fun z => [zR e, zR y1, zI y2, zI y3, zI z]) dX1_addRoot_31 (Nat.le_of_ble_eq_true rfl) rfl rfl (fun _ => rfl) (fun x4_2 e_x4_2 => ?_)
      have hP := hP x4_2 e_x4_2
      refine zV_goto (tgt := 3) dX1_addRoot_34 (by decide) ?_
      exact ih _ _ hP
def P_E_addRoot (e : Int) (a1 : Int) (a2 : Int) (a3 : Int) (h : zH) (Q : Int → zH → Prop) : Prop :=
∃ n3, P_E_addRoot_L3 e a1 a2 a3 Q n3 0 h
theorem W_E_addRoot (e : Int) (he : zE e) (a1 : Int) (a2 : Int) (a3 : Int) (h : zH) (Q : Int → zH → Prop) (hP : P_E_addRoot e a1 a2 a3 h Q) : zC true zy_X1_addRoot 1 [zR e, zR a1, zI a2, zI a3] h (zQ0 Q) := by
  unfold P_E_addRoot at hP
  refine zC.of (by decide) (Nat.le_of_ble_eq_true rfl) ?_
  show zV true zy_X1_addRoot 1 0 [zR e, zR a1, zI a2, zI a3, zU] [] h (zQ0 Q)
  refine zV_iconst dX1_addRoot_0 ⟨by decide, by decide⟩ ?_
  refine zV_istore (ls' := [zR e, zR a1, zI a2, zI a3, zI 0]) dX1_addRoot_1 (Nat.le_of_ble_eq_true rfl) rfl rfl ?_
  obtain ⟨n3, hP⟩ := hP
  refine W_E_addRoot_L3 e he _ _ _ _ n3 _ _ hP
def P_E_rootSource_L2 (e : Int) (y1 : Int) (y2 : Int) (Q : Int → zH → Prop) (k26 : zH → Prop) : Nat → Int → zH → Prop
| 0, _, _ => False
| n2 + 1, y3, h =>
if 8 ≤ y3 then
(k26 h)
else
((0 ≤ w32 ((w32 (y1 * 8)) + y3) ∧ w32 ((w32 (y1 * 8)) + y3) < 2408) ∧
∀ h1 : zH, h1 = zw h (e + 16) (w32 ((w32 (y1 * 8)) + y3)) 0 →
∀ x3_2 : Int, x3_2 = w32 (y3 + 1) →
P_E_rootSource_L2 e y1 y2 Q k26 n2 x3_2 h1)
theorem W_E_rootSource_L2 (e : Int) (he : zE e) (y1 : Int) (y2 : Int) (Q : Int → zH → Prop) (k26 : zH → Prop) (H26 : ∀ (h' : zH), k26 h' → zV true zy_X1_rootSource 2 26 [zR e, zI y1, zI y2, zU, zU] [] h' (zQ0 Q)) : ∀ (n2 : Nat) (y3 : Int) (h : zH), P_E_rootSource_L2 e y1 y2 Q k26 n2 y3 h → zV true zy_X1_rootSource 2 2 [zR e, zI y1, zI y2, zI y3, zU] [] h (zQ0 Q) := by
  intro n2
  induction n2 with
  | zero => intro y3 h hP; exact absurd hP id
  | succ n2 ih =>
    intro y3 h hP
    unfold P_E_rootSource_L2 at hP
    refine zV_iload_n dX1_rootSource_2 rfl ?_
    refine zV_bipush dX1_rootSource_3 ⟨by decide, by decide, by decide⟩ ?_
    refine zV_icmp_ge (tgt := 26) dX1_rootSource_5 (by decide) (fun c => ?_) (fun c => ?_)
    · have hP := zif_p hP c
      refine zV_mask [true, true, true, false, true] (ls' := [zR e, zI y1, zI y2, zU, zU]) rfl ?_
      exact H26 _ hP
    · have hP := zif_n hP c
      refine zV_aload_n dX1_rootSource_8 rfl ?_
      refine zV_sg dX1_rootSource_9 (fme_17 he) (sae_0 he) (by decide) fl_X1_63_1 rfl ?_
      refine zV_iload_n dX1_rootSource_12 rfl ?_
      refine zV_bipush dX1_rootSource_13 ⟨by decide, by decide, by decide⟩ ?_
      refine zV_imul dX1_rootSource_15 ?_
      refine zV_iload_n dX1_rootSource_16 rfl ?_
      refine zV_iadd dX1_rootSource_17 ?_
      refine zV_lconst (x := 0) dX1_rootSource_18 rfl ?_
      obtain ⟨ob, hP⟩ := hP
      refine zV_las dX1_rootSource_19 (sae_16 he) ob (fun h1 e_h1 => ?_)
      have hP := hP h1 e_h1
      refine zV_inc (ls' := fun z => [zR e, zI y1, zI y2, zI z, zU]) dX1_rootSource_20 (Nat.le_of_ble_eq_true rfl) rfl rfl (fun _ => rfl) (fun x3_2 e_x3_2 => ?_)
      have hP := hP x3_2 e_x3_2
      refine zV_goto (tgt := 2) dX1_rootSource_23 (by decide) ?_
      exact ih _ _ hP
def P_E_rootSource_J94 (e : Int) (y1 : Int) (y2 : Int) (y3 : Int) (h : zH) (Q : Int → zH → Prop) (k46 : Int → zH → Prop) : Prop :=
∀ x3_8 : Int, x3_8 = w32 (y3 + 1) →
k46 x3_8 h
theorem W_E_rootSource_J94 (e : Int) (he : zE e) (y1 : Int) (y2 : Int) (y3 : Int) (h : zH) (Q : Int → zH → Prop) (k46 : Int → zH → Prop) (H46 : ∀ (v3 : Int) (h' : zH), k46 v3 h' → zV true zy_X1_rootSource 2 46 [zR e, zI y1, zI y2, zI v3, zU] [] h' (zQ0 Q)) (hP : P_E_rootSource_J94 e y1 y2 y3 h Q k46) : zV true zy_X1_rootSource 2 94 [zR e, zI y1, zI y2, zI y3, zU] [] h (zQ0 Q) := by
  unfold P_E_rootSource_J94 at hP
  refine zV_inc (ls' := fun z => [zR e, zI y1, zI y2, zI z, zU]) dX1_rootSource_94 (Nat.le_of_ble_eq_true rfl) rfl rfl (fun _ => rfl) (fun x3_8 e_x3_8 => ?_)
  have hP := hP x3_8 e_x3_8
  refine zV_goto (tgt := 46) dX1_rootSource_97 (by decide) ?_
  exact H46 _ _ hP
def P_E_rootSource_L46 (e : Int) (y1 : Int) (y2 : Int) (Q : Int → zH → Prop) : Nat → Int → zH → Prop
| 0, _, _ => False
| n46 + 1, y3, h =>
(0 ≤ y2 ∧ y2 < 1364) ∧
(0 ≤ y2 ∧ y2 < 1364) ∧
if w32 ((zd h (e + 1) y2) + (zd h (e + 2) y2)) ≤ y3 then
(Q 0 h)
else
((0 ≤ y3 ∧ y3 < 12080) ∧
∀ x4_7 : Int, x4_7 = (zabs (zd h (e + 7) y3)) →
if x4_7 = y1 then
(P_E_rootSource_J94 e y1 y2 y3 h Q (P_E_rootSource_L46 e y1 y2 Q n46))
else
(P_E_addRoot e (e + 16) (w32 (y1 * 8)) x4_7 h (fun r9 h10 =>
P_E_rootSource_J94 e y1 y2 y3 h10 Q (P_E_rootSource_L46 e y1 y2 Q n46))))
theorem W_E_rootSource_L46 (e : Int) (he : zE e) (y1 : Int) (y2 : Int) (Q : Int → zH → Prop) : ∀ (n46 : Nat) (y3 : Int) (h : zH), P_E_rootSource_L46 e y1 y2 Q n46 y3 h → zV true zy_X1_rootSource 2 46 [zR e, zI y1, zI y2, zI y3, zU] [] h (zQ0 Q) := by
  intro n46
  induction n46 with
  | zero => intro y3 h hP; exact absurd hP id
  | succ n46 ih =>
    intro y3 h hP
    unfold P_E_rootSource_L46 at hP
    refine zV_iload_n dX1_rootSource_46 rfl ?_
    refine zV_aload_n dX1_rootSource_47 rfl ?_
    refine zV_sg dX1_rootSource_48 (fme_0 he) (sae_0 he) (by decide) fl_X1_15_1 rfl ?_
    refine zV_iload_n dX1_rootSource_51 rfl ?_
    obtain ⟨ob, hP⟩ := hP
    refine zV_ia dX1_rootSource_52 (sae_1 he) ob ?_
    refine zV_aload_n dX1_rootSource_53 rfl ?_
    refine zV_sg dX1_rootSource_54 (fme_1 he) (sae_0 he) (by decide) fl_X1_19_1 rfl ?_
    refine zV_iload_n dX1_rootSource_57 rfl ?_
    obtain ⟨ob, hP⟩ := hP
    refine zV_ia dX1_rootSource_58 (sae_2 he) ob ?_
    refine zV_iadd dX1_rootSource_59 ?_
    refine zV_icmp_ge (tgt := 100) dX1_rootSource_60 (by decide) (fun c => ?_) (fun c => ?_)
    · have hP := zif_p hP c
      exact zV_return dX1_rootSource_100 rfl ⟨rfl, hP⟩
    · have hP := zif_n hP c
      refine zV_aload_n dX1_rootSource_63 rfl ?_
      refine zV_sg dX1_rootSource_64 (fme_6 he) (sae_0 he) (by decide) fl_X1_36_1 rfl ?_
      refine zV_iload_n dX1_rootSource_67 rfl ?_
      obtain ⟨ob, hP⟩ := hP
      refine zV_ia dX1_rootSource_68 (sae_7 he) ob ?_
      refine zV_mabs dX1_rootSource_69 q1546 q806 q171 q807 (Nat.le_of_ble_eq_true rfl) (by decide) ?_
      refine zV_top (fun x4_7 e_x4_7 => ?_)
      have hP := hP x4_7 e_x4_7
      refine zV_istore (ls' := [zR e, zI y1, zI y2, zI y3, zI x4_7]) dX1_rootSource_72 (Nat.le_of_ble_eq_true rfl) rfl rfl ?_
      refine zV_iload dX1_rootSource_74 rfl ?_
      refine zV_iload_n dX1_rootSource_76 rfl ?_
      refine zV_icmp_eq (tgt := 94) dX1_rootSource_77 (by decide) (fun c => ?_) (fun c => ?_)
      · have hP := zif_p hP c
        refine zV_mask [true, true, true, true, false] (ls' := [zR e, zI y1, zI y2, zI y3, zU]) rfl ?_
        exact W_E_rootSource_J94 e he _ _ _ _ _ _ ih hP
      · have hP := zif_n hP c
        refine zV_aload_n dX1_rootSource_80 rfl ?_
        refine zV_aload_n dX1_rootSource_81 rfl ?_
        refine zV_sg dX1_rootSource_82 (fme_17 he) (sae_0 he) (by decide) fl_X1_63_1 rfl ?_
        refine zV_iload_n dX1_rootSource_85 rfl ?_
        refine zV_bipush dX1_rootSource_86 ⟨by decide, by decide, by decide⟩ ?_
        refine zV_imul dX1_rootSource_88 ?_
        refine zV_iload dX1_rootSource_89 rfl ?_
        refine zV_cVv (As := [zR (e + 16), zI (w32 (y1 * 8)), zI x4_7]) (rest := []) dX1_rootSource_91 (sae_0 he) (W_E_addRoot e he _ _ _ _ _ hP) mi_X1_addRoot ml_X1_234 (by decide) (Nat.le_of_ble_eq_true rfl) rfl rfl (fun r9 h10 hP => ?_)
        refine zV_mask [true, true, true, true, false] (ls' := [zR e, zI y1, zI y2, zI y3, zU]) rfl ?_
        exact W_E_rootSource_J94 e he _ _ _ _ _ _ ih hP
def P_E_rootSource (e : Int) (a1 : Int) (a2 : Int) (h : zH) (Q : Int → zH → Prop) : Prop :=
∃ n2, P_E_rootSource_L2 e a1 a2 Q (fun h3 =>
P_E_addSource e (e + 16) (w32 (a1 * 8)) a2 h3 (fun r4 h5 =>
(0 ≤ a2 ∧ a2 < 1364) ∧
∀ x3_6 : Int, x3_6 = (zd h5 (e + 1) a2) →
∃ n46, P_E_rootSource_L46 e a1 a2 Q n46 x3_6 h5)) n2 0 h
theorem W_E_rootSource (e : Int) (he : zE e) (a1 : Int) (a2 : Int) (h : zH) (Q : Int → zH → Prop) (hP : P_E_rootSource e a1 a2 h Q) : zC true zy_X1_rootSource 2 [zR e, zI a1, zI a2] h (zQ0 Q) := by
  unfold P_E_rootSource at hP
  refine zC.of (by decide) (Nat.le_of_ble_eq_true rfl) ?_
  show zV true zy_X1_rootSource 2 0 [zR e, zI a1, zI a2, zU, zU] [] h (zQ0 Q)
  refine zV_iconst dX1_rootSource_0 ⟨by decide, by decide⟩ ?_
  refine zV_istore_n (ls' := [zR e, zI a1, zI a2, zI 0, zU]) dX1_rootSource_1 rfl (Nat.le_of_ble_eq_true rfl) rfl rfl ?_
  obtain ⟨n2, hP⟩ := hP
  refine W_E_rootSource_L2 e he _ _ _ _ (fun h3 hP => ?_) n2 _ _ hP
  refine zV_aload_n dX1_rootSource_26 rfl ?_
  refine zV_aload_n dX1_rootSource_27 rfl ?_
  refine zV_sg dX1_rootSource_28 (fme_17 he) (sae_0 he) (by decide) fl_X1_63_1 rfl ?_
  refine zV_iload_n dX1_rootSource_31 rfl ?_
  refine zV_bipush dX1_rootSource_32 ⟨by decide, by decide, by decide⟩ ?_
  refine zV_imul dX1_rootSource_34 ?_
  refine zV_iload_n dX1_rootSource_35 rfl ?_
  refine zV_cVv (As := [zR (e + 16), zI (w32 (a1 * 8)), zI a2]) (rest := []) dX1_rootSource_36 (sae_0 he) (W_E_addSource e he _ _ _ _ _ hP) mi_X1_addSource ml_X1_230 (by decide) (Nat.le_of_ble_eq_true rfl) rfl rfl (fun r4 h5 hP => ?_)
  refine zV_aload_n dX1_rootSource_39 rfl ?_
  refine zV_sg dX1_rootSource_40 (fme_0 he) (sae_0 he) (by decide) fl_X1_15_1 rfl ?_
  refine zV_iload_n dX1_rootSource_43 rfl ?_
  obtain ⟨ob, hP⟩ := hP
  refine zV_ia dX1_rootSource_44 (sae_1 he) ob ?_
  refine zV_top (fun x3_6 e_x3_6 => ?_)
  have hP := hP x3_6 e_x3_6
  refine zV_istore_n (ls' := [zR e, zI a1, zI a2, zI x3_6, zU]) dX1_rootSource_45 rfl (Nat.le_of_ble_eq_true rfl) rfl rfl ?_
  obtain ⟨n46, hP⟩ := hP
  refine W_E_rootSource_L46 e he _ _ _ n46 _ _ hP
def P_E_set_L66 (e : Int) (y1 : Int) (y2 : Int) (y3 : Int) (Q : Int → zH → Prop) (k113 : zH → Prop) : Nat → Int → zH → Prop
| 0, _, _ => False
| n66 + 1, y4, h =>
if y4 = (-1005) then
(k113 h)
else
((0 ≤ y4 ∧ y4 < 12080) ∧
(0 ≤ zd h (e + 8) y4 ∧ zd h (e + 8) y4 < 1364) ∧
(0 ≤ zd h (e + 8) y4 ∧ zd h (e + 8) y4 < 1364) ∧
∀ h10 : zH, h10 = zw h (e + 4) (zd h (e + 8) y4) (w32 ((zd h (e + 4) (zd h (e + 8) y4)) + 1)) →
(0 ≤ y4 ∧ y4 < 12080) ∧
P_E_look e (zd h10 (e + 8) y4) h10 (fun r11 h12 =>
(0 ≤ y4 ∧ y4 < 12080) ∧
∀ x4_13 : Int, x4_13 = (zd h12 (e + 9) y4) →
P_E_set_L66 e y1 y2 y3 Q k113 n66 x4_13 h12))
theorem W_E_set_L66 (e : Int) (he : zE e) (y1 : Int) (y2 : Int) (y3 : Int) (Q : Int → zH → Prop) (k113 : zH → Prop) (H113 : ∀ (h' : zH), k113 h' → zV true zy_X1_set 3 113 [zR e, zI y1, zI y2, zI y3, zU] [] h' (zQ0 Q)) : ∀ (n66 : Nat) (y4 : Int) (h : zH), P_E_set_L66 e y1 y2 y3 Q k113 n66 y4 h → zV true zy_X1_set 3 66 [zR e, zI y1, zI y2, zI y3, zI y4] [] h (zQ0 Q) := by
  intro n66
  induction n66 with
  | zero => intro y4 h hP; exact absurd hP id
  | succ n66 ih =>
    intro y4 h hP
    unfold P_E_set_L66 at hP
    refine zV_iload dX1_set_66 rfl ?_
    refine zV_sipush dX1_set_68 ⟨by decide, by decide, by decide⟩ ?_
    refine zV_icmp_eq (tgt := 113) dX1_set_71 (by decide) (fun c => ?_) (fun c => ?_)
    · have hP := zif_p hP c
      refine zV_mask [true, true, true, true, false] (ls' := [zR e, zI y1, zI y2, zI y3, zU]) rfl ?_
      exact H113 _ hP
    · have hP := zif_n hP c
      refine zV_aload_n dX1_set_74 rfl ?_
      refine zV_sg dX1_set_75 (fme_3 he) (sae_0 he) (by decide) fl_X1_25_1 rfl ?_
      refine zV_aload_n dX1_set_78 rfl ?_
      refine zV_sg dX1_set_79 (fme_7 he) (sae_0 he) (by decide) fl_X1_39_1 rfl ?_
      refine zV_iload dX1_set_82 rfl ?_
      obtain ⟨ob, hP⟩ := hP
      refine zV_ia dX1_set_84 (sae_8 he) ob ?_
      refine zV_dup2 dX1_set_85 (Nat.ne_of_beq_eq_false rfl) (Nat.ne_of_beq_eq_false rfl) ?_
      obtain ⟨ob, hP⟩ := hP
      refine zV_ia dX1_set_86 (sae_4 he) ob ?_
      refine zV_iconst dX1_set_87 ⟨by decide, by decide⟩ ?_
      refine zV_iadd dX1_set_88 ?_
      obtain ⟨ob, hP⟩ := hP
      refine zV_ias dX1_set_89 (sae_4 he) ob (fun h10 e_h10 => ?_)
      have hP := hP h10 e_h10
      refine zV_aload_n dX1_set_90 rfl ?_
      refine zV_aload_n dX1_set_91 rfl ?_
      refine zV_sg dX1_set_92 (fme_7 he) (sae_0 he) (by decide) fl_X1_39_1 rfl ?_
      refine zV_iload dX1_set_95 rfl ?_
      obtain ⟨ob, hP⟩ := hP
      refine zV_ia dX1_set_97 (sae_8 he) ob ?_
      refine zV_cVv (As := [zI (zd h10 (e + 8) y4)]) (rest := []) dX1_set_98 (sae_0 he) (W_E_look e he _ _ _ hP) mi_X1_look ml_X1_202 (by decide) (Nat.le_of_ble_eq_true rfl) rfl rfl (fun r11 h12 hP => ?_)
      refine zV_aload_n dX1_set_101 rfl ?_
      refine zV_sg dX1_set_102 (fme_8 he) (sae_0 he) (by decide) fl_X1_42_1 rfl ?_
      refine zV_iload dX1_set_105 rfl ?_
      obtain ⟨ob, hP⟩ := hP
      refine zV_ia dX1_set_107 (sae_9 he) ob ?_
      refine zV_top (fun x4_13 e_x4_13 => ?_)
      have hP := hP x4_13 e_x4_13
      refine zV_istore (ls' := [zR e, zI y1, zI y2, zI y3, zI x4_13]) dX1_set_108 (Nat.le_of_ble_eq_true rfl) rfl rfl ?_
      refine zV_goto (tgt := 66) dX1_set_110 (by decide) ?_
      exact ih _ _ hP
def P_E_set_L126 (e : Int) (y2 : Int) (y3 : Int) (Q : Int → zH → Prop) (k173 : zH → Prop) : Nat → Int → zH → Prop
| 0, _, _ => False
| n126 + 1, y4, h =>
if y4 = (-1005) then
(k173 h)
else
((0 ≤ y4 ∧ y4 < 12080) ∧
(0 ≤ zd h (e + 8) y4 ∧ zd h (e + 8) y4 < 1364) ∧
(0 ≤ zd h (e + 8) y4 ∧ zd h (e + 8) y4 < 1364) ∧
∀ h18 : zH, h18 = zw h (e + 3) (zd h (e + 8) y4) (w32 ((zd h (e + 3) (zd h (e + 8) y4)) + 1)) →
(0 ≤ y4 ∧ y4 < 12080) ∧
P_E_look e (zd h18 (e + 8) y4) h18 (fun r19 h20 =>
(0 ≤ y4 ∧ y4 < 12080) ∧
∀ x4_21 : Int, x4_21 = (zd h20 (e + 9) y4) →
P_E_set_L126 e y2 y3 Q k173 n126 x4_21 h20))
theorem W_E_set_L126 (e : Int) (he : zE e) (y2 : Int) (y3 : Int) (Q : Int → zH → Prop) (k173 : zH → Prop) (H173 : ∀ (h' : zH), k173 h' → zV true zy_X1_set 3 173 [zR e, zU, zI y2, zI y3, zU] [] h' (zQ0 Q)) : ∀ (n126 : Nat) (y4 : Int) (h : zH), P_E_set_L126 e y2 y3 Q k173 n126 y4 h → zV true zy_X1_set 3 126 [zR e, zU, zI y2, zI y3, zI y4] [] h (zQ0 Q) := by
  intro n126
  induction n126 with
  | zero => intro y4 h hP; exact absurd hP id
  | succ n126 ih =>
    intro y4 h hP
    unfold P_E_set_L126 at hP
    refine zV_iload dX1_set_126 rfl ?_
    refine zV_sipush dX1_set_128 ⟨by decide, by decide, by decide⟩ ?_
    refine zV_icmp_eq (tgt := 173) dX1_set_131 (by decide) (fun c => ?_) (fun c => ?_)
    · have hP := zif_p hP c
      refine zV_mask [true, true, true, true, false] (ls' := [zR e, zU, zI y2, zI y3, zU]) rfl ?_
      exact H173 _ hP
    · have hP := zif_n hP c
      refine zV_aload_n dX1_set_134 rfl ?_
      refine zV_sg dX1_set_135 (fme_2 he) (sae_0 he) (by decide) fl_X1_22_1 rfl ?_
      refine zV_aload_n dX1_set_138 rfl ?_
      refine zV_sg dX1_set_139 (fme_7 he) (sae_0 he) (by decide) fl_X1_39_1 rfl ?_
      refine zV_iload dX1_set_142 rfl ?_
      obtain ⟨ob, hP⟩ := hP
      refine zV_ia dX1_set_144 (sae_8 he) ob ?_
      refine zV_dup2 dX1_set_145 (Nat.ne_of_beq_eq_false rfl) (Nat.ne_of_beq_eq_false rfl) ?_
      obtain ⟨ob, hP⟩ := hP
      refine zV_ia dX1_set_146 (sae_3 he) ob ?_
      refine zV_iconst dX1_set_147 ⟨by decide, by decide⟩ ?_
      refine zV_iadd dX1_set_148 ?_
      obtain ⟨ob, hP⟩ := hP
      refine zV_ias dX1_set_149 (sae_3 he) ob (fun h18 e_h18 => ?_)
      have hP := hP h18 e_h18
      refine zV_aload_n dX1_set_150 rfl ?_
      refine zV_aload_n dX1_set_151 rfl ?_
      refine zV_sg dX1_set_152 (fme_7 he) (sae_0 he) (by decide) fl_X1_39_1 rfl ?_
      refine zV_iload dX1_set_155 rfl ?_
      obtain ⟨ob, hP⟩ := hP
      refine zV_ia dX1_set_157 (sae_8 he) ob ?_
      refine zV_cVv (As := [zI (zd h18 (e + 8) y4)]) (rest := []) dX1_set_158 (sae_0 he) (W_E_look e he _ _ _ hP) mi_X1_look ml_X1_202 (by decide) (Nat.le_of_ble_eq_true rfl) rfl rfl (fun r19 h20 hP => ?_)
      refine zV_aload_n dX1_set_161 rfl ?_
      refine zV_sg dX1_set_162 (fme_8 he) (sae_0 he) (by decide) fl_X1_42_1 rfl ?_
      refine zV_iload dX1_set_165 rfl ?_
      obtain ⟨ob, hP⟩ := hP
      refine zV_ia dX1_set_167 (sae_9 he) ob ?_
      refine zV_top (fun x4_21 e_x4_21 => ?_)
      have hP := hP x4_21 e_x4_21
      refine zV_istore (ls' := [zR e, zU, zI y2, zI y3, zI x4_21]) dX1_set_168 (Nat.le_of_ble_eq_true rfl) rfl rfl ?_
      refine zV_goto (tgt := 126) dX1_set_170 (by decide) ?_
      exact ih _ _ hP
def P_E_set_J19 (e : Int) (y1 : Int) (y2 : Int) (y3 : Int) (s0 : Int) (s1 : Int) (h : zH) (Q : Int → zH → Prop) : Prop :=
(0 ≤ s1 ∧ s1 < 301) ∧
∀ h2 : zH, h2 = zw h (e + 11) s1 s0 →
(0 ≤ y3 ∧ y3 < 301) ∧
∀ h3 : zH, h3 = zw h2 (e + 12) y3 (zd h2 e 21) →
(0 ≤ y3 ∧ y3 < 301) ∧
∀ h4 : zH, h4 = zw h3 (e + 13) y3 y2 →
∀ h5 : zH, h5 = zw h4 e 20 (w32 ((zd h4 e 20) + 1)) →
(0 ≤ zd h4 e 20 ∧ zd h4 e 20 < 300) ∧
∀ h6 : zH, h6 = zw h5 (e + 17) (zd h4 e 20) y1 →
P_E_index e y1 h6 (fun r7 h8 =>
(0 ≤ r7 ∧ r7 < 602) ∧
∀ x4_9 : Int, x4_9 = (zd h8 (e + 10) r7) →
∃ n66, P_E_set_L66 e y1 y2 y3 Q (fun h14 =>
P_E_index e (w32 (-y1)) h14 (fun r15 h16 =>
(0 ≤ r15 ∧ r15 < 602) ∧
∀ x4_17 : Int, x4_17 = (zd h16 (e + 10) r15) →
∃ n126, P_E_set_L126 e y2 y3 Q (fun h22 =>
if zd h22 e 21 = 0 then
(P_E_rootSource e y3 y2 h22 (fun r23 h24 =>
Q 0 h24))
else
(Q 0 h22)) n126 x4_17 h16)) n66 x4_9 h8)
theorem W_E_set_J19 (e : Int) (he : zE e) (y1 : Int) (y2 : Int) (y3 : Int) (s0 : Int) (s1 : Int) (h : zH) (Q : Int → zH → Prop) (hP : P_E_set_J19 e y1 y2 y3 s0 s1 h Q) : zV true zy_X1_set 3 19 [zR e, zI y1, zI y2, zI y3, zU] [zI s0, zI s1, zR (e + 11)] h (zQ0 Q) := by
  unfold P_E_set_J19 at hP
  obtain ⟨ob, hP⟩ := hP
  refine zV_ias dX1_set_19 (sae_11 he) ob (fun h2 e_h2 => ?_)
  have hP := hP h2 e_h2
  refine zV_aload_n dX1_set_20 rfl ?_
  refine zV_sg dX1_set_21 (fme_13 he) (sae_0 he) (by decide) fl_X1_51_1 rfl ?_
  refine zV_iload_n dX1_set_24 rfl ?_
  refine zV_aload_n dX1_set_25 rfl ?_
  refine zV_gf dX1_set_26 (sae_0 he) (by decide) fl_X1_139_1 rfl (ki := 21) rfl ?_
  obtain ⟨ob, hP⟩ := hP
  refine zV_ias dX1_set_29 (sae_12 he) ob (fun h3 e_h3 => ?_)
  have hP := hP h3 e_h3
  refine zV_aload_n dX1_set_30 rfl ?_
  refine zV_sg dX1_set_31 (fme_14 he) (sae_0 he) (by decide) fl_X1_54_1 rfl ?_
  refine zV_iload_n dX1_set_34 rfl ?_
  refine zV_iload_n dX1_set_35 rfl ?_
  obtain ⟨ob, hP⟩ := hP
  refine zV_ias dX1_set_36 (sae_13 he) ob (fun h4 e_h4 => ?_)
  have hP := hP h4 e_h4
  refine zV_aload_n dX1_set_37 rfl ?_
  refine zV_sg dX1_set_38 (fme_18 he) (sae_0 he) (by decide) fl_X1_66_1 rfl ?_
  refine zV_aload_n dX1_set_41 rfl ?_
  refine zV_dup dX1_set_42 (Nat.ne_of_beq_eq_false rfl) ?_
  refine zV_gf dX1_set_43 (sae_0 he) (by decide) fl_X1_136_1 rfl (ki := 20) rfl ?_
  refine zV_dup_x1 dX1_set_46 (Nat.ne_of_beq_eq_false rfl) (Nat.ne_of_beq_eq_false rfl) ?_
  refine zV_iconst dX1_set_47 ⟨by decide, by decide⟩ ?_
  refine zV_iadd dX1_set_48 ?_
  refine zV_pf dX1_set_49 (sae_0 he) (by decide) fl_X1_136_1 rfl rfl trivial (ki := 20) rfl (fun h5 e_h5 => ?_)
  have hP := hP h5 e_h5
  refine zV_iload_n dX1_set_52 rfl ?_
  obtain ⟨ob, hP⟩ := hP
  refine zV_ias dX1_set_53 (sae_17 he) ob (fun h6 e_h6 => ?_)
  have hP := hP h6 e_h6
  refine zV_aload_n dX1_set_54 rfl ?_
  refine zV_sg dX1_set_55 (fme_9 he) (sae_0 he) (by decide) fl_X1_45_1 rfl ?_
  refine zV_aload_n dX1_set_58 rfl ?_
  refine zV_iload_n dX1_set_59 rfl ?_
  refine zV_cVk (As := [zI y1]) (rest := [zR (e + 10)]) dX1_set_60 (sae_0 he) (W_E_index e he _ _ _ hP) mi_X1_index ml_X1_194 (by decide) (Nat.le_of_ble_eq_true rfl) rfl rfl rfl (fun r7 h8 hP => ?_)
  obtain ⟨ob, hP⟩ := hP
  refine zV_ia dX1_set_63 (sae_10 he) ob ?_
  refine zV_top (fun x4_9 e_x4_9 => ?_)
  have hP := hP x4_9 e_x4_9
  refine zV_istore (ls' := [zR e, zI y1, zI y2, zI y3, zI x4_9]) dX1_set_64 (Nat.le_of_ble_eq_true rfl) rfl rfl ?_
  obtain ⟨n66, hP⟩ := hP
  refine W_E_set_L66 e he _ _ _ _ _ (fun h14 hP => ?_) n66 _ _ hP
  refine zV_aload_n dX1_set_113 rfl ?_
  refine zV_sg dX1_set_114 (fme_9 he) (sae_0 he) (by decide) fl_X1_45_1 rfl ?_
  refine zV_aload_n dX1_set_117 rfl ?_
  refine zV_iload_n dX1_set_118 rfl ?_
  refine zV_ineg dX1_set_119 ?_
  refine zV_cVk (As := [zI (w32 (-y1))]) (rest := [zR (e + 10)]) dX1_set_120 (sae_0 he) (W_E_index e he _ _ _ hP) mi_X1_index ml_X1_194 (by decide) (Nat.le_of_ble_eq_true rfl) rfl rfl rfl (fun r15 h16 hP => ?_)
  obtain ⟨ob, hP⟩ := hP
  refine zV_ia dX1_set_123 (sae_10 he) ob ?_
  refine zV_top (fun x4_17 e_x4_17 => ?_)
  have hP := hP x4_17 e_x4_17
  refine zV_istore (ls' := [zR e, zI y1, zI y2, zI y3, zI x4_17]) dX1_set_124 (Nat.le_of_ble_eq_true rfl) rfl rfl ?_
  obtain ⟨n126, hP⟩ := hP
  refine zV_mask [true, false, true, true, true] (ls' := [zR e, zU, zI y2, zI y3, zI x4_17]) rfl ?_
  refine W_E_set_L126 e he _ _ _ _ (fun h22 hP => ?_) n126 _ _ hP
  refine zV_aload_n dX1_set_173 rfl ?_
  refine zV_gf dX1_set_174 (sae_0 he) (by decide) fl_X1_139_1 rfl (ki := 21) rfl ?_
  refine zV_if_ne (tgt := 186) dX1_set_177 (by decide) (fun c => ?_) (fun c => ?_)
  · have hP := zif_n hP c
    exact zV_return dX1_set_186 rfl ⟨rfl, hP⟩
  · have hP := zif_p hP c
    refine zV_aload_n dX1_set_180 rfl ?_
    refine zV_iload_n dX1_set_181 rfl ?_
    refine zV_iload_n dX1_set_182 rfl ?_
    refine zV_cVv (As := [zI y3, zI y2]) (rest := []) dX1_set_183 (sae_0 he) (W_E_rootSource e he _ _ _ _ hP) mi_X1_rootSource ml_X1_226 (by decide) (Nat.le_of_ble_eq_true rfl) rfl rfl (fun r23 h24 hP => ?_)
    exact zV_return dX1_set_186 rfl ⟨rfl, hP⟩
def P_E_set (e : Int) (a1 : Int) (a2 : Int) (h : zH) (Q : Int → zH → Prop) : Prop :=
∀ x3_1 : Int, x3_1 = (zabs a1) →
P_E_set_J19 e a1 a2 x3_1 (if a1 ≤ 0 then (-1) else 1) x3_1 h Q
theorem W_E_set (e : Int) (he : zE e) (a1 : Int) (a2 : Int) (h : zH) (Q : Int → zH → Prop) (hP : P_E_set e a1 a2 h Q) : zC true zy_X1_set 3 [zR e, zI a1, zI a2] h (zQ0 Q) := by
  unfold P_E_set at hP
  refine zC.of (by decide) (Nat.le_of_ble_eq_true rfl) ?_
  show zV true zy_X1_set 3 0 [zR e, zI a1, zI a2, zU, zU] [] h (zQ0 Q)
  refine zV_iload_n dX1_set_0 rfl ?_
  refine zV_mabs dX1_set_1 q1546 q806 q171 q807 (Nat.le_of_ble_eq_true rfl) (by decide) ?_
  refine zV_top (fun x3_1 e_x3_1 => ?_)
  have hP := hP x3_1 e_x3_1
  refine zV_istore_n (ls' := [zR e, zI a1, zI a2, zI x3_1, zU]) dX1_set_4 rfl (Nat.le_of_ble_eq_true rfl) rfl rfl ?_
  refine zV_aload_n dX1_set_5 rfl ?_
  refine zV_sg dX1_set_6 (fme_12 he) (sae_0 he) (by decide) fl_X1_48_1 rfl ?_
  refine zV_iload_n dX1_set_9 rfl ?_
  refine zV_iload_n dX1_set_10 rfl ?_
  have K : zV true zy_X1_set 3 19 [zR e, zI a1, zI a2, zI x3_1, zU] [zI (if a1 ≤ 0 then (-1) else 1), zI x3_1, zR (e + 11)] h (zQ0 Q) := by
    exact W_E_set_J19 e he _ _ _ _ _ _ _ hP
  clear hP
  refine zV_if_le (tgt := 18) dX1_set_11 (by decide) (fun c => ?_) (fun c => ?_)
  · try simp only [if_pos c] at K
    refine zV_iconst dX1_set_18 ⟨by decide, by decide⟩ ?_
    refine zV_mask [true, true, true, true, false] rfl ?_
    exact K
  · try simp only [if_neg c] at K
    refine zV_iconst dX1_set_14 ⟨by decide, by decide⟩ ?_
    refine zV_goto (tgt := 19) dX1_set_15 (by decide) ?_
    refine zV_mask [true, true, true, true, false] rfl ?_
    exact K
def P_E_force_L0 (e : Int) (Q : Int → zH → Prop) : Nat → zH → Prop
| 0, _ => False
| n0 + 1, h =>
P_E_firstQuarrel e h (fun r1 h2 =>
if r1 = (-1005) then
(P_E_firstForcing e h2 (fun r3 h4 =>
if r3 = (-1005) then
(Q (-1005) h4)
else
(if zd h4 e 31 = 0 then
(Q (-1004) h4)
else
(P_E_step e h4 (fun r5 h6 =>
∀ h7 : zH, h7 = zw h6 e 32 (w32 ((zd h6 e 32) + 1)) →
P_E_openOf e r3 h7 (fun r8 h9 =>
P_E_set e r8 r3 h9 (fun r10 h11 =>
P_E_force_L0 e Q n0 h11)))))))
else
(Q r1 h2))
theorem W_E_force_L0 (e : Int) (he : zE e) (Q : Int → zH → Prop) : ∀ (n0 : Nat) (h : zH), P_E_force_L0 e Q n0 h → zV true zy_X1_force 4 0 [zR e, zU, zU] [] h (zQ0 Q) := by
  intro n0
  induction n0 with
  | zero => intro h hP; exact absurd hP id
  | succ n0 ih =>
    intro h hP
    unfold P_E_force_L0 at hP
    refine zV_aload_n dX1_force_0 rfl ?_
    refine zV_cVk (As := []) (rest := []) dX1_force_1 (sae_0 he) (W_E_firstQuarrel e he _ _ hP) mi_X1_firstQuarrel ml_X1_253 (by decide) (Nat.le_of_ble_eq_true rfl) rfl rfl rfl (fun r1 h2 hP => ?_)
    refine zV_istore_n (ls' := [zR e, zI r1, zU]) dX1_force_4 rfl (Nat.le_of_ble_eq_true rfl) rfl rfl ?_
    refine zV_iload_n dX1_force_5 rfl ?_
    refine zV_sipush dX1_force_6 ⟨by decide, by decide, by decide⟩ ?_
    refine zV_icmp_eq (tgt := 14) dX1_force_9 (by decide) (fun c => ?_) (fun c => ?_)
    · have hP := zif_p hP c
      refine zV_aload_n dX1_force_14 rfl ?_
      refine zV_cVk (As := []) (rest := []) dX1_force_15 (sae_0 he) (W_E_firstForcing e he _ _ hP) mi_X1_firstForcing ml_X1_257 (by decide) (Nat.le_of_ble_eq_true rfl) rfl rfl rfl (fun r3 h4 hP => ?_)
      refine zV_istore_n (ls' := [zR e, zI r1, zI r3]) dX1_force_18 rfl (Nat.le_of_ble_eq_true rfl) rfl rfl ?_
      refine zV_iload_n dX1_force_19 rfl ?_
      refine zV_sipush dX1_force_20 ⟨by decide, by decide, by decide⟩ ?_
      refine zV_icmp_ne (tgt := 30) dX1_force_23 (by decide) (fun c => ?_) (fun c => ?_)
      · have hP := zif_n hP c
        refine zV_aload_n dX1_force_30 rfl ?_
        refine zV_gf dX1_force_31 (sae_0 he) (by decide) fl_X1_260_1 rfl (ki := 31) rfl ?_
        refine zV_if_ne (tgt := 41) dX1_force_34 (by decide) (fun c => ?_) (fun c => ?_)
        · have hP := zif_n hP c
          refine zV_aload_n dX1_force_41 rfl ?_
          refine zV_cVv (As := []) (rest := []) dX1_force_42 (sae_0 he) (W_E_step e he _ _ hP) mi_X1_step ml_X1_263 (by decide) (Nat.le_of_ble_eq_true rfl) rfl rfl (fun r5 h6 hP => ?_)
          refine zV_aload_n dX1_force_45 rfl ?_
          refine zV_dup dX1_force_46 (Nat.ne_of_beq_eq_false rfl) ?_
          refine zV_gf dX1_force_47 (sae_0 he) (by decide) fl_X1_160_1 rfl (ki := 32) rfl ?_
          refine zV_iconst dX1_force_50 ⟨by decide, by decide⟩ ?_
          refine zV_iadd dX1_force_51 ?_
          refine zV_pf dX1_force_52 (sae_0 he) (by decide) fl_X1_160_1 rfl rfl trivial (ki := 32) rfl (fun h7 e_h7 => ?_)
          have hP := hP h7 e_h7
          refine zV_aload_n dX1_force_55 rfl ?_
          refine zV_aload_n dX1_force_56 rfl ?_
          refine zV_iload_n dX1_force_57 rfl ?_
          refine zV_cVk (As := [zI r3]) (rest := [zR e]) dX1_force_58 (sae_0 he) (W_E_openOf e he _ _ _ hP) mi_X1_openOf ml_X1_266 (by decide) (Nat.le_of_ble_eq_true rfl) rfl rfl rfl (fun r8 h9 hP => ?_)
          refine zV_iload_n dX1_force_61 rfl ?_
          refine zV_cVv (As := [zI r8, zI r3]) (rest := []) dX1_force_62 (sae_0 he) (W_E_set e he _ _ _ _ hP) mi_X1_set ml_X1_269 (by decide) (Nat.le_of_ble_eq_true rfl) rfl rfl (fun r10 h11 hP => ?_)
          refine zV_goto (tgt := 0) dX1_force_65 (by decide) ?_
          refine zV_mask [true, false, false] (ls' := [zR e, zU, zU]) rfl ?_
          exact ih _ hP
        · have hP := zif_p hP c
          refine zV_sipush dX1_force_37 ⟨by decide, by decide, by decide⟩ ?_
          exact zV_ireturn dX1_force_40 rfl rfl rfl ⟨rfl, hP⟩
      · have hP := zif_p hP c
        refine zV_sipush dX1_force_26 ⟨by decide, by decide, by decide⟩ ?_
        exact zV_ireturn dX1_force_29 rfl rfl rfl ⟨rfl, hP⟩
    · have hP := zif_n hP c
      refine zV_iload_n dX1_force_12 rfl ?_
      exact zV_ireturn dX1_force_13 rfl rfl rfl ⟨rfl, hP⟩
def P_E_force (e : Int) (h : zH) (Q : Int → zH → Prop) : Prop :=
∃ n0, P_E_force_L0 e Q n0 h
theorem W_E_force (e : Int) (he : zE e) (h : zH) (Q : Int → zH → Prop) (hP : P_E_force e  h Q) : zC true zy_X1_force 4 [zR e] h (zQ0 Q) := by
  unfold P_E_force at hP
  refine zC.of (by decide) (Nat.le_of_ble_eq_true rfl) ?_
  show zV true zy_X1_force 4 0 [zR e, zU, zU] [] h (zQ0 Q)
  obtain ⟨n0, hP⟩ := hP
  refine W_E_force_L0 e he _ n0 _ hP
def P_E_keepTruth_L2 (e : Int) (Q : Int → zH → Prop) : Nat → Int → zH → Prop
| 0, _, _ => False
| n2 + 1, y1, h =>
if zd h e 11 < y1 then
(Q 0 h)
else
((0 ≤ y1 ∧ y1 < 301) ∧
(0 ≤ y1 ∧ y1 < 301) ∧
∀ h1 : zH, h1 = zw h (e + 32) y1 (zd h (e + 11) y1) →
∀ x1_2 : Int, x1_2 = w32 (y1 + 1) →
P_E_keepTruth_L2 e Q n2 x1_2 h1)
theorem W_E_keepTruth_L2 (e : Int) (he : zE e) (Q : Int → zH → Prop) : ∀ (n2 : Nat) (y1 : Int) (h : zH), P_E_keepTruth_L2 e Q n2 y1 h → zV true zy_X1_keepTruth 1 2 [zR e, zI y1] [] h (zQ0 Q) := by
  intro n2
  induction n2 with
  | zero => intro y1 h hP; exact absurd hP id
  | succ n2 ih =>
    intro y1 h hP
    unfold P_E_keepTruth_L2 at hP
    refine zV_iload_n dX1_keepTruth_2 rfl ?_
    refine zV_aload_n dX1_keepTruth_3 rfl ?_
    refine zV_gf dX1_keepTruth_4 (sae_0 he) (by decide) fl_X1_121_1 rfl (ki := 11) rfl ?_
    refine zV_icmp_gt (tgt := 28) dX1_keepTruth_7 (by decide) (fun c => ?_) (fun c => ?_)
    · have hP := zif_p hP c
      exact zV_return dX1_keepTruth_28 rfl ⟨rfl, hP⟩
    · have hP := zif_n hP c
      refine zV_aload_n dX1_keepTruth_10 rfl ?_
      refine zV_sg dX1_keepTruth_11 (fme_56 he) (sae_0 he) (by decide) fl_X1_115_1 rfl ?_
      refine zV_iload_n dX1_keepTruth_14 rfl ?_
      refine zV_aload_n dX1_keepTruth_15 rfl ?_
      refine zV_sg dX1_keepTruth_16 (fme_12 he) (sae_0 he) (by decide) fl_X1_48_1 rfl ?_
      refine zV_iload_n dX1_keepTruth_19 rfl ?_
      obtain ⟨ob, hP⟩ := hP
      refine zV_ia dX1_keepTruth_20 (sae_11 he) ob ?_
      obtain ⟨ob, hP⟩ := hP
      refine zV_ias dX1_keepTruth_21 (sae_32 he) ob (fun h1 e_h1 => ?_)
      have hP := hP h1 e_h1
      refine zV_inc (ls' := fun z => [zR e, zI z]) dX1_keepTruth_22 (Nat.le_of_ble_eq_true rfl) rfl rfl (fun _ => rfl) (fun x1_2 e_x1_2 => ?_)
      have hP := hP x1_2 e_x1_2
      refine zV_goto (tgt := 2) dX1_keepTruth_25 (by decide) ?_
      exact ih _ _ hP
def P_E_keepTruth (e : Int) (h : zH) (Q : Int → zH → Prop) : Prop :=
∃ n2, P_E_keepTruth_L2 e Q n2 1 h
theorem W_E_keepTruth (e : Int) (he : zE e) (h : zH) (Q : Int → zH → Prop) (hP : P_E_keepTruth e  h Q) : zC true zy_X1_keepTruth 1 [zR e] h (zQ0 Q) := by
  unfold P_E_keepTruth at hP
  refine zC.of (by decide) (Nat.le_of_ble_eq_true rfl) ?_
  show zV true zy_X1_keepTruth 1 0 [zR e, zU] [] h (zQ0 Q)
  refine zV_iconst dX1_keepTruth_0 ⟨by decide, by decide⟩ ?_
  refine zV_istore_n (ls' := [zR e, zI 1]) dX1_keepTruth_1 rfl (Nat.le_of_ble_eq_true rfl) rfl rfl ?_
  obtain ⟨n2, hP⟩ := hP
  refine W_E_keepTruth_L2 e he _ n2 _ _ hP
def P_E_back_L94 (e : Int) (y1 : Int) (y2 : Int) (y3 : Int) (Q : Int → zH → Prop) (k141 : zH → Prop) : Nat → Int → zH → Prop
| 0, _, _ => False
| n94 + 1, y5, h =>
if y5 = (-1005) then
(k141 h)
else
((0 ≤ y5 ∧ y5 < 12080) ∧
(0 ≤ zd h (e + 8) y5 ∧ zd h (e + 8) y5 < 1364) ∧
(0 ≤ zd h (e + 8) y5 ∧ zd h (e + 8) y5 < 1364) ∧
∀ h10 : zH, h10 = zw h (e + 4) (zd h (e + 8) y5) (w32 ((zd h (e + 4) (zd h (e + 8) y5)) - 1)) →
(0 ≤ y5 ∧ y5 < 12080) ∧
P_E_look e (zd h10 (e + 8) y5) h10 (fun r11 h12 =>
(0 ≤ y5 ∧ y5 < 12080) ∧
∀ x5_13 : Int, x5_13 = (zd h12 (e + 9) y5) →
P_E_back_L94 e y1 y2 y3 Q k141 n94 x5_13 h12))
theorem W_E_back_L94 (e : Int) (he : zE e) (y1 : Int) (y2 : Int) (y3 : Int) (Q : Int → zH → Prop) (k141 : zH → Prop) (H141 : ∀ (h' : zH), k141 h' → zV true zy_X1_back 2 141 [zR e, zI y1, zI y2, zI y3, zU, zU] [] h' (zQ0 Q)) : ∀ (n94 : Nat) (y5 : Int) (h : zH), P_E_back_L94 e y1 y2 y3 Q k141 n94 y5 h → zV true zy_X1_back 2 94 [zR e, zI y1, zI y2, zI y3, zU, zI y5] [] h (zQ0 Q) := by
  intro n94
  induction n94 with
  | zero => intro y5 h hP; exact absurd hP id
  | succ n94 ih =>
    intro y5 h hP
    unfold P_E_back_L94 at hP
    refine zV_iload dX1_back_94 rfl ?_
    refine zV_sipush dX1_back_96 ⟨by decide, by decide, by decide⟩ ?_
    refine zV_icmp_eq (tgt := 141) dX1_back_99 (by decide) (fun c => ?_) (fun c => ?_)
    · have hP := zif_p hP c
      refine zV_mask [true, true, true, true, true, false] (ls' := [zR e, zI y1, zI y2, zI y3, zU, zU]) rfl ?_
      exact H141 _ hP
    · have hP := zif_n hP c
      refine zV_aload_n dX1_back_102 rfl ?_
      refine zV_sg dX1_back_103 (fme_3 he) (sae_0 he) (by decide) fl_X1_25_1 rfl ?_
      refine zV_aload_n dX1_back_106 rfl ?_
      refine zV_sg dX1_back_107 (fme_7 he) (sae_0 he) (by decide) fl_X1_39_1 rfl ?_
      refine zV_iload dX1_back_110 rfl ?_
      obtain ⟨ob, hP⟩ := hP
      refine zV_ia dX1_back_112 (sae_8 he) ob ?_
      refine zV_dup2 dX1_back_113 (Nat.ne_of_beq_eq_false rfl) (Nat.ne_of_beq_eq_false rfl) ?_
      obtain ⟨ob, hP⟩ := hP
      refine zV_ia dX1_back_114 (sae_4 he) ob ?_
      refine zV_iconst dX1_back_115 ⟨by decide, by decide⟩ ?_
      refine zV_isub dX1_back_116 ?_
      obtain ⟨ob, hP⟩ := hP
      refine zV_ias dX1_back_117 (sae_4 he) ob (fun h10 e_h10 => ?_)
      have hP := hP h10 e_h10
      refine zV_aload_n dX1_back_118 rfl ?_
      refine zV_aload_n dX1_back_119 rfl ?_
      refine zV_sg dX1_back_120 (fme_7 he) (sae_0 he) (by decide) fl_X1_39_1 rfl ?_
      refine zV_iload dX1_back_123 rfl ?_
      obtain ⟨ob, hP⟩ := hP
      refine zV_ia dX1_back_125 (sae_8 he) ob ?_
      refine zV_cVv (As := [zI (zd h10 (e + 8) y5)]) (rest := []) dX1_back_126 (sae_0 he) (W_E_look e he _ _ _ hP) mi_X1_look ml_X1_202 (by decide) (Nat.le_of_ble_eq_true rfl) rfl rfl (fun r11 h12 hP => ?_)
      refine zV_aload_n dX1_back_129 rfl ?_
      refine zV_sg dX1_back_130 (fme_8 he) (sae_0 he) (by decide) fl_X1_42_1 rfl ?_
      refine zV_iload dX1_back_133 rfl ?_
      obtain ⟨ob, hP⟩ := hP
      refine zV_ia dX1_back_135 (sae_9 he) ob ?_
      refine zV_top (fun x5_13 e_x5_13 => ?_)
      have hP := hP x5_13 e_x5_13
      refine zV_istore (ls' := [zR e, zI y1, zI y2, zI y3, zU, zI x5_13]) dX1_back_136 (Nat.le_of_ble_eq_true rfl) rfl rfl ?_
      refine zV_goto (tgt := 94) dX1_back_138 (by decide) ?_
      exact ih _ _ hP
def P_E_back_L154 (e : Int) (y1 : Int) (y2 : Int) (Q : Int → zH → Prop) (k201 : zH → Prop) : Nat → Int → zH → Prop
| 0, _, _ => False
| n154 + 1, y5, h =>
if y5 = (-1005) then
(k201 h)
else
((0 ≤ y5 ∧ y5 < 12080) ∧
(0 ≤ zd h (e + 8) y5 ∧ zd h (e + 8) y5 < 1364) ∧
(0 ≤ zd h (e + 8) y5 ∧ zd h (e + 8) y5 < 1364) ∧
∀ h18 : zH, h18 = zw h (e + 3) (zd h (e + 8) y5) (w32 ((zd h (e + 3) (zd h (e + 8) y5)) - 1)) →
(0 ≤ y5 ∧ y5 < 12080) ∧
P_E_look e (zd h18 (e + 8) y5) h18 (fun r19 h20 =>
(0 ≤ y5 ∧ y5 < 12080) ∧
∀ x5_21 : Int, x5_21 = (zd h20 (e + 9) y5) →
P_E_back_L154 e y1 y2 Q k201 n154 x5_21 h20))
theorem W_E_back_L154 (e : Int) (he : zE e) (y1 : Int) (y2 : Int) (Q : Int → zH → Prop) (k201 : zH → Prop) (H201 : ∀ (h' : zH), k201 h' → zV true zy_X1_back 2 201 [zR e, zI y1, zI y2, zU, zU, zU] [] h' (zQ0 Q)) : ∀ (n154 : Nat) (y5 : Int) (h : zH), P_E_back_L154 e y1 y2 Q k201 n154 y5 h → zV true zy_X1_back 2 154 [zR e, zI y1, zI y2, zU, zU, zI y5] [] h (zQ0 Q) := by
  intro n154
  induction n154 with
  | zero => intro y5 h hP; exact absurd hP id
  | succ n154 ih =>
    intro y5 h hP
    unfold P_E_back_L154 at hP
    refine zV_iload dX1_back_154 rfl ?_
    refine zV_sipush dX1_back_156 ⟨by decide, by decide, by decide⟩ ?_
    refine zV_icmp_eq (tgt := 201) dX1_back_159 (by decide) (fun c => ?_) (fun c => ?_)
    · have hP := zif_p hP c
      refine zV_mask [true, true, true, true, true, false] (ls' := [zR e, zI y1, zI y2, zU, zU, zU]) rfl ?_
      exact H201 _ hP
    · have hP := zif_n hP c
      refine zV_aload_n dX1_back_162 rfl ?_
      refine zV_sg dX1_back_163 (fme_2 he) (sae_0 he) (by decide) fl_X1_22_1 rfl ?_
      refine zV_aload_n dX1_back_166 rfl ?_
      refine zV_sg dX1_back_167 (fme_7 he) (sae_0 he) (by decide) fl_X1_39_1 rfl ?_
      refine zV_iload dX1_back_170 rfl ?_
      obtain ⟨ob, hP⟩ := hP
      refine zV_ia dX1_back_172 (sae_8 he) ob ?_
      refine zV_dup2 dX1_back_173 (Nat.ne_of_beq_eq_false rfl) (Nat.ne_of_beq_eq_false rfl) ?_
      obtain ⟨ob, hP⟩ := hP
      refine zV_ia dX1_back_174 (sae_3 he) ob ?_
      refine zV_iconst dX1_back_175 ⟨by decide, by decide⟩ ?_
      refine zV_isub dX1_back_176 ?_
      obtain ⟨ob, hP⟩ := hP
      refine zV_ias dX1_back_177 (sae_3 he) ob (fun h18 e_h18 => ?_)
      have hP := hP h18 e_h18
      refine zV_aload_n dX1_back_178 rfl ?_
      refine zV_aload_n dX1_back_179 rfl ?_
      refine zV_sg dX1_back_180 (fme_7 he) (sae_0 he) (by decide) fl_X1_39_1 rfl ?_
      refine zV_iload dX1_back_183 rfl ?_
      obtain ⟨ob, hP⟩ := hP
      refine zV_ia dX1_back_185 (sae_8 he) ob ?_
      refine zV_cVv (As := [zI (zd h18 (e + 8) y5)]) (rest := []) dX1_back_186 (sae_0 he) (W_E_look e he _ _ _ hP) mi_X1_look ml_X1_202 (by decide) (Nat.le_of_ble_eq_true rfl) rfl rfl (fun r19 h20 hP => ?_)
      refine zV_aload_n dX1_back_189 rfl ?_
      refine zV_sg dX1_back_190 (fme_8 he) (sae_0 he) (by decide) fl_X1_42_1 rfl ?_
      refine zV_iload dX1_back_193 rfl ?_
      obtain ⟨ob, hP⟩ := hP
      refine zV_ia dX1_back_195 (sae_9 he) ob ?_
      refine zV_top (fun x5_21 e_x5_21 => ?_)
      have hP := hP x5_21 e_x5_21
      refine zV_istore (ls' := [zR e, zI y1, zI y2, zU, zU, zI x5_21]) dX1_back_196 (Nat.le_of_ble_eq_true rfl) rfl rfl ?_
      refine zV_goto (tgt := 154) dX1_back_198 (by decide) ?_
      exact ih _ _ hP
def P_E_back_J73 (e : Int) (y1 : Int) (y2 : Int) (y3 : Int) (y4 : Int) (s0 : Int) (s1 : Int) (h : zH) (Q : Int → zH → Prop) (k24 : zH → Prop) : Prop :=
(0 ≤ s1 ∧ s1 < 301) ∧
∀ h5 : zH, h5 = zw h (e + 14) s1 s0 →
(0 ≤ y4 ∧ y4 < 301) ∧
∀ h6 : zH, h6 = zw h5 (e + 11) y4 0 →
P_E_index e y3 h6 (fun r7 h8 =>
(0 ≤ r7 ∧ r7 < 602) ∧
∀ x5_9 : Int, x5_9 = (zd h8 (e + 10) r7) →
∃ n94, P_E_back_L94 e y1 y2 y3 Q (fun h14 =>
P_E_index e (w32 (-y3)) h14 (fun r15 h16 =>
(0 ≤ r15 ∧ r15 < 602) ∧
∀ x5_17 : Int, x5_17 = (zd h16 (e + 10) r15) →
∃ n154, P_E_back_L154 e y1 y2 Q (fun h22 =>
k24 h22) n154 x5_17 h16)) n94 x5_9 h8)
theorem W_E_back_J73 (e : Int) (he : zE e) (y1 : Int) (y2 : Int) (y3 : Int) (y4 : Int) (s0 : Int) (s1 : Int) (h : zH) (Q : Int → zH → Prop) (k24 : zH → Prop) (H24 : ∀ (h' : zH), k24 h' → zV true zy_X1_back 2 24 [zR e, zI y1, zI y2, zU, zU, zU] [] h' (zQ0 Q)) (hP : P_E_back_J73 e y1 y2 y3 y4 s0 s1 h Q k24) : zV true zy_X1_back 2 73 [zR e, zI y1, zI y2, zI y3, zI y4, zU] [zI s0, zI s1, zR (e + 14)] h (zQ0 Q) := by
  unfold P_E_back_J73 at hP
  obtain ⟨ob, hP⟩ := hP
  refine zV_ias dX1_back_73 (sae_14 he) ob (fun h5 e_h5 => ?_)
  have hP := hP h5 e_h5
  refine zV_aload_n dX1_back_74 rfl ?_
  refine zV_sg dX1_back_75 (fme_12 he) (sae_0 he) (by decide) fl_X1_48_1 rfl ?_
  refine zV_iload dX1_back_78 rfl ?_
  refine zV_iconst dX1_back_80 ⟨by decide, by decide⟩ ?_
  obtain ⟨ob, hP⟩ := hP
  refine zV_ias dX1_back_81 (sae_11 he) ob (fun h6 e_h6 => ?_)
  have hP := hP h6 e_h6
  refine zV_aload_n dX1_back_82 rfl ?_
  refine zV_sg dX1_back_83 (fme_9 he) (sae_0 he) (by decide) fl_X1_45_1 rfl ?_
  refine zV_aload_n dX1_back_86 rfl ?_
  refine zV_iload_n dX1_back_87 rfl ?_
  refine zV_cVk (As := [zI y3]) (rest := [zR (e + 10)]) dX1_back_88 (sae_0 he) (W_E_index e he _ _ _ hP) mi_X1_index ml_X1_194 (by decide) (Nat.le_of_ble_eq_true rfl) rfl rfl rfl (fun r7 h8 hP => ?_)
  obtain ⟨ob, hP⟩ := hP
  refine zV_ia dX1_back_91 (sae_10 he) ob ?_
  refine zV_top (fun x5_9 e_x5_9 => ?_)
  have hP := hP x5_9 e_x5_9
  refine zV_istore (ls' := [zR e, zI y1, zI y2, zI y3, zI y4, zI x5_9]) dX1_back_92 (Nat.le_of_ble_eq_true rfl) rfl rfl ?_
  obtain ⟨n94, hP⟩ := hP
  refine zV_mask [true, true, true, true, false, true] (ls' := [zR e, zI y1, zI y2, zI y3, zU, zI x5_9]) rfl ?_
  refine W_E_back_L94 e he _ _ _ _ _ (fun h14 hP => ?_) n94 _ _ hP
  refine zV_aload_n dX1_back_141 rfl ?_
  refine zV_sg dX1_back_142 (fme_9 he) (sae_0 he) (by decide) fl_X1_45_1 rfl ?_
  refine zV_aload_n dX1_back_145 rfl ?_
  refine zV_iload_n dX1_back_146 rfl ?_
  refine zV_ineg dX1_back_147 ?_
  refine zV_cVk (As := [zI (w32 (-y3))]) (rest := [zR (e + 10)]) dX1_back_148 (sae_0 he) (W_E_index e he _ _ _ hP) mi_X1_index ml_X1_194 (by decide) (Nat.le_of_ble_eq_true rfl) rfl rfl rfl (fun r15 h16 hP => ?_)
  obtain ⟨ob, hP⟩ := hP
  refine zV_ia dX1_back_151 (sae_10 he) ob ?_
  refine zV_top (fun x5_17 e_x5_17 => ?_)
  have hP := hP x5_17 e_x5_17
  refine zV_istore (ls' := [zR e, zI y1, zI y2, zI y3, zU, zI x5_17]) dX1_back_152 (Nat.le_of_ble_eq_true rfl) rfl rfl ?_
  obtain ⟨n154, hP⟩ := hP
  refine zV_mask [true, true, true, false, true, true] (ls' := [zR e, zI y1, zI y2, zU, zU, zI x5_17]) rfl ?_
  refine W_E_back_L154 e he _ _ _ _ (fun h22 hP => ?_) n154 _ _ hP
  refine zV_goto (tgt := 24) dX1_back_201 (by decide) ?_
  exact H24 _ hP
def P_E_back_L24 (e : Int) (y1 : Int) (y2 : Int) (Q : Int → zH → Prop) : Nat → zH → Prop
| 0, _ => False
| n24 + 1, h =>
if zd h e 20 ≤ y2 then
(∀ h1 : zH, h1 = zw h e 21 (zmin (zd h e 21) y1) →
Q 0 h1)
else
(∀ h2 : zH, h2 = zw h e 20 (w32 ((zd h e 20) - 1)) →
(0 ≤ zd h2 e 20 ∧ zd h2 e 20 < 300) ∧
∀ x3_3 : Int, x3_3 = (zd h2 (e + 17) (zd h2 e 20)) →
∀ x4_4 : Int, x4_4 = (zabs x3_3) →
P_E_back_J73 e y1 y2 x3_3 x4_4 (if x3_3 ≤ 0 then 0 else 1) x4_4 h2 Q (P_E_back_L24 e y1 y2 Q n24))
theorem W_E_back_L24 (e : Int) (he : zE e) (y1 : Int) (y2 : Int) (Q : Int → zH → Prop) : ∀ (n24 : Nat) (h : zH), P_E_back_L24 e y1 y2 Q n24 h → zV true zy_X1_back 2 24 [zR e, zI y1, zI y2, zU, zU, zU] [] h (zQ0 Q) := by
  intro n24
  induction n24 with
  | zero => intro h hP; exact absurd hP id
  | succ n24 ih =>
    intro h hP
    unfold P_E_back_L24 at hP
    refine zV_aload_n dX1_back_24 rfl ?_
    refine zV_gf dX1_back_25 (sae_0 he) (by decide) fl_X1_136_1 rfl (ki := 20) rfl ?_
    refine zV_iload_n dX1_back_28 rfl ?_
    refine zV_icmp_le (tgt := 204) dX1_back_29 (by decide) (fun c => ?_) (fun c => ?_)
    · have hP := zif_p hP c
      refine zV_aload_n dX1_back_204 rfl ?_
      refine zV_aload_n dX1_back_205 rfl ?_
      refine zV_gf dX1_back_206 (sae_0 he) (by decide) fl_X1_139_1 rfl (ki := 21) rfl ?_
      refine zV_iload_n dX1_back_209 rfl ?_
      refine zV_mmin dX1_back_210 q1615 q778 q171 q779 (Nat.le_of_ble_eq_true rfl) (by decide) ?_
      refine zV_pf dX1_back_213 (sae_0 he) (by decide) fl_X1_139_1 rfl rfl trivial (ki := 21) rfl (fun h1 e_h1 => ?_)
      have hP := hP h1 e_h1
      exact zV_return dX1_back_216 rfl ⟨rfl, hP⟩
    · have hP := zif_n hP c
      refine zV_aload_n dX1_back_32 rfl ?_
      refine zV_dup dX1_back_33 (Nat.ne_of_beq_eq_false rfl) ?_
      refine zV_gf dX1_back_34 (sae_0 he) (by decide) fl_X1_136_1 rfl (ki := 20) rfl ?_
      refine zV_iconst dX1_back_37 ⟨by decide, by decide⟩ ?_
      refine zV_isub dX1_back_38 ?_
      refine zV_pf dX1_back_39 (sae_0 he) (by decide) fl_X1_136_1 rfl rfl trivial (ki := 20) rfl (fun h2 e_h2 => ?_)
      have hP := hP h2 e_h2
      refine zV_aload_n dX1_back_42 rfl ?_
      refine zV_sg dX1_back_43 (fme_18 he) (sae_0 he) (by decide) fl_X1_66_1 rfl ?_
      refine zV_aload_n dX1_back_46 rfl ?_
      refine zV_gf dX1_back_47 (sae_0 he) (by decide) fl_X1_136_1 rfl (ki := 20) rfl ?_
      obtain ⟨ob, hP⟩ := hP
      refine zV_ia dX1_back_50 (sae_17 he) ob ?_
      refine zV_top (fun x3_3 e_x3_3 => ?_)
      have hP := hP x3_3 e_x3_3
      refine zV_istore_n (ls' := [zR e, zI y1, zI y2, zI x3_3, zU, zU]) dX1_back_51 rfl (Nat.le_of_ble_eq_true rfl) rfl rfl ?_
      refine zV_iload_n dX1_back_52 rfl ?_
      refine zV_mabs dX1_back_53 q1546 q806 q171 q807 (Nat.le_of_ble_eq_true rfl) (by decide) ?_
      refine zV_top (fun x4_4 e_x4_4 => ?_)
      have hP := hP x4_4 e_x4_4
      refine zV_istore (ls' := [zR e, zI y1, zI y2, zI x3_3, zI x4_4, zU]) dX1_back_56 (Nat.le_of_ble_eq_true rfl) rfl rfl ?_
      refine zV_aload_n dX1_back_58 rfl ?_
      refine zV_sg dX1_back_59 (fme_15 he) (sae_0 he) (by decide) fl_X1_57_1 rfl ?_
      refine zV_iload dX1_back_62 rfl ?_
      refine zV_iload_n dX1_back_64 rfl ?_
      have K : zV true zy_X1_back 2 73 [zR e, zI y1, zI y2, zI x3_3, zI x4_4, zU] [zI (if x3_3 ≤ 0 then 0 else 1), zI x4_4, zR (e + 14)] h2 (zQ0 Q) := by
        exact W_E_back_J73 e he _ _ _ _ _ _ _ _ _ ih hP
      clear hP
      refine zV_if_le (tgt := 72) dX1_back_65 (by decide) (fun c => ?_) (fun c => ?_)
      · try simp only [if_pos c] at K
        refine zV_iconst dX1_back_72 ⟨by decide, by decide⟩ ?_
        refine zV_mask [true, true, true, true, true, false] rfl ?_
        exact K
      · try simp only [if_neg c] at K
        refine zV_iconst dX1_back_68 ⟨by decide, by decide⟩ ?_
        refine zV_goto (tgt := 73) dX1_back_69 (by decide) ?_
        refine zV_mask [true, true, true, true, true, false] rfl ?_
        exact K
def P_E_back_J23 (e : Int) (y1 : Int) (s0 : Int) (h : zH) (Q : Int → zH → Prop) : Prop :=
∃ n24, P_E_back_L24 e y1 s0 Q n24 h
theorem W_E_back_J23 (e : Int) (he : zE e) (y1 : Int) (s0 : Int) (h : zH) (Q : Int → zH → Prop) (hP : P_E_back_J23 e y1 s0 h Q) : zV true zy_X1_back 2 23 [zR e, zI y1, zU, zU, zU, zU] [zI s0] h (zQ0 Q) := by
  unfold P_E_back_J23 at hP
  refine zV_istore_n (ls' := [zR e, zI y1, zI s0, zU, zU, zU]) dX1_back_23 rfl (Nat.le_of_ble_eq_true rfl) rfl rfl ?_
  obtain ⟨n24, hP⟩ := hP
  refine W_E_back_L24 e he _ _ _ n24 _ hP
def P_E_back (e : Int) (a1 : Int) (h : zH) (Q : Int → zH → Prop) : Prop :=
(if zd h e 21 ≤ a1 then True else (0 ≤ w32 (a1 + 1) ∧ w32 (a1 + 1) < 322) ∧ True) ∧
P_E_back_J23 e a1 (if zd h e 21 ≤ a1 then zd h e 20 else zd h (e + 18) (w32 (a1 + 1))) h Q
theorem W_E_back (e : Int) (he : zE e) (a1 : Int) (h : zH) (Q : Int → zH → Prop) (hP : P_E_back e a1 h Q) : zC true zy_X1_back 2 [zR e, zI a1] h (zQ0 Q) := by
  unfold P_E_back at hP
  refine zC.of (by decide) (Nat.le_of_ble_eq_true rfl) ?_
  show zV true zy_X1_back 2 0 [zR e, zI a1, zU, zU, zU, zU] [] h (zQ0 Q)
  refine zV_aload_n dX1_back_0 rfl ?_
  refine zV_gf dX1_back_1 (sae_0 he) (by decide) fl_X1_139_1 rfl (ki := 21) rfl ?_
  refine zV_iload_n dX1_back_4 rfl ?_
  obtain ⟨hO, hP⟩ := hP
  have K : zV true zy_X1_back 2 23 [zR e, zI a1, zU, zU, zU, zU] [zI (if zd h e 21 ≤ a1 then zd h e 20 else zd h (e + 18) (w32 (a1 + 1)))] h (zQ0 Q) := by
    exact W_E_back_J23 e he _ _ _ _ hP
  clear hP
  refine zV_icmp_le (tgt := 19) dX1_back_5 (by decide) (fun c => ?_) (fun c => ?_)
  · try simp only [if_pos c] at K
    have hO := zif_p hO c
    refine zV_aload_n dX1_back_19 rfl ?_
    refine zV_gf dX1_back_20 (sae_0 he) (by decide) fl_X1_136_1 rfl (ki := 20) rfl ?_
    refine zV_mask [true, true, false, false, false, false] rfl ?_
    exact K
  · try simp only [if_neg c] at K
    have hO := zif_n hO c
    refine zV_aload_n dX1_back_8 rfl ?_
    refine zV_sg dX1_back_9 (fme_19 he) (sae_0 he) (by decide) fl_X1_69_1 rfl ?_
    refine zV_iload_n dX1_back_12 rfl ?_
    refine zV_iconst dX1_back_13 ⟨by decide, by decide⟩ ?_
    refine zV_iadd dX1_back_14 ?_
    obtain ⟨ob, hO⟩ := hO
    refine zV_ia dX1_back_15 (sae_18 he) ob ?_
    refine zV_goto (tgt := 23) dX1_back_16 (by decide) ?_
    refine zV_mask [true, true, false, false, false, false] rfl ?_
    exact K
def P_E_beginSet_L2 (e : Int) (Q : Int → zH → Prop) (k30 : zH → Prop) : Nat → Int → zH → Prop
| 0, _, _ => False
| n2 + 1, y1, h =>
if zd h e 11 < y1 then
(k30 h)
else
((0 ≤ y1 ∧ y1 < 301) ∧
∀ h1 : zH, h1 = zw h (e + 25) y1 (zbit 0) →
(0 ≤ y1 ∧ y1 < 301) ∧
∀ h2 : zH, h2 = zw h1 (e + 26) y1 (zbit 0) →
∀ x1_3 : Int, x1_3 = w32 (y1 + 1) →
P_E_beginSet_L2 e Q k30 n2 x1_3 h2)
theorem W_E_beginSet_L2 (e : Int) (he : zE e) (Q : Int → zH → Prop) (k30 : zH → Prop) (H30 : ∀ (h' : zH), k30 h' → zV true zy_X1_beginSet 1 30 [zR e, zU] [] h' (zQ0 Q)) : ∀ (n2 : Nat) (y1 : Int) (h : zH), P_E_beginSet_L2 e Q k30 n2 y1 h → zV true zy_X1_beginSet 1 2 [zR e, zI y1] [] h (zQ0 Q) := by
  intro n2
  induction n2 with
  | zero => intro y1 h hP; exact absurd hP id
  | succ n2 ih =>
    intro y1 h hP
    unfold P_E_beginSet_L2 at hP
    refine zV_iload_n dX1_beginSet_2 rfl ?_
    refine zV_aload_n dX1_beginSet_3 rfl ?_
    refine zV_gf dX1_beginSet_4 (sae_0 he) (by decide) fl_X1_121_1 rfl (ki := 11) rfl ?_
    refine zV_icmp_gt (tgt := 30) dX1_beginSet_7 (by decide) (fun c => ?_) (fun c => ?_)
    · have hP := zif_p hP c
      refine zV_mask [true, false] (ls' := [zR e, zU]) rfl ?_
      exact H30 _ hP
    · have hP := zif_n hP c
      refine zV_aload_n dX1_beginSet_10 rfl ?_
      refine zV_sg dX1_beginSet_11 (fme_46 he) (sae_0 he) (by decide) fl_X1_94_1 rfl ?_
      refine zV_iload_n dX1_beginSet_14 rfl ?_
      refine zV_iconst dX1_beginSet_15 ⟨by decide, by decide⟩ ?_
      obtain ⟨ob, hP⟩ := hP
      refine zV_zas dX1_beginSet_16 (sae_25 he) ob (fun h1 e_h1 => ?_)
      have hP := hP h1 e_h1
      refine zV_aload_n dX1_beginSet_17 rfl ?_
      refine zV_sg dX1_beginSet_18 (fme_47 he) (sae_0 he) (by decide) fl_X1_97_1 rfl ?_
      refine zV_iload_n dX1_beginSet_21 rfl ?_
      refine zV_iconst dX1_beginSet_22 ⟨by decide, by decide⟩ ?_
      obtain ⟨ob, hP⟩ := hP
      refine zV_zas dX1_beginSet_23 (sae_26 he) ob (fun h2 e_h2 => ?_)
      have hP := hP h2 e_h2
      refine zV_inc (ls' := fun z => [zR e, zI z]) dX1_beginSet_24 (Nat.le_of_ble_eq_true rfl) rfl rfl (fun _ => rfl) (fun x1_3 e_x1_3 => ?_)
      have hP := hP x1_3 e_x1_3
      refine zV_goto (tgt := 2) dX1_beginSet_27 (by decide) ?_
      exact ih _ _ hP
def P_E_beginSet_L32 (e : Int) (Q : Int → zH → Prop) (k51 : zH → Prop) : Nat → Int → zH → Prop
| 0, _, _ => False
| n32 + 1, y1, h =>
if 8 ≤ y1 then
(k51 h)
else
((0 ≤ y1 ∧ y1 < 8) ∧
∀ h5 : zH, h5 = zw h (e + 29) y1 0 →
∀ x1_6 : Int, x1_6 = w32 (y1 + 1) →
P_E_beginSet_L32 e Q k51 n32 x1_6 h5)
theorem W_E_beginSet_L32 (e : Int) (he : zE e) (Q : Int → zH → Prop) (k51 : zH → Prop) (H51 : ∀ (h' : zH), k51 h' → zV true zy_X1_beginSet 1 51 [zR e, zU] [] h' (zQ0 Q)) : ∀ (n32 : Nat) (y1 : Int) (h : zH), P_E_beginSet_L32 e Q k51 n32 y1 h → zV true zy_X1_beginSet 1 32 [zR e, zI y1] [] h (zQ0 Q) := by
  intro n32
  induction n32 with
  | zero => intro y1 h hP; exact absurd hP id
  | succ n32 ih =>
    intro y1 h hP
    unfold P_E_beginSet_L32 at hP
    refine zV_iload_n dX1_beginSet_32 rfl ?_
    refine zV_bipush dX1_beginSet_33 ⟨by decide, by decide, by decide⟩ ?_
    refine zV_icmp_ge (tgt := 51) dX1_beginSet_35 (by decide) (fun c => ?_) (fun c => ?_)
    · have hP := zif_p hP c
      refine zV_mask [true, false] (ls' := [zR e, zU]) rfl ?_
      exact H51 _ hP
    · have hP := zif_n hP c
      refine zV_aload_n dX1_beginSet_38 rfl ?_
      refine zV_sg dX1_beginSet_39 (fme_51 he) (sae_0 he) (by decide) fl_X1_106_1 rfl ?_
      refine zV_iload_n dX1_beginSet_42 rfl ?_
      refine zV_lconst (x := 0) dX1_beginSet_43 rfl ?_
      obtain ⟨ob, hP⟩ := hP
      refine zV_las dX1_beginSet_44 (sae_29 he) ob (fun h5 e_h5 => ?_)
      have hP := hP h5 e_h5
      refine zV_inc (ls' := fun z => [zR e, zI z]) dX1_beginSet_45 (Nat.le_of_ble_eq_true rfl) rfl rfl (fun _ => rfl) (fun x1_6 e_x1_6 => ?_)
      have hP := hP x1_6 e_x1_6
      refine zV_goto (tgt := 32) dX1_beginSet_48 (by decide) ?_
      exact ih _ _ hP
def P_E_beginSet (e : Int) (h : zH) (Q : Int → zH → Prop) : Prop :=
∃ n2, P_E_beginSet_L2 e Q (fun h4 =>
∃ n32, P_E_beginSet_L32 e Q (fun h7 =>
∀ h8 : zH, h8 = zw h7 e 50 0 →
∀ h9 : zH, h9 = zw h8 e 52 0 →
∀ h10 : zH, h10 = zw h9 e 54 0 →
Q 0 h10) n32 0 h4) n2 1 h
theorem W_E_beginSet (e : Int) (he : zE e) (h : zH) (Q : Int → zH → Prop) (hP : P_E_beginSet e  h Q) : zC true zy_X1_beginSet 1 [zR e] h (zQ0 Q) := by
  unfold P_E_beginSet at hP
  refine zC.of (by decide) (Nat.le_of_ble_eq_true rfl) ?_
  show zV true zy_X1_beginSet 1 0 [zR e, zU] [] h (zQ0 Q)
  refine zV_iconst dX1_beginSet_0 ⟨by decide, by decide⟩ ?_
  refine zV_istore_n (ls' := [zR e, zI 1]) dX1_beginSet_1 rfl (Nat.le_of_ble_eq_true rfl) rfl rfl ?_
  obtain ⟨n2, hP⟩ := hP
  refine W_E_beginSet_L2 e he _ _ (fun h4 hP => ?_) n2 _ _ hP
  refine zV_iconst dX1_beginSet_30 ⟨by decide, by decide⟩ ?_
  refine zV_istore_n (ls' := [zR e, zI 0]) dX1_beginSet_31 rfl (Nat.le_of_ble_eq_true rfl) rfl rfl ?_
  obtain ⟨n32, hP⟩ := hP
  refine W_E_beginSet_L32 e he _ _ (fun h7 hP => ?_) n32 _ _ hP
  refine zV_aload_n dX1_beginSet_51 rfl ?_
  refine zV_iconst dX1_beginSet_52 ⟨by decide, by decide⟩ ?_
  refine zV_pf dX1_beginSet_53 (sae_0 he) (by decide) fl_X1_278_1 rfl rfl trivial (ki := 50) rfl (fun h8 e_h8 => ?_)
  have hP := hP h8 e_h8
  refine zV_aload_n dX1_beginSet_56 rfl ?_
  refine zV_iconst dX1_beginSet_57 ⟨by decide, by decide⟩ ?_
  refine zV_pf dX1_beginSet_58 (sae_0 he) (by decide) fl_X1_275_1 rfl rfl trivial (ki := 52) rfl (fun h9 e_h9 => ?_)
  have hP := hP h9 e_h9
  refine zV_aload_n dX1_beginSet_61 rfl ?_
  refine zV_iconst dX1_beginSet_62 ⟨by decide, by decide⟩ ?_
  refine zV_pf dX1_beginSet_63 (sae_0 he) (by decide) fl_X1_272_1 rfl rfl trivial (ki := 54) rfl (fun h10 e_h10 => ?_)
  have hP := hP h10 e_h10
  exact zV_return dX1_beginSet_66 rfl ⟨rfl, hP⟩
def P_E_gather_J183 (e : Int) (y1 : Int) (y2 : Int) (y3 : Int) (y4 : Int) (y5 : Int) (h : zH) (Q : Int → zH → Prop) (k49 : Int → Int → zH → Prop) : Prop :=
∀ x5_5 : Int, x5_5 = w32 (y5 + 1) →
k49 y4 x5_5 h
theorem W_E_gather_J183 (e : Int) (he : zE e) (y1 : Int) (y2 : Int) (y3 : Int) (y4 : Int) (y5 : Int) (h : zH) (Q : Int → zH → Prop) (k49 : Int → Int → zH → Prop) (H49 : ∀ (v4 v5 : Int) (h' : zH), k49 v4 v5 h' → zV true zy_X1_gather 2 49 [zR e, zI y1, zI y2, zI y3, zI v4, zI v5, zU] [] h' (zQ0 Q)) (hP : P_E_gather_J183 e y1 y2 y3 y4 y5 h Q k49) : zV true zy_X1_gather 2 183 [zR e, zI y1, zI y2, zI y3, zI y4, zI y5, zU] [] h (zQ0 Q) := by
  unfold P_E_gather_J183 at hP
  refine zV_inc (ls' := fun z => [zR e, zI y1, zI y2, zI y3, zI y4, zI z, zU]) dX1_gather_183 (Nat.le_of_ble_eq_true rfl) rfl rfl (fun _ => rfl) (fun x5_5 e_x5_5 => ?_)
  have hP := hP x5_5 e_x5_5
  refine zV_goto (tgt := 49) dX1_gather_186 (by decide) ?_
  exact H49 _ _ _ hP
def P_E_gather_J180 (e : Int) (y1 : Int) (y2 : Int) (y3 : Int) (y5 : Int) (s0 : Int) (s1 : Int) (h : zH) (Q : Int → zH → Prop) (k49 : Int → Int → zH → Prop) : Prop :=
∀ x4_9 : Int, x4_9 = (w32 (s1 + s0)) →
P_E_gather_J183 e y1 y2 y3 x4_9 y5 h Q k49
theorem W_E_gather_J180 (e : Int) (he : zE e) (y1 : Int) (y2 : Int) (y3 : Int) (y5 : Int) (s0 : Int) (s1 : Int) (h : zH) (Q : Int → zH → Prop) (k49 : Int → Int → zH → Prop) (H49 : ∀ (v4 v5 : Int) (h' : zH), k49 v4 v5 h' → zV true zy_X1_gather 2 49 [zR e, zI y1, zI y2, zI y3, zI v4, zI v5, zU] [] h' (zQ0 Q)) (hP : P_E_gather_J180 e y1 y2 y3 y5 s0 s1 h Q k49) : zV true zy_X1_gather 2 180 [zR e, zI y1, zI y2, zI y3, zU, zI y5, zU] [zI s0, zI s1] h (zQ0 Q) := by
  unfold P_E_gather_J180 at hP
  refine zV_iadd dX1_gather_180 ?_
  refine zV_top (fun x4_9 e_x4_9 => ?_)
  have hP := hP x4_9 e_x4_9
  refine zV_istore (ls' := [zR e, zI y1, zI y2, zI y3, zI x4_9, zI y5, zU]) dX1_gather_181 (Nat.le_of_ble_eq_true rfl) rfl rfl ?_
  exact W_E_gather_J183 e he _ _ _ _ _ _ _ _ H49 hP
def P_E_gather_J150 (e : Int) (y1 : Int) (y2 : Int) (y3 : Int) (y4 : Int) (y5 : Int) (y6 : Int) (s0 : Int) (s1 : Int) (h : zH) (Q : Int → zH → Prop) (k49 : Int → Int → zH → Prop) : Prop :=
∀ h7 : zH, h7 = zw h e 52 (w32 (s1 + s0)) →
(0 ≤ y6 ∧ y6 < 301) ∧
∀ h8 : zH, h8 = zw h7 (e + 26) y6 (zbit 1) →
(0 ≤ y6 ∧ y6 < 301) ∧
P_E_gather_J180 e y1 y2 y3 y5 (if zd h8 (e + 12) y6 = y3 then 1 else 0) y4 h8 Q k49
theorem W_E_gather_J150 (e : Int) (he : zE e) (y1 : Int) (y2 : Int) (y3 : Int) (y4 : Int) (y5 : Int) (y6 : Int) (s0 : Int) (s1 : Int) (h : zH) (Q : Int → zH → Prop) (k49 : Int → Int → zH → Prop) (H49 : ∀ (v4 v5 : Int) (h' : zH), k49 v4 v5 h' → zV true zy_X1_gather 2 49 [zR e, zI y1, zI y2, zI y3, zI v4, zI v5, zU] [] h' (zQ0 Q)) (hP : P_E_gather_J150 e y1 y2 y3 y4 y5 y6 s0 s1 h Q k49) : zV true zy_X1_gather 2 150 [zR e, zI y1, zI y2, zI y3, zI y4, zI y5, zI y6] [zI s0, zI s1, zR e] h (zQ0 Q) := by
  unfold P_E_gather_J150 at hP
  refine zV_iadd dX1_gather_150 ?_
  refine zV_pf dX1_gather_151 (sae_0 he) (by decide) fl_X1_275_1 rfl rfl trivial (ki := 52) rfl (fun h7 e_h7 => ?_)
  have hP := hP h7 e_h7
  refine zV_aload_n dX1_gather_154 rfl ?_
  refine zV_sg dX1_gather_155 (fme_47 he) (sae_0 he) (by decide) fl_X1_97_1 rfl ?_
  refine zV_iload dX1_gather_158 rfl ?_
  refine zV_iconst dX1_gather_160 ⟨by decide, by decide⟩ ?_
  obtain ⟨ob, hP⟩ := hP
  refine zV_zas dX1_gather_161 (sae_26 he) ob (fun h8 e_h8 => ?_)
  have hP := hP h8 e_h8
  refine zV_iload dX1_gather_162 rfl ?_
  refine zV_aload_n dX1_gather_164 rfl ?_
  refine zV_sg dX1_gather_165 (fme_13 he) (sae_0 he) (by decide) fl_X1_51_1 rfl ?_
  refine zV_iload dX1_gather_168 rfl ?_
  obtain ⟨ob, hP⟩ := hP
  refine zV_ia dX1_gather_170 (sae_12 he) ob ?_
  refine zV_iload_n dX1_gather_171 rfl ?_
  have K : zV true zy_X1_gather 2 180 [zR e, zI y1, zI y2, zI y3, zU, zI y5, zU] [zI (if zd h8 (e + 12) y6 = y3 then 1 else 0), zI y4] h8 (zQ0 Q) := by
    exact W_E_gather_J180 e he _ _ _ _ _ _ _ _ _ H49 hP
  clear hP
  refine zV_icmp_ne (tgt := 179) dX1_gather_172 (by decide) (fun c => ?_) (fun c => ?_)
  · try simp only [if_neg c] at K
    refine zV_iconst dX1_gather_179 ⟨by decide, by decide⟩ ?_
    refine zV_mask [true, true, true, true, false, true, false] rfl ?_
    exact K
  · try simp only [if_pos c] at K
    refine zV_iconst dX1_gather_175 ⟨by decide, by decide⟩ ?_
    refine zV_goto (tgt := 180) dX1_gather_176 (by decide) ?_
    refine zV_mask [true, true, true, true, false, true, false] rfl ?_
    exact K
def P_E_gather_L49 (e : Int) (y1 : Int) (y2 : Int) (y3 : Int) (Q : Int → zH → Prop) : Nat → Int → Int → zH → Prop
| 0, _, _, _ => False
| n49 + 1, y4, y5, h =>
(0 ≤ y1 ∧ y1 < 1364) ∧
(0 ≤ y1 ∧ y1 < 1364) ∧
if w32 ((zd h (e + 1) y1) + (zd h (e + 2) y1)) ≤ y5 then
(Q y4 h)
else
((0 ≤ y5 ∧ y5 < 12080) ∧
∀ x6_4 : Int, x6_4 = (zabs (zd h (e + 7) y5)) →
if x6_4 = y2 then
(P_E_gather_J183 e y1 y2 y3 y4 y5 h Q (P_E_gather_L49 e y1 y2 y3 Q n49))
else
((0 ≤ x6_4 ∧ x6_4 < 301) ∧
if zd h (e + 12) x6_4 = 0 then
(P_E_addRoot e (e + 29) 0 x6_4 h (fun r10 h11 =>
P_E_gather_J183 e y1 y2 y3 y4 y5 h11 Q (P_E_gather_L49 e y1 y2 y3 Q n49)))
else
((0 ≤ x6_4 ∧ x6_4 < 301) ∧
if zd h (e + 25) x6_4 = 0 then
((0 ≤ x6_4 ∧ x6_4 < 301) ∧
∀ h6 : zH, h6 = zw h (e + 25) x6_4 (zbit 1) →
(0 ≤ x6_4 ∧ x6_4 < 301) ∧
P_E_gather_J150 e y1 y2 y3 y4 y5 x6_4 (if zd h6 (e + 26) x6_4 = 0 then 1 else 0) (zd h6 e 52) h6 Q (P_E_gather_L49 e y1 y2 y3 Q n49))
else
(P_E_gather_J183 e y1 y2 y3 y4 y5 h Q (P_E_gather_L49 e y1 y2 y3 Q n49)))))
theorem W_E_gather_L49 (e : Int) (he : zE e) (y1 : Int) (y2 : Int) (y3 : Int) (Q : Int → zH → Prop) : ∀ (n49 : Nat) (y4 y5 : Int) (h : zH), P_E_gather_L49 e y1 y2 y3 Q n49 y4 y5 h → zV true zy_X1_gather 2 49 [zR e, zI y1, zI y2, zI y3, zI y4, zI y5, zU] [] h (zQ0 Q) := by
  intro n49
  induction n49 with
  | zero => intro y4 y5 h hP; exact absurd hP id
  | succ n49 ih =>
    intro y4 y5 h hP
    unfold P_E_gather_L49 at hP
    refine zV_iload dX1_gather_49 rfl ?_
    refine zV_aload_n dX1_gather_51 rfl ?_
    refine zV_sg dX1_gather_52 (fme_0 he) (sae_0 he) (by decide) fl_X1_15_1 rfl ?_
    refine zV_iload_n dX1_gather_55 rfl ?_
    obtain ⟨ob, hP⟩ := hP
    refine zV_ia dX1_gather_56 (sae_1 he) ob ?_
    refine zV_aload_n dX1_gather_57 rfl ?_
    refine zV_sg dX1_gather_58 (fme_1 he) (sae_0 he) (by decide) fl_X1_19_1 rfl ?_
    refine zV_iload_n dX1_gather_61 rfl ?_
    obtain ⟨ob, hP⟩ := hP
    refine zV_ia dX1_gather_62 (sae_2 he) ob ?_
    refine zV_iadd dX1_gather_63 ?_
    refine zV_icmp_ge (tgt := 189) dX1_gather_64 (by decide) (fun c => ?_) (fun c => ?_)
    · have hP := zif_p hP c
      refine zV_iload dX1_gather_189 rfl ?_
      exact zV_ireturn dX1_gather_191 rfl rfl rfl ⟨rfl, hP⟩
    · have hP := zif_n hP c
      refine zV_aload_n dX1_gather_67 rfl ?_
      refine zV_sg dX1_gather_68 (fme_6 he) (sae_0 he) (by decide) fl_X1_36_1 rfl ?_
      refine zV_iload dX1_gather_71 rfl ?_
      obtain ⟨ob, hP⟩ := hP
      refine zV_ia dX1_gather_73 (sae_7 he) ob ?_
      refine zV_mabs dX1_gather_74 q1546 q806 q171 q807 (Nat.le_of_ble_eq_true rfl) (by decide) ?_
      refine zV_top (fun x6_4 e_x6_4 => ?_)
      have hP := hP x6_4 e_x6_4
      refine zV_istore (ls' := [zR e, zI y1, zI y2, zI y3, zI y4, zI y5, zI x6_4]) dX1_gather_77 (Nat.le_of_ble_eq_true rfl) rfl rfl ?_
      refine zV_iload dX1_gather_79 rfl ?_
      refine zV_iload_n dX1_gather_81 rfl ?_
      refine zV_icmp_ne (tgt := 88) dX1_gather_82 (by decide) (fun c => ?_) (fun c => ?_)
      · have hP := zif_n hP c
        refine zV_aload_n dX1_gather_88 rfl ?_
        refine zV_sg dX1_gather_89 (fme_13 he) (sae_0 he) (by decide) fl_X1_51_1 rfl ?_
        refine zV_iload dX1_gather_92 rfl ?_
        obtain ⟨ob, hP⟩ := hP
        refine zV_ia dX1_gather_94 (sae_12 he) ob ?_
        refine zV_if_ne (tgt := 112) dX1_gather_95 (by decide) (fun c => ?_) (fun c => ?_)
        · have hP := zif_n hP c
          refine zV_aload_n dX1_gather_112 rfl ?_
          refine zV_sg dX1_gather_113 (fme_46 he) (sae_0 he) (by decide) fl_X1_94_1 rfl ?_
          refine zV_iload dX1_gather_116 rfl ?_
          obtain ⟨ob, hP⟩ := hP
          refine zV_za dX1_gather_118 (sae_25 he) ob ?_
          refine zV_if_ne (tgt := 183) dX1_gather_119 (by decide) (fun c => ?_) (fun c => ?_)
          · have hP := zif_n hP c
            refine zV_mask [true, true, true, true, true, true, false] (ls' := [zR e, zI y1, zI y2, zI y3, zI y4, zI y5, zU]) rfl ?_
            exact W_E_gather_J183 e he _ _ _ _ _ _ _ _ ih hP
          · have hP := zif_p hP c
            refine zV_aload_n dX1_gather_122 rfl ?_
            refine zV_sg dX1_gather_123 (fme_46 he) (sae_0 he) (by decide) fl_X1_94_1 rfl ?_
            refine zV_iload dX1_gather_126 rfl ?_
            refine zV_iconst dX1_gather_128 ⟨by decide, by decide⟩ ?_
            obtain ⟨ob, hP⟩ := hP
            refine zV_zas dX1_gather_129 (sae_25 he) ob (fun h6 e_h6 => ?_)
            have hP := hP h6 e_h6
            refine zV_aload_n dX1_gather_130 rfl ?_
            refine zV_dup dX1_gather_131 (Nat.ne_of_beq_eq_false rfl) ?_
            refine zV_gf dX1_gather_132 (sae_0 he) (by decide) fl_X1_275_1 rfl (ki := 52) rfl ?_
            refine zV_aload_n dX1_gather_135 rfl ?_
            refine zV_sg dX1_gather_136 (fme_47 he) (sae_0 he) (by decide) fl_X1_97_1 rfl ?_
            refine zV_iload dX1_gather_139 rfl ?_
            obtain ⟨ob, hP⟩ := hP
            refine zV_za dX1_gather_141 (sae_26 he) ob ?_
            have K : zV true zy_X1_gather 2 150 [zR e, zI y1, zI y2, zI y3, zI y4, zI y5, zI x6_4] [zI (if zd h6 (e + 26) x6_4 = 0 then 1 else 0), zI (zd h6 e 52), zR e] h6 (zQ0 Q) := by
              exact W_E_gather_J150 e he _ _ _ _ _ _ _ _ _ _ _ ih hP
            clear hP
            refine zV_if_eq (tgt := 149) dX1_gather_142 (by decide) (fun c => ?_) (fun c => ?_)
            · try simp only [if_pos c] at K
              refine zV_iconst dX1_gather_149 ⟨by decide, by decide⟩ ?_
              refine zV_mask [true, true, true, true, true, true, true] rfl ?_
              exact K
            · try simp only [if_neg c] at K
              refine zV_iconst dX1_gather_145 ⟨by decide, by decide⟩ ?_
              refine zV_goto (tgt := 150) dX1_gather_146 (by decide) ?_
              refine zV_mask [true, true, true, true, true, true, true] rfl ?_
              exact K
        · have hP := zif_p hP c
          refine zV_aload_n dX1_gather_98 rfl ?_
          refine zV_aload_n dX1_gather_99 rfl ?_
          refine zV_sg dX1_gather_100 (fme_51 he) (sae_0 he) (by decide) fl_X1_106_1 rfl ?_
          refine zV_iconst dX1_gather_103 ⟨by decide, by decide⟩ ?_
          refine zV_iload dX1_gather_104 rfl ?_
          refine zV_cVv (As := [zR (e + 29), zI 0, zI x6_4]) (rest := []) dX1_gather_106 (sae_0 he) (W_E_addRoot e he _ _ _ _ _ hP) mi_X1_addRoot ml_X1_234 (by decide) (Nat.le_of_ble_eq_true rfl) rfl rfl (fun r10 h11 hP => ?_)
          refine zV_goto (tgt := 183) dX1_gather_109 (by decide) ?_
          refine zV_mask [true, true, true, true, true, true, false] (ls' := [zR e, zI y1, zI y2, zI y3, zI y4, zI y5, zU]) rfl ?_
          exact W_E_gather_J183 e he _ _ _ _ _ _ _ _ ih hP
      · have hP := zif_p hP c
        refine zV_goto (tgt := 183) dX1_gather_85 (by decide) ?_
        refine zV_mask [true, true, true, true, true, true, false] (ls' := [zR e, zI y1, zI y2, zI y3, zI y4, zI y5, zU]) rfl ?_
        exact W_E_gather_J183 e he _ _ _ _ _ _ _ _ ih hP
def P_E_gather_J41 (e : Int) (y1 : Int) (y2 : Int) (y3 : Int) (y4 : Int) (h : zH) (Q : Int → zH → Prop) : Prop :=
(0 ≤ y1 ∧ y1 < 1364) ∧
∀ x5_3 : Int, x5_3 = (zd h (e + 1) y1) →
∃ n49, P_E_gather_L49 e y1 y2 y3 Q n49 y4 x5_3 h
theorem W_E_gather_J41 (e : Int) (he : zE e) (y1 : Int) (y2 : Int) (y3 : Int) (y4 : Int) (h : zH) (Q : Int → zH → Prop) (hP : P_E_gather_J41 e y1 y2 y3 y4 h Q) : zV true zy_X1_gather 2 41 [zR e, zI y1, zI y2, zI y3, zI y4, zU, zU] [] h (zQ0 Q) := by
  unfold P_E_gather_J41 at hP
  refine zV_aload_n dX1_gather_41 rfl ?_
  refine zV_sg dX1_gather_42 (fme_0 he) (sae_0 he) (by decide) fl_X1_15_1 rfl ?_
  refine zV_iload_n dX1_gather_45 rfl ?_
  obtain ⟨ob, hP⟩ := hP
  refine zV_ia dX1_gather_46 (sae_1 he) ob ?_
  refine zV_top (fun x5_3 e_x5_3 => ?_)
  have hP := hP x5_3 e_x5_3
  refine zV_istore (ls' := [zR e, zI y1, zI y2, zI y3, zI y4, zI x5_3, zU]) dX1_gather_47 (Nat.le_of_ble_eq_true rfl) rfl rfl ?_
  obtain ⟨n49, hP⟩ := hP
  refine W_E_gather_L49 e he _ _ _ _ n49 _ _ _ hP
def P_E_gather (e : Int) (a1 : Int) (a2 : Int) (a3 : Int) (h : zH) (Q : Int → zH → Prop) : Prop :=
P_E_addSource e (e + 29) 0 a1 h (fun r1 h2 =>
if a1 < 564 then
(P_E_gather_J41 e a1 a2 a3 0 h2 Q)
else
(∀ h12 : zH, h12 = zw h2 e 54 (w32 ((zd h2 e 54) + 1)) →
(0 ≤ zd h2 e 54 ∧ zd h2 e 54 < 301) ∧
∀ h13 : zH, h13 = zw h12 (e + 30) (zd h2 e 54) (w32 (a1 - 564)) →
P_E_gather_J41 e a1 a2 a3 0 h13 Q))
theorem W_E_gather (e : Int) (he : zE e) (a1 : Int) (a2 : Int) (a3 : Int) (h : zH) (Q : Int → zH → Prop) (hP : P_E_gather e a1 a2 a3 h Q) : zC true zy_X1_gather 2 [zR e, zI a1, zI a2, zI a3] h (zQ0 Q) := by
  unfold P_E_gather at hP
  refine zC.of (by decide) (Nat.le_of_ble_eq_true rfl) ?_
  show zV true zy_X1_gather 2 0 [zR e, zI a1, zI a2, zI a3, zU, zU, zU] [] h (zQ0 Q)
  refine zV_iconst dX1_gather_0 ⟨by decide, by decide⟩ ?_
  refine zV_istore (ls' := [zR e, zI a1, zI a2, zI a3, zI 0, zU, zU]) dX1_gather_1 (Nat.le_of_ble_eq_true rfl) rfl rfl ?_
  refine zV_aload_n dX1_gather_3 rfl ?_
  refine zV_aload_n dX1_gather_4 rfl ?_
  refine zV_sg dX1_gather_5 (fme_51 he) (sae_0 he) (by decide) fl_X1_106_1 rfl ?_
  refine zV_iconst dX1_gather_8 ⟨by decide, by decide⟩ ?_
  refine zV_iload_n dX1_gather_9 rfl ?_
  refine zV_cVv (As := [zR (e + 29), zI 0, zI a1]) (rest := []) dX1_gather_10 (sae_0 he) (W_E_addSource e he _ _ _ _ _ hP) mi_X1_addSource ml_X1_230 (by decide) (Nat.le_of_ble_eq_true rfl) rfl rfl (fun r1 h2 hP => ?_)
  refine zV_iload_n dX1_gather_13 rfl ?_
  refine zV_sipush dX1_gather_14 ⟨by decide, by decide, by decide⟩ ?_
  refine zV_icmp_lt (tgt := 41) dX1_gather_17 (by decide) (fun c => ?_) (fun c => ?_)
  · have hP := zif_p hP c
    exact W_E_gather_J41 e he _ _ _ _ _ _ hP
  · have hP := zif_n hP c
    refine zV_aload_n dX1_gather_20 rfl ?_
    refine zV_sg dX1_gather_21 (fme_53 he) (sae_0 he) (by decide) fl_X1_109_1 rfl ?_
    refine zV_aload_n dX1_gather_24 rfl ?_
    refine zV_dup dX1_gather_25 (Nat.ne_of_beq_eq_false rfl) ?_
    refine zV_gf dX1_gather_26 (sae_0 he) (by decide) fl_X1_272_1 rfl (ki := 54) rfl ?_
    refine zV_dup_x1 dX1_gather_29 (Nat.ne_of_beq_eq_false rfl) (Nat.ne_of_beq_eq_false rfl) ?_
    refine zV_iconst dX1_gather_30 ⟨by decide, by decide⟩ ?_
    refine zV_iadd dX1_gather_31 ?_
    refine zV_pf dX1_gather_32 (sae_0 he) (by decide) fl_X1_272_1 rfl rfl trivial (ki := 54) rfl (fun h12 e_h12 => ?_)
    have hP := hP h12 e_h12
    refine zV_iload_n dX1_gather_35 rfl ?_
    refine zV_sipush dX1_gather_36 ⟨by decide, by decide, by decide⟩ ?_
    refine zV_isub dX1_gather_39 ?_
    obtain ⟨ob, hP⟩ := hP
    refine zV_ias dX1_gather_40 (sae_30 he) ob (fun h13 e_h13 => ?_)
    have hP := hP h13 e_h13
    exact W_E_gather_J41 e he _ _ _ _ _ _ hP
def P_E_hasRoom (e : Int) (a1 : Int) (h : zH) (Q : Int → zH → Prop) : Prop :=
Q (if 800 ≤ zd h e 25 then 0 else if 8000 < w32 ((zd h e 26) + a1) then 0 else 1) h
theorem W_E_hasRoom (e : Int) (he : zE e) (a1 : Int) (h : zH) (Q : Int → zH → Prop) (hP : P_E_hasRoom e a1 h Q) : zC true zy_X1_hasRoom 1 [zR e, zI a1] h (zQ0 Q) := by
  unfold P_E_hasRoom at hP
  refine zC.of (by decide) (Nat.le_of_ble_eq_true rfl) ?_
  show zV true zy_X1_hasRoom 1 0 [zR e, zI a1] [] h (zQ0 Q)
  refine zV_aload_n dX1_hasRoom_0 rfl ?_
  refine zV_gf dX1_hasRoom_1 (sae_0 he) (by decide) fl_X1_148_1 rfl (ki := 25) rfl ?_
  refine zV_sipush dX1_hasRoom_4 ⟨by decide, by decide, by decide⟩ ?_
  have K : zV true zy_X1_hasRoom 1 27 [zU, zU] [zI (if 800 ≤ zd h e 25 then 0 else if 8000 < w32 ((zd h e 26) + a1) then 0 else 1)] h (zQ0 Q) := by
    exact zV_ireturn dX1_hasRoom_27 rfl rfl (z01 (z01_if z0 (z01_if z0 z1))) ⟨rfl, hP⟩
  clear hP
  refine zV_icmp_ge (tgt := 26) dX1_hasRoom_7 (by decide) (fun c => ?_) (fun c => ?_)
  · try simp only [if_pos c] at K
    refine zV_iconst dX1_hasRoom_26 ⟨by decide, by decide⟩ ?_
    refine zV_mask [false, false] rfl ?_
    exact K
  · try simp only [if_neg c] at K
    refine zV_aload_n dX1_hasRoom_10 rfl ?_
    refine zV_gf dX1_hasRoom_11 (sae_0 he) (by decide) fl_X1_151_1 rfl (ki := 26) rfl ?_
    refine zV_iload_n dX1_hasRoom_14 rfl ?_
    refine zV_iadd dX1_hasRoom_15 ?_
    refine zV_sipush dX1_hasRoom_16 ⟨by decide, by decide, by decide⟩ ?_
    refine zV_icmp_gt (tgt := 26) dX1_hasRoom_19 (by decide) (fun c => ?_) (fun c => ?_)
    · try simp only [if_pos c] at K
      refine zV_iconst dX1_hasRoom_26 ⟨by decide, by decide⟩ ?_
      refine zV_mask [false, false] rfl ?_
      exact K
    · try simp only [if_neg c] at K
      refine zV_iconst dX1_hasRoom_22 ⟨by decide, by decide⟩ ?_
      refine zV_goto (tgt := 27) dX1_hasRoom_23 (by decide) ?_
      refine zV_mask [false, false] rfl ?_
      exact K
def P_E_keep_L11 (e : Int) (y1 : Int) (y2 : Int) (Q : Int → zH → Prop) (k43 : zH → Prop) : Nat → Int → zH → Prop
| 0, _, _ => False
| n11 + 1, y3, h =>
if 8 ≤ y3 then
(k43 h)
else
((0 ≤ y3 ∧ y3 < 8) ∧
(0 ≤ w32 ((w32 ((zd h e 25) * 8)) + y3) ∧ w32 ((w32 ((zd h e 25) * 8)) + y3) < 6400) ∧
∀ h2 : zH, h2 = zw h (e + 19) (w32 ((w32 ((zd h e 25) * 8)) + y3)) (zd h (e + 29) y3) →
∀ x3_3 : Int, x3_3 = w32 (y3 + 1) →
P_E_keep_L11 e y1 y2 Q k43 n11 x3_3 h2)
theorem W_E_keep_L11 (e : Int) (he : zE e) (y1 : Int) (y2 : Int) (Q : Int → zH → Prop) (k43 : zH → Prop) (H43 : ∀ (h' : zH), k43 h' → zV true zy_X1_keep 4 43 [zR e, zI y1, zI y2, zU] [] h' (zQ0 Q)) : ∀ (n11 : Nat) (y3 : Int) (h : zH), P_E_keep_L11 e y1 y2 Q k43 n11 y3 h → zV true zy_X1_keep 4 11 [zR e, zI y1, zI y2, zI y3] [] h (zQ0 Q) := by
  intro n11
  induction n11 with
  | zero => intro y3 h hP; exact absurd hP id
  | succ n11 ih =>
    intro y3 h hP
    unfold P_E_keep_L11 at hP
    refine zV_iload_n dX1_keep_11 rfl ?_
    refine zV_bipush dX1_keep_12 ⟨by decide, by decide, by decide⟩ ?_
    refine zV_icmp_ge (tgt := 43) dX1_keep_14 (by decide) (fun c => ?_) (fun c => ?_)
    · have hP := zif_p hP c
      refine zV_mask [true, true, true, false] (ls' := [zR e, zI y1, zI y2, zU]) rfl ?_
      exact H43 _ hP
    · have hP := zif_n hP c
      refine zV_aload_n dX1_keep_17 rfl ?_
      refine zV_sg dX1_keep_18 (fme_23 he) (sae_0 he) (by decide) fl_X1_72_1 rfl ?_
      refine zV_aload_n dX1_keep_21 rfl ?_
      refine zV_gf dX1_keep_22 (sae_0 he) (by decide) fl_X1_148_1 rfl (ki := 25) rfl ?_
      refine zV_bipush dX1_keep_25 ⟨by decide, by decide, by decide⟩ ?_
      refine zV_imul dX1_keep_27 ?_
      refine zV_iload_n dX1_keep_28 rfl ?_
      refine zV_iadd dX1_keep_29 ?_
      refine zV_aload_n dX1_keep_30 rfl ?_
      refine zV_sg dX1_keep_31 (fme_51 he) (sae_0 he) (by decide) fl_X1_106_1 rfl ?_
      refine zV_iload_n dX1_keep_34 rfl ?_
      obtain ⟨ob, hP⟩ := hP
      refine zV_la dX1_keep_35 (sae_29 he) ob ?_
      obtain ⟨ob, hP⟩ := hP
      refine zV_las dX1_keep_36 (sae_19 he) ob (fun h2 e_h2 => ?_)
      have hP := hP h2 e_h2
      refine zV_inc (ls' := fun z => [zR e, zI y1, zI y2, zI z]) dX1_keep_37 (Nat.le_of_ble_eq_true rfl) rfl rfl (fun _ => rfl) (fun x3_3 e_x3_3 => ?_)
      have hP := hP x3_3 e_x3_3
      refine zV_goto (tgt := 11) dX1_keep_40 (by decide) ?_
      exact ih _ _ hP
def P_E_keep (e : Int) (a1 : Int) (h : zH) (Q : Int → zH → Prop) : Prop :=
∀ x2_1 : Int, x2_1 = (w32 (564 + (zd h e 25))) →
∃ n11, P_E_keep_L11 e a1 x2_1 Q (fun h4 =>
(0 ≤ zd h4 e 25 ∧ zd h4 e 25 < 800) ∧
∀ h5 : zH, h5 = zw h4 (e + 20) (zd h4 e 25) 0 →
∀ h6 : zH, h6 = zw h5 e 25 (w32 ((zd h5 e 25) + 1)) →
∀ h7 : zH, h7 = zw h6 e 26 (w32 ((zd h6 e 26) + (zd h6 e 50))) →
P_E_lay e x2_1 (e + 28) 0 (zd h7 e 50) h7 (fun r8 h9 =>
if a1 = 0 then
((0 ≤ x2_1 ∧ x2_1 < 1364) ∧
∀ h10 : zH, h10 = zw h9 (e + 5) x2_1 (zbit 0) →
P_E_look e x2_1 h10 (fun r11 h12 =>
Q 0 h12))
else
(∀ h13 : zH, h13 = zw h9 e 37 (w32 ((zd h9 e 37) + 1)) →
Q 0 h13))) n11 0 h
theorem W_E_keep (e : Int) (he : zE e) (a1 : Int) (h : zH) (Q : Int → zH → Prop) (hP : P_E_keep e a1 h Q) : zC true zy_X1_keep 4 [zR e, zI a1] h (zQ0 Q) := by
  unfold P_E_keep at hP
  refine zC.of (by decide) (Nat.le_of_ble_eq_true rfl) ?_
  show zV true zy_X1_keep 4 0 [zR e, zI a1, zU, zU] [] h (zQ0 Q)
  refine zV_sipush dX1_keep_0 ⟨by decide, by decide, by decide⟩ ?_
  refine zV_aload_n dX1_keep_3 rfl ?_
  refine zV_gf dX1_keep_4 (sae_0 he) (by decide) fl_X1_148_1 rfl (ki := 25) rfl ?_
  refine zV_iadd dX1_keep_7 ?_
  refine zV_top (fun x2_1 e_x2_1 => ?_)
  have hP := hP x2_1 e_x2_1
  refine zV_istore_n (ls' := [zR e, zI a1, zI x2_1, zU]) dX1_keep_8 rfl (Nat.le_of_ble_eq_true rfl) rfl rfl ?_
  refine zV_iconst dX1_keep_9 ⟨by decide, by decide⟩ ?_
  refine zV_istore_n (ls' := [zR e, zI a1, zI x2_1, zI 0]) dX1_keep_10 rfl (Nat.le_of_ble_eq_true rfl) rfl rfl ?_
  obtain ⟨n11, hP⟩ := hP
  refine W_E_keep_L11 e he _ _ _ _ (fun h4 hP => ?_) n11 _ _ hP
  refine zV_aload_n dX1_keep_43 rfl ?_
  refine zV_sg dX1_keep_44 (fme_24 he) (sae_0 he) (by decide) fl_X1_75_1 rfl ?_
  refine zV_aload_n dX1_keep_47 rfl ?_
  refine zV_gf dX1_keep_48 (sae_0 he) (by decide) fl_X1_148_1 rfl (ki := 25) rfl ?_
  refine zV_iconst dX1_keep_51 ⟨by decide, by decide⟩ ?_
  obtain ⟨ob, hP⟩ := hP
  refine zV_ias dX1_keep_52 (sae_20 he) ob (fun h5 e_h5 => ?_)
  have hP := hP h5 e_h5
  refine zV_aload_n dX1_keep_53 rfl ?_
  refine zV_dup dX1_keep_54 (Nat.ne_of_beq_eq_false rfl) ?_
  refine zV_gf dX1_keep_55 (sae_0 he) (by decide) fl_X1_148_1 rfl (ki := 25) rfl ?_
  refine zV_iconst dX1_keep_58 ⟨by decide, by decide⟩ ?_
  refine zV_iadd dX1_keep_59 ?_
  refine zV_pf dX1_keep_60 (sae_0 he) (by decide) fl_X1_148_1 rfl rfl trivial (ki := 25) rfl (fun h6 e_h6 => ?_)
  have hP := hP h6 e_h6
  refine zV_aload_n dX1_keep_63 rfl ?_
  refine zV_dup dX1_keep_64 (Nat.ne_of_beq_eq_false rfl) ?_
  refine zV_gf dX1_keep_65 (sae_0 he) (by decide) fl_X1_151_1 rfl (ki := 26) rfl ?_
  refine zV_aload_n dX1_keep_68 rfl ?_
  refine zV_gf dX1_keep_69 (sae_0 he) (by decide) fl_X1_278_1 rfl (ki := 50) rfl ?_
  refine zV_iadd dX1_keep_72 ?_
  refine zV_pf dX1_keep_73 (sae_0 he) (by decide) fl_X1_151_1 rfl rfl trivial (ki := 26) rfl (fun h7 e_h7 => ?_)
  have hP := hP h7 e_h7
  refine zV_aload_n dX1_keep_76 rfl ?_
  refine zV_iload_n dX1_keep_77 rfl ?_
  refine zV_aload_n dX1_keep_78 rfl ?_
  refine zV_sg dX1_keep_79 (fme_49 he) (sae_0 he) (by decide) fl_X1_103_1 rfl ?_
  refine zV_iconst dX1_keep_82 ⟨by decide, by decide⟩ ?_
  refine zV_aload_n dX1_keep_83 rfl ?_
  refine zV_gf dX1_keep_84 (sae_0 he) (by decide) fl_X1_278_1 rfl (ki := 50) rfl ?_
  refine zV_cVv (As := [zI x2_1, zR (e + 28), zI 0, zI (zd h7 e 50)]) (rest := []) dX1_keep_87 (sae_0 he) (W_E_lay e he _ _ _ _ _ _ hP) mi_X1_lay ml_X1_215 (by decide) (Nat.le_of_ble_eq_true rfl) rfl rfl (fun r8 h9 hP => ?_)
  refine zV_iload_n dX1_keep_90 rfl ?_
  refine zV_if_eq (tgt := 107) dX1_keep_91 (by decide) (fun c => ?_) (fun c => ?_)
  · have hP := zif_p hP c
    refine zV_aload_n dX1_keep_107 rfl ?_
    refine zV_sg dX1_keep_108 (fme_4 he) (sae_0 he) (by decide) fl_X1_28_1 rfl ?_
    refine zV_iload_n dX1_keep_111 rfl ?_
    refine zV_iconst dX1_keep_112 ⟨by decide, by decide⟩ ?_
    obtain ⟨ob, hP⟩ := hP
    refine zV_zas dX1_keep_113 (sae_5 he) ob (fun h10 e_h10 => ?_)
    have hP := hP h10 e_h10
    refine zV_aload_n dX1_keep_114 rfl ?_
    refine zV_iload_n dX1_keep_115 rfl ?_
    refine zV_cVv (As := [zI x2_1]) (rest := []) dX1_keep_116 (sae_0 he) (W_E_look e he _ _ _ hP) mi_X1_look ml_X1_202 (by decide) (Nat.le_of_ble_eq_true rfl) rfl rfl (fun r11 h12 hP => ?_)
    exact zV_return dX1_keep_119 rfl ⟨rfl, hP⟩
  · have hP := zif_n hP c
    refine zV_aload_n dX1_keep_94 rfl ?_
    refine zV_dup dX1_keep_95 (Nat.ne_of_beq_eq_false rfl) ?_
    refine zV_gf dX1_keep_96 (sae_0 he) (by decide) fl_X1_175_1 rfl (ki := 37) rfl ?_
    refine zV_iconst dX1_keep_99 ⟨by decide, by decide⟩ ?_
    refine zV_iadd dX1_keep_100 ?_
    refine zV_pf dX1_keep_101 (sae_0 he) (by decide) fl_X1_175_1 rfl rfl trivial (ki := 37) rfl (fun h13 e_h13 => ?_)
    have hP := hP h13 e_h13
    refine zV_goto (tgt := 119) dX1_keep_104 (by decide) ?_
    exact zV_return dX1_keep_119 rfl ⟨rfl, hP⟩
def P_E_no_L22 (e : Int) (Q : Int → zH → Prop) : Nat → Int → zH → Prop
| 0, _, _ => False
| n22 + 1, y1, h =>
if 8 ≤ y1 then
(Q 0 h)
else
((0 ≤ y1 ∧ y1 < 8) ∧
(0 ≤ y1 ∧ y1 < 8) ∧
∀ h5 : zH, h5 = zw h (e + 23) y1 (zd h (e + 29) y1) →
∀ x1_6 : Int, x1_6 = w32 (y1 + 1) →
P_E_no_L22 e Q n22 x1_6 h5)
theorem W_E_no_L22 (e : Int) (he : zE e) (Q : Int → zH → Prop) : ∀ (n22 : Nat) (y1 : Int) (h : zH), P_E_no_L22 e Q n22 y1 h → zV true zy_X1_no 5 22 [zR e, zI y1] [] h (zQ0 Q) := by
  intro n22
  induction n22 with
  | zero => intro y1 h hP; exact absurd hP id
  | succ n22 ih =>
    intro y1 h hP
    unfold P_E_no_L22 at hP
    refine zV_iload_n dX1_no_22 rfl ?_
    refine zV_bipush dX1_no_23 ⟨by decide, by decide, by decide⟩ ?_
    refine zV_icmp_ge (tgt := 46) dX1_no_25 (by decide) (fun c => ?_) (fun c => ?_)
    · have hP := zif_p hP c
      refine zV_iconst dX1_no_46 ⟨by decide, by decide⟩ ?_
      exact zV_ireturn dX1_no_47 rfl rfl rfl ⟨rfl, hP⟩
    · have hP := zif_n hP c
      refine zV_aload_n dX1_no_28 rfl ?_
      refine zV_sg dX1_no_29 (fme_43 he) (sae_0 he) (by decide) fl_X1_88_1 rfl ?_
      refine zV_iload_n dX1_no_32 rfl ?_
      refine zV_aload_n dX1_no_33 rfl ?_
      refine zV_sg dX1_no_34 (fme_51 he) (sae_0 he) (by decide) fl_X1_106_1 rfl ?_
      refine zV_iload_n dX1_no_37 rfl ?_
      obtain ⟨ob, hP⟩ := hP
      refine zV_la dX1_no_38 (sae_29 he) ob ?_
      obtain ⟨ob, hP⟩ := hP
      refine zV_las dX1_no_39 (sae_23 he) ob (fun h5 e_h5 => ?_)
      have hP := hP h5 e_h5
      refine zV_inc (ls' := fun z => [zR e, zI z]) dX1_no_40 (Nat.le_of_ble_eq_true rfl) rfl rfl (fun _ => rfl) (fun x1_6 e_x1_6 => ?_)
      have hP := hP x1_6 e_x1_6
      refine zV_goto (tgt := 22) dX1_no_43 (by decide) ?_
      exact ih _ _ hP
def P_E_no (e : Int) (h : zH) (Q : Int → zH → Prop) : Prop :=
P_E_hasRoom e (zd h e 50) h (fun r1 h2 =>
if r1 = 0 then
(Q (-1003) h2)
else
(P_E_keep e 0 h2 (fun r3 h4 =>
∃ n22, P_E_no_L22 e Q n22 0 h4)))
theorem W_E_no (e : Int) (he : zE e) (h : zH) (Q : Int → zH → Prop) (hP : P_E_no e  h Q) : zC true zy_X1_no 5 [zR e] h (zQ0 Q) := by
  unfold P_E_no at hP
  refine zC.of (by decide) (Nat.le_of_ble_eq_true rfl) ?_
  show zV true zy_X1_no 5 0 [zR e, zU] [] h (zQ0 Q)
  refine zV_aload_n dX1_no_0 rfl ?_
  refine zV_aload_n dX1_no_1 rfl ?_
  refine zV_gf dX1_no_2 (sae_0 he) (by decide) fl_X1_278_1 rfl (ki := 50) rfl ?_
  refine zV_cVk (As := [zI (zd h e 50)]) (rest := []) dX1_no_5 (sae_0 he) (W_E_hasRoom e he _ _ _ hP) mi_X1_hasRoom ml_X1_306 (by decide) (Nat.le_of_ble_eq_true rfl) rfl rfl rfl (fun r1 h2 hP => ?_)
  refine zV_if_ne (tgt := 15) dX1_no_8 (by decide) (fun c => ?_) (fun c => ?_)
  · have hP := zif_n hP c
    refine zV_aload_n dX1_no_15 rfl ?_
    refine zV_iconst dX1_no_16 ⟨by decide, by decide⟩ ?_
    refine zV_cVv (As := [zI 0]) (rest := []) dX1_no_17 (sae_0 he) (W_E_keep e he _ _ _ hP) mi_X1_keep ml_X1_324 (by decide) (Nat.le_of_ble_eq_true rfl) rfl rfl (fun r3 h4 hP => ?_)
    refine zV_iconst dX1_no_20 ⟨by decide, by decide⟩ ?_
    refine zV_istore_n (ls' := [zR e, zI 0]) dX1_no_21 rfl (Nat.le_of_ble_eq_true rfl) rfl rfl ?_
    obtain ⟨n22, hP⟩ := hP
    refine W_E_no_L22 e he _ n22 _ _ hP
  · have hP := zif_p hP c
    refine zV_sipush dX1_no_11 ⟨by decide, by decide, by decide⟩ ?_
    exact zV_ireturn dX1_no_14 rfl rfl rfl ⟨rfl, hP⟩
def P_E_numberOf (e : Int) (a1 : Int) (h : zH) (Q : Int → zH → Prop) : Prop :=
Q (if 500 ≤ a1 then if 564 ≤ a1 then w32 ((w32 (2000 + a1)) - 564) else w32 ((w32 (1000 + a1)) - 500) else a1) h
theorem W_E_numberOf (e : Int) (he : zE e) (a1 : Int) (h : zH) (Q : Int → zH → Prop) (hP : P_E_numberOf e a1 h Q) : zC true zy_X1_numberOf 1 [zR e, zI a1] h (zQ0 Q) := by
  unfold P_E_numberOf at hP
  refine zC.of (by decide) (Nat.le_of_ble_eq_true rfl) ?_
  show zV true zy_X1_numberOf 1 0 [zR e, zI a1] [] h (zQ0 Q)
  refine zV_iload_n dX1_numberOf_0 rfl ?_
  refine zV_sipush dX1_numberOf_1 ⟨by decide, by decide, by decide⟩ ?_
  have K : zV true zy_X1_numberOf 1 39 [zU, zU] [zI (if 500 ≤ a1 then if 564 ≤ a1 then w32 ((w32 (2000 + a1)) - 564) else w32 ((w32 (1000 + a1)) - 500) else a1)] h (zQ0 Q) := by
    exact zV_ireturn dX1_numberOf_39 rfl rfl rfl ⟨rfl, hP⟩
  clear hP
  refine zV_icmp_ge (tgt := 11) dX1_numberOf_4 (by decide) (fun c => ?_) (fun c => ?_)
  · try simp only [if_pos c] at K
    refine zV_iload_n dX1_numberOf_11 rfl ?_
    refine zV_sipush dX1_numberOf_12 ⟨by decide, by decide, by decide⟩ ?_
    refine zV_icmp_ge (tgt := 30) dX1_numberOf_15 (by decide) (fun c => ?_) (fun c => ?_)
    · try simp only [if_pos c] at K
      refine zV_sipush dX1_numberOf_30 ⟨by decide, by decide, by decide⟩ ?_
      refine zV_iload_n dX1_numberOf_33 rfl ?_
      refine zV_iadd dX1_numberOf_34 ?_
      refine zV_sipush dX1_numberOf_35 ⟨by decide, by decide, by decide⟩ ?_
      refine zV_isub dX1_numberOf_38 ?_
      refine zV_mask [false, false] rfl ?_
      exact K
    · try simp only [if_neg c] at K
      refine zV_sipush dX1_numberOf_18 ⟨by decide, by decide, by decide⟩ ?_
      refine zV_iload_n dX1_numberOf_21 rfl ?_
      refine zV_iadd dX1_numberOf_22 ?_
      refine zV_sipush dX1_numberOf_23 ⟨by decide, by decide, by decide⟩ ?_
      refine zV_isub dX1_numberOf_26 ?_
      refine zV_goto (tgt := 39) dX1_numberOf_27 (by decide) ?_
      refine zV_mask [false, false] rfl ?_
      exact K
  · try simp only [if_neg c] at K
    refine zV_iload_n dX1_numberOf_7 rfl ?_
    refine zV_goto (tgt := 39) dX1_numberOf_8 (by decide) ?_
    refine zV_mask [false, false] rfl ?_
    exact K
def P_E_tell (e : Int) (a1 : Int) (a2 : Int) (a3 : Int) (h : zH) (Q : Int → zH → Prop) : Prop :=
∀ h1 : zH, h1 = zw h e 42 1 →
P_E_numberOf e a1 h1 (fun r2 h3 =>
∀ h4 : zH, h4 = zw h3 (e + 22) 0 r2 →
∀ h5 : zH, h5 = zw h4 (e + 22) 1 a2 →
∀ h6 : zH, h6 = zw h5 (e + 22) 2 a3 →
∀ h7 : zH, h7 = zw h6 (e + 22) 3 (zd h6 e 52) →
∀ h8 : zH, h8 = zw h7 (e + 22) 4 (zd h7 e 50) →
Q 0 h8)
theorem W_E_tell (e : Int) (he : zE e) (a1 : Int) (a2 : Int) (a3 : Int) (h : zH) (Q : Int → zH → Prop) (hP : P_E_tell e a1 a2 a3 h Q) : zC true zy_X1_tell 2 [zR e, zI a1, zI a2, zI a3] h (zQ0 Q) := by
  unfold P_E_tell at hP
  refine zC.of (by decide) (Nat.le_of_ble_eq_true rfl) ?_
  show zV true zy_X1_tell 2 0 [zR e, zI a1, zI a2, zI a3] [] h (zQ0 Q)
  refine zV_aload_n dX1_tell_0 rfl ?_
  refine zV_iconst dX1_tell_1 ⟨by decide, by decide⟩ ?_
  refine zV_pf dX1_tell_2 (sae_0 he) (by decide) fl_X1_187_1 rfl rfl z1 (ki := 42) rfl (fun h1 e_h1 => ?_)
  have hP := hP h1 e_h1
  refine zV_aload_n dX1_tell_5 rfl ?_
  refine zV_sg dX1_tell_6 (fme_41 he) (sae_0 he) (by decide) fl_X1_85_1 rfl ?_
  refine zV_iconst dX1_tell_9 ⟨by decide, by decide⟩ ?_
  refine zV_aload_n dX1_tell_10 rfl ?_
  refine zV_iload_n dX1_tell_11 rfl ?_
  refine zV_cVk (As := [zI a1]) (rest := [zI 0, zR (e + 22)]) dX1_tell_12 (sae_0 he) (W_E_numberOf e he _ _ _ hP) mi_X1_numberOf ml_X1_332 (by decide) (Nat.le_of_ble_eq_true rfl) rfl rfl rfl (fun r2 h3 hP => ?_)
  refine zV_ias dX1_tell_15 (sae_22 he) (by decide) (fun h4 e_h4 => ?_)
  have hP := hP h4 e_h4
  refine zV_aload_n dX1_tell_16 rfl ?_
  refine zV_sg dX1_tell_17 (fme_41 he) (sae_0 he) (by decide) fl_X1_85_1 rfl ?_
  refine zV_iconst dX1_tell_20 ⟨by decide, by decide⟩ ?_
  refine zV_iload_n dX1_tell_21 rfl ?_
  refine zV_ias dX1_tell_22 (sae_22 he) (by decide) (fun h5 e_h5 => ?_)
  have hP := hP h5 e_h5
  refine zV_aload_n dX1_tell_23 rfl ?_
  refine zV_sg dX1_tell_24 (fme_41 he) (sae_0 he) (by decide) fl_X1_85_1 rfl ?_
  refine zV_iconst dX1_tell_27 ⟨by decide, by decide⟩ ?_
  refine zV_iload_n dX1_tell_28 rfl ?_
  refine zV_ias dX1_tell_29 (sae_22 he) (by decide) (fun h6 e_h6 => ?_)
  have hP := hP h6 e_h6
  refine zV_aload_n dX1_tell_30 rfl ?_
  refine zV_sg dX1_tell_31 (fme_41 he) (sae_0 he) (by decide) fl_X1_85_1 rfl ?_
  refine zV_iconst dX1_tell_34 ⟨by decide, by decide⟩ ?_
  refine zV_aload_n dX1_tell_35 rfl ?_
  refine zV_gf dX1_tell_36 (sae_0 he) (by decide) fl_X1_275_1 rfl (ki := 52) rfl ?_
  refine zV_ias dX1_tell_39 (sae_22 he) (by decide) (fun h7 e_h7 => ?_)
  have hP := hP h7 e_h7
  refine zV_aload_n dX1_tell_40 rfl ?_
  refine zV_sg dX1_tell_41 (fme_41 he) (sae_0 he) (by decide) fl_X1_85_1 rfl ?_
  refine zV_iconst dX1_tell_44 ⟨by decide, by decide⟩ ?_
  refine zV_aload_n dX1_tell_45 rfl ?_
  refine zV_gf dX1_tell_46 (sae_0 he) (by decide) fl_X1_278_1 rfl (ki := 50) rfl ?_
  refine zV_ias dX1_tell_49 (sae_22 he) (by decide) (fun h8 e_h8 => ?_)
  have hP := hP h8 e_h8
  exact zV_return dX1_tell_50 rfl ⟨rfl, hP⟩
def P_E_noAtAll (e : Int) (a1 : Int) (h : zH) (Q : Int → zH → Prop) : Prop :=
P_E_beginSet e h (fun r1 h2 =>
P_E_gather e a1 0 0 h2 (fun r3 h4 =>
∀ h5 : zH, h5 = zw h4 e 45 0 →
P_E_no e h5 (fun r6 h7 =>
if r6 = 0 then
(P_E_tell e a1 0 0 h7 (fun r8 h9 =>
Q r6 h9))
else
(Q r6 h7))))
theorem W_E_noAtAll (e : Int) (he : zE e) (a1 : Int) (h : zH) (Q : Int → zH → Prop) (hP : P_E_noAtAll e a1 h Q) : zC true zy_X1_noAtAll 6 [zR e, zI a1] h (zQ0 Q) := by
  unfold P_E_noAtAll at hP
  refine zC.of (by decide) (Nat.le_of_ble_eq_true rfl) ?_
  show zV true zy_X1_noAtAll 6 0 [zR e, zI a1, zU] [] h (zQ0 Q)
  refine zV_aload_n dX1_noAtAll_0 rfl ?_
  refine zV_cVv (As := []) (rest := []) dX1_noAtAll_1 (sae_0 he) (W_E_beginSet e he _ _ hP) mi_X1_beginSet ml_X1_281 (by decide) (Nat.le_of_ble_eq_true rfl) rfl rfl (fun r1 h2 hP => ?_)
  refine zV_aload_n dX1_noAtAll_4 rfl ?_
  refine zV_iload_n dX1_noAtAll_5 rfl ?_
  refine zV_iconst dX1_noAtAll_6 ⟨by decide, by decide⟩ ?_
  refine zV_iconst dX1_noAtAll_7 ⟨by decide, by decide⟩ ?_
  refine zV_cVk (As := [zI a1, zI 0, zI 0]) (rest := []) dX1_noAtAll_8 (sae_0 he) (W_E_gather e he _ _ _ _ _ hP) mi_X1_gather ml_X1_284 (by decide) (Nat.le_of_ble_eq_true rfl) rfl rfl rfl (fun r3 h4 hP => ?_)
  refine zV_pop dX1_noAtAll_11 (Nat.ne_of_beq_eq_false rfl) ?_
  refine zV_aload_n dX1_noAtAll_12 rfl ?_
  refine zV_iconst dX1_noAtAll_13 ⟨by decide, by decide⟩ ?_
  refine zV_pf dX1_noAtAll_14 (sae_0 he) (by decide) fl_X1_191_1 rfl rfl trivial (ki := 45) rfl (fun h5 e_h5 => ?_)
  have hP := hP h5 e_h5
  refine zV_aload_n dX1_noAtAll_17 rfl ?_
  refine zV_cVk (As := []) (rest := []) dX1_noAtAll_18 (sae_0 he) (W_E_no e he _ _ hP) mi_X1_no ml_X1_335 (by decide) (Nat.le_of_ble_eq_true rfl) rfl rfl rfl (fun r6 h7 hP => ?_)
  refine zV_istore_n (ls' := [zR e, zI a1, zI r6]) dX1_noAtAll_21 rfl (Nat.le_of_ble_eq_true rfl) rfl rfl ?_
  refine zV_iload_n dX1_noAtAll_22 rfl ?_
  refine zV_if_ne (tgt := 33) dX1_noAtAll_23 (by decide) (fun c => ?_) (fun c => ?_)
  · have hP := zif_n hP c
    refine zV_iload_n dX1_noAtAll_33 rfl ?_
    exact zV_ireturn dX1_noAtAll_34 rfl rfl rfl ⟨rfl, hP⟩
  · have hP := zif_p hP c
    refine zV_aload_n dX1_noAtAll_26 rfl ?_
    refine zV_iload_n dX1_noAtAll_27 rfl ?_
    refine zV_iconst dX1_noAtAll_28 ⟨by decide, by decide⟩ ?_
    refine zV_iconst dX1_noAtAll_29 ⟨by decide, by decide⟩ ?_
    refine zV_cVv (As := [zI a1, zI 0, zI 0]) (rest := []) dX1_noAtAll_30 (sae_0 he) (W_E_tell e he _ _ _ _ _ hP) mi_X1_tell ml_X1_328 (by decide) (Nat.le_of_ble_eq_true rfl) rfl rfl (fun r8 h9 hP => ?_)
    refine zV_iload_n dX1_noAtAll_33 rfl ?_
    exact zV_ireturn dX1_noAtAll_34 rfl rfl rfl ⟨rfl, hP⟩
def P_E_learn_J111 (e : Int) (y2 : Int) (y3 : Int) (y4 : Int) (h : zH) (Q : Int → zH → Prop) (k27 : Int → Int → Int → zH → Prop) : Prop :=
∀ x3_7 : Int, x3_7 = w32 (y3 + (-1)) →
k27 y2 x3_7 y4 h
theorem W_E_learn_J111 (e : Int) (he : zE e) (y2 : Int) (y3 : Int) (y4 : Int) (h : zH) (Q : Int → zH → Prop) (k27 : Int → Int → Int → zH → Prop) (H27 : ∀ (v2 v3 v4 : Int) (h' : zH), k27 v2 v3 v4 h' → zV true zy_X1_learn 3 27 [zR e, zU, zI v2, zI v3, zI v4, zU] [] h' (zQ0 Q)) (hP : P_E_learn_J111 e y2 y3 y4 h Q k27) : zV true zy_X1_learn 3 111 [zR e, zU, zI y2, zI y3, zI y4, zU] [] h (zQ0 Q) := by
  unfold P_E_learn_J111 at hP
  refine zV_inc (ls' := fun z => [zR e, zU, zI y2, zI z, zI y4, zU]) dX1_learn_111 (Nat.le_of_ble_eq_true rfl) rfl rfl (fun _ => rfl) (fun x3_7 e_x3_7 => ?_)
  have hP := hP x3_7 e_x3_7
  refine zV_goto (tgt := 27) dX1_learn_114 (by decide) ?_
  exact H27 _ _ _ _ hP
def P_E_learn_L27 (e : Int) (Q : Int → zH → Prop) (k117 : Int → zH → Prop) : Nat → Int → Int → Int → zH → Prop
| 0, _, _, _, _ => False
| n27 + 1, y2, y3, y4, h =>
if y4 = (-1005) then
((0 ≤ y3 ∧ y3 < 300) ∧
∀ x5_6 : Int, x5_6 = (zabs (zd h (e + 17) y3)) →
(0 ≤ x5_6 ∧ x5_6 < 301) ∧
if zd h (e + 25) x5_6 = 0 then
(P_E_learn_J111 e y2 y3 y4 h Q (P_E_learn_L27 e Q k117 n27))
else
((0 ≤ x5_6 ∧ x5_6 < 301) ∧
if zd h (e + 12) x5_6 = zd h e 21 then
(if y2 = 1 then
(P_E_learn_J111 e y2 y3 y3 h Q (P_E_learn_L27 e Q k117 n27))
else
((0 ≤ x5_6 ∧ x5_6 < 301) ∧
∀ h8 : zH, h8 = zw h (e + 25) x5_6 (zbit 0) →
(0 ≤ x5_6 ∧ x5_6 < 301) ∧
P_E_gather e (zd h8 (e + 13) x5_6) x5_6 (zd h8 e 21) h8 (fun r9 h10 =>
∀ x2_11 : Int, x2_11 = (w32 (y2 + (w32 (r9 - 1)))) →
P_E_learn_J111 e x2_11 y3 y4 h10 Q (P_E_learn_L27 e Q k117 n27))))
else
(P_E_learn_J111 e y2 y3 y4 h Q (P_E_learn_L27 e Q k117 n27))))
else
(k117 y4 h)
theorem W_E_learn_L27 (e : Int) (he : zE e) (Q : Int → zH → Prop) (k117 : Int → zH → Prop) (H117 : ∀ (v4 : Int) (h' : zH), k117 v4 h' → zV true zy_X1_learn 3 117 [zR e, zU, zU, zU, zI v4, zU] [] h' (zQ0 Q)) : ∀ (n27 : Nat) (y2 y3 y4 : Int) (h : zH), P_E_learn_L27 e Q k117 n27 y2 y3 y4 h → zV true zy_X1_learn 3 27 [zR e, zU, zI y2, zI y3, zI y4, zU] [] h (zQ0 Q) := by
  intro n27
  induction n27 with
  | zero => intro y2 y3 y4 h hP; exact absurd hP id
  | succ n27 ih =>
    intro y2 y3 y4 h hP
    unfold P_E_learn_L27 at hP
    refine zV_iload dX1_learn_27 rfl ?_
    refine zV_sipush dX1_learn_29 ⟨by decide, by decide, by decide⟩ ?_
    refine zV_icmp_ne (tgt := 117) dX1_learn_32 (by decide) (fun c => ?_) (fun c => ?_)
    · have hP := zif_n hP c
      refine zV_mask [true, true, false, false, true, true] (ls' := [zR e, zU, zU, zU, zI y4, zU]) rfl ?_
      exact H117 _ _ hP
    · have hP := zif_p hP c
      refine zV_aload_n dX1_learn_35 rfl ?_
      refine zV_sg dX1_learn_36 (fme_18 he) (sae_0 he) (by decide) fl_X1_66_1 rfl ?_
      refine zV_iload_n dX1_learn_39 rfl ?_
      obtain ⟨ob, hP⟩ := hP
      refine zV_ia dX1_learn_40 (sae_17 he) ob ?_
      refine zV_mabs dX1_learn_41 q1546 q806 q171 q807 (Nat.le_of_ble_eq_true rfl) (by decide) ?_
      refine zV_top (fun x5_6 e_x5_6 => ?_)
      have hP := hP x5_6 e_x5_6
      refine zV_istore (ls' := [zR e, zU, zI y2, zI y3, zI y4, zI x5_6]) dX1_learn_44 (Nat.le_of_ble_eq_true rfl) rfl rfl ?_
      refine zV_aload_n dX1_learn_46 rfl ?_
      refine zV_sg dX1_learn_47 (fme_46 he) (sae_0 he) (by decide) fl_X1_94_1 rfl ?_
      refine zV_iload dX1_learn_50 rfl ?_
      obtain ⟨ob, hP⟩ := hP
      refine zV_za dX1_learn_52 (sae_25 he) ob ?_
      refine zV_if_eq (tgt := 111) dX1_learn_53 (by decide) (fun c => ?_) (fun c => ?_)
      · have hP := zif_p hP c
        refine zV_mask [true, true, true, true, true, false] (ls' := [zR e, zU, zI y2, zI y3, zI y4, zU]) rfl ?_
        exact W_E_learn_J111 e he _ _ _ _ _ _ ih hP
      · have hP := zif_n hP c
        refine zV_aload_n dX1_learn_56 rfl ?_
        refine zV_sg dX1_learn_57 (fme_13 he) (sae_0 he) (by decide) fl_X1_51_1 rfl ?_
        refine zV_iload dX1_learn_60 rfl ?_
        obtain ⟨ob, hP⟩ := hP
        refine zV_ia dX1_learn_62 (sae_12 he) ob ?_
        refine zV_aload_n dX1_learn_63 rfl ?_
        refine zV_gf dX1_learn_64 (sae_0 he) (by decide) fl_X1_139_1 rfl (ki := 21) rfl ?_
        refine zV_icmp_ne (tgt := 111) dX1_learn_67 (by decide) (fun c => ?_) (fun c => ?_)
        · have hP := zif_n hP c
          refine zV_mask [true, true, true, true, true, false] (ls' := [zR e, zU, zI y2, zI y3, zI y4, zU]) rfl ?_
          exact W_E_learn_J111 e he _ _ _ _ _ _ ih hP
        · have hP := zif_p hP c
          refine zV_iload_n dX1_learn_70 rfl ?_
          refine zV_iconst dX1_learn_71 ⟨by decide, by decide⟩ ?_
          refine zV_icmp_ne (tgt := 81) dX1_learn_72 (by decide) (fun c => ?_) (fun c => ?_)
          · have hP := zif_n hP c
            refine zV_aload_n dX1_learn_81 rfl ?_
            refine zV_sg dX1_learn_82 (fme_46 he) (sae_0 he) (by decide) fl_X1_94_1 rfl ?_
            refine zV_iload dX1_learn_85 rfl ?_
            refine zV_iconst dX1_learn_87 ⟨by decide, by decide⟩ ?_
            obtain ⟨ob, hP⟩ := hP
            refine zV_zas dX1_learn_88 (sae_25 he) ob (fun h8 e_h8 => ?_)
            have hP := hP h8 e_h8
            refine zV_iload_n dX1_learn_89 rfl ?_
            refine zV_aload_n dX1_learn_90 rfl ?_
            refine zV_aload_n dX1_learn_91 rfl ?_
            refine zV_sg dX1_learn_92 (fme_14 he) (sae_0 he) (by decide) fl_X1_54_1 rfl ?_
            refine zV_iload dX1_learn_95 rfl ?_
            obtain ⟨ob, hP⟩ := hP
            refine zV_ia dX1_learn_97 (sae_13 he) ob ?_
            refine zV_iload dX1_learn_98 rfl ?_
            refine zV_aload_n dX1_learn_100 rfl ?_
            refine zV_gf dX1_learn_101 (sae_0 he) (by decide) fl_X1_139_1 rfl (ki := 21) rfl ?_
            refine zV_cVk (As := [zI (zd h8 (e + 13) x5_6), zI x5_6, zI (zd h8 e 21)]) (rest := [zI y2]) dX1_learn_104 (sae_0 he) (W_E_gather e he _ _ _ _ _ hP) mi_X1_gather ml_X1_284 (by decide) (Nat.le_of_ble_eq_true rfl) rfl rfl rfl (fun r9 h10 hP => ?_)
            refine zV_iconst dX1_learn_107 ⟨by decide, by decide⟩ ?_
            refine zV_isub dX1_learn_108 ?_
            refine zV_iadd dX1_learn_109 ?_
            refine zV_top (fun x2_11 e_x2_11 => ?_)
            have hP := hP x2_11 e_x2_11
            refine zV_istore_n (ls' := [zR e, zU, zI x2_11, zI y3, zI y4, zI x5_6]) dX1_learn_110 rfl (Nat.le_of_ble_eq_true rfl) rfl rfl ?_
            refine zV_mask [true, true, true, true, true, false] (ls' := [zR e, zU, zI x2_11, zI y3, zI y4, zU]) rfl ?_
            exact W_E_learn_J111 e he _ _ _ _ _ _ ih hP
          · have hP := zif_p hP c
            refine zV_iload_n dX1_learn_75 rfl ?_
            refine zV_istore (ls' := [zR e, zU, zI y2, zI y3, zI y3, zI x5_6]) dX1_learn_76 (Nat.le_of_ble_eq_true rfl) rfl rfl ?_
            refine zV_goto (tgt := 111) dX1_learn_78 (by decide) ?_
            refine zV_mask [true, true, true, true, true, false] (ls' := [zR e, zU, zI y2, zI y3, zI y3, zU]) rfl ?_
            exact W_E_learn_J111 e he _ _ _ _ _ _ ih hP
def P_E_learn_J168 (e : Int) (y5 : Int) (h : zH) (Q : Int → zH → Prop) (k121 : Int → zH → Prop) : Prop :=
∀ x5_13 : Int, x5_13 = w32 (y5 + (-1)) →
k121 x5_13 h
theorem W_E_learn_J168 (e : Int) (he : zE e) (y5 : Int) (h : zH) (Q : Int → zH → Prop) (k121 : Int → zH → Prop) (H121 : ∀ (v5 : Int) (h' : zH), k121 v5 h' → zV true zy_X1_learn 3 121 [zR e, zU, zU, zU, zU, zI v5] [] h' (zQ0 Q)) (hP : P_E_learn_J168 e y5 h Q k121) : zV true zy_X1_learn 3 168 [zR e, zU, zU, zU, zU, zI y5] [] h (zQ0 Q) := by
  unfold P_E_learn_J168 at hP
  refine zV_inc (ls' := fun z => [zR e, zU, zU, zU, zU, zI z]) dX1_learn_168 (Nat.le_of_ble_eq_true rfl) rfl rfl (fun _ => rfl) (fun x5_13 e_x5_13 => ?_)
  have hP := hP x5_13 e_x5_13
  refine zV_goto (tgt := 121) dX1_learn_171 (by decide) ?_
  exact H121 _ _ hP
def P_E_learn_L121 (e : Int) (Q : Int → zH → Prop) : Nat → Int → zH → Prop
| 0, _, _ => False
| n121 + 1, y5, h =>
if y5 < 0 then
(Q 0 h)
else
((0 ≤ y5 ∧ y5 < 300) ∧
(0 ≤ zabs (zd h (e + 17) y5) ∧ zabs (zd h (e + 17) y5) < 301) ∧
if zd h (e + 25) (zabs (zd h (e + 17) y5)) = 0 then
(P_E_learn_J168 e y5 h Q (P_E_learn_L121 e Q n121))
else
(∀ h14 : zH, h14 = zw h e 50 (w32 ((zd h e 50) + 1)) →
(0 ≤ y5 ∧ y5 < 300) ∧
(0 ≤ zd h e 50 ∧ zd h e 50 < 300) ∧
∀ h15 : zH, h15 = zw h14 (e + 28) (zd h e 50) (w32 (-(zd h14 (e + 17) y5))) →
P_E_learn_J168 e y5 h15 Q (P_E_learn_L121 e Q n121)))
theorem W_E_learn_L121 (e : Int) (he : zE e) (Q : Int → zH → Prop) : ∀ (n121 : Nat) (y5 : Int) (h : zH), P_E_learn_L121 e Q n121 y5 h → zV true zy_X1_learn 3 121 [zR e, zU, zU, zU, zU, zI y5] [] h (zQ0 Q) := by
  intro n121
  induction n121 with
  | zero => intro y5 h hP; exact absurd hP id
  | succ n121 ih =>
    intro y5 h hP
    unfold P_E_learn_L121 at hP
    refine zV_iload dX1_learn_121 rfl ?_
    refine zV_if_lt (tgt := 174) dX1_learn_123 (by decide) (fun c => ?_) (fun c => ?_)
    · have hP := zif_p hP c
      exact zV_return dX1_learn_174 rfl ⟨rfl, hP⟩
    · have hP := zif_n hP c
      refine zV_aload_n dX1_learn_126 rfl ?_
      refine zV_sg dX1_learn_127 (fme_46 he) (sae_0 he) (by decide) fl_X1_94_1 rfl ?_
      refine zV_aload_n dX1_learn_130 rfl ?_
      refine zV_sg dX1_learn_131 (fme_18 he) (sae_0 he) (by decide) fl_X1_66_1 rfl ?_
      refine zV_iload dX1_learn_134 rfl ?_
      obtain ⟨ob, hP⟩ := hP
      refine zV_ia dX1_learn_136 (sae_17 he) ob ?_
      refine zV_mabs dX1_learn_137 q1546 q806 q171 q807 (Nat.le_of_ble_eq_true rfl) (by decide) ?_
      obtain ⟨ob, hP⟩ := hP
      refine zV_za dX1_learn_140 (sae_25 he) ob ?_
      refine zV_if_eq (tgt := 168) dX1_learn_141 (by decide) (fun c => ?_) (fun c => ?_)
      · have hP := zif_p hP c
        exact W_E_learn_J168 e he _ _ _ _ ih hP
      · have hP := zif_n hP c
        refine zV_aload_n dX1_learn_144 rfl ?_
        refine zV_sg dX1_learn_145 (fme_49 he) (sae_0 he) (by decide) fl_X1_103_1 rfl ?_
        refine zV_aload_n dX1_learn_148 rfl ?_
        refine zV_dup dX1_learn_149 (Nat.ne_of_beq_eq_false rfl) ?_
        refine zV_gf dX1_learn_150 (sae_0 he) (by decide) fl_X1_278_1 rfl (ki := 50) rfl ?_
        refine zV_dup_x1 dX1_learn_153 (Nat.ne_of_beq_eq_false rfl) (Nat.ne_of_beq_eq_false rfl) ?_
        refine zV_iconst dX1_learn_154 ⟨by decide, by decide⟩ ?_
        refine zV_iadd dX1_learn_155 ?_
        refine zV_pf dX1_learn_156 (sae_0 he) (by decide) fl_X1_278_1 rfl rfl trivial (ki := 50) rfl (fun h14 e_h14 => ?_)
        have hP := hP h14 e_h14
        refine zV_aload_n dX1_learn_159 rfl ?_
        refine zV_sg dX1_learn_160 (fme_18 he) (sae_0 he) (by decide) fl_X1_66_1 rfl ?_
        refine zV_iload dX1_learn_163 rfl ?_
        obtain ⟨ob, hP⟩ := hP
        refine zV_ia dX1_learn_165 (sae_17 he) ob ?_
        refine zV_ineg dX1_learn_166 ?_
        obtain ⟨ob, hP⟩ := hP
        refine zV_ias dX1_learn_167 (sae_28 he) ob (fun h15 e_h15 => ?_)
        have hP := hP h15 e_h15
        exact W_E_learn_J168 e he _ _ _ _ ih hP
def P_E_learn (e : Int) (a1 : Int) (h : zH) (Q : Int → zH → Prop) : Prop :=
P_E_beginSet e h (fun r1 h2 =>
P_E_gather e a1 0 (zd h2 e 21) h2 (fun r3 h4 =>
∀ x3_5 : Int, x3_5 = (w32 ((zd h4 e 20) - 1)) →
∃ n27, P_E_learn_L27 e Q (fun u4_117 h12 =>
∃ n121, P_E_learn_L121 e Q n121 u4_117 h12) n27 r3 x3_5 (-1005) h4))
theorem W_E_learn (e : Int) (he : zE e) (a1 : Int) (h : zH) (Q : Int → zH → Prop) (hP : P_E_learn e a1 h Q) : zC true zy_X1_learn 3 [zR e, zI a1] h (zQ0 Q) := by
  unfold P_E_learn at hP
  refine zC.of (by decide) (Nat.le_of_ble_eq_true rfl) ?_
  show zV true zy_X1_learn 3 0 [zR e, zI a1, zU, zU, zU, zU] [] h (zQ0 Q)
  refine zV_aload_n dX1_learn_0 rfl ?_
  refine zV_cVv (As := []) (rest := []) dX1_learn_1 (sae_0 he) (W_E_beginSet e he _ _ hP) mi_X1_beginSet ml_X1_281 (by decide) (Nat.le_of_ble_eq_true rfl) rfl rfl (fun r1 h2 hP => ?_)
  refine zV_aload_n dX1_learn_4 rfl ?_
  refine zV_iload_n dX1_learn_5 rfl ?_
  refine zV_iconst dX1_learn_6 ⟨by decide, by decide⟩ ?_
  refine zV_aload_n dX1_learn_7 rfl ?_
  refine zV_gf dX1_learn_8 (sae_0 he) (by decide) fl_X1_139_1 rfl (ki := 21) rfl ?_
  refine zV_cVk (As := [zI a1, zI 0, zI (zd h2 e 21)]) (rest := []) dX1_learn_11 (sae_0 he) (W_E_gather e he _ _ _ _ _ hP) mi_X1_gather ml_X1_284 (by decide) (Nat.le_of_ble_eq_true rfl) rfl rfl rfl (fun r3 h4 hP => ?_)
  refine zV_istore_n (ls' := [zR e, zI a1, zI r3, zU, zU, zU]) dX1_learn_14 rfl (Nat.le_of_ble_eq_true rfl) rfl rfl ?_
  refine zV_aload_n dX1_learn_15 rfl ?_
  refine zV_gf dX1_learn_16 (sae_0 he) (by decide) fl_X1_136_1 rfl (ki := 20) rfl ?_
  refine zV_iconst dX1_learn_19 ⟨by decide, by decide⟩ ?_
  refine zV_isub dX1_learn_20 ?_
  refine zV_top (fun x3_5 e_x3_5 => ?_)
  have hP := hP x3_5 e_x3_5
  refine zV_istore_n (ls' := [zR e, zI a1, zI r3, zI x3_5, zU, zU]) dX1_learn_21 rfl (Nat.le_of_ble_eq_true rfl) rfl rfl ?_
  refine zV_sipush dX1_learn_22 ⟨by decide, by decide, by decide⟩ ?_
  refine zV_istore (ls' := [zR e, zI a1, zI r3, zI x3_5, zI (-1005), zU]) dX1_learn_25 (Nat.le_of_ble_eq_true rfl) rfl rfl ?_
  obtain ⟨n27, hP⟩ := hP
  refine zV_mask [true, false, true, true, true, true] (ls' := [zR e, zU, zI r3, zI x3_5, zI (-1005), zU]) rfl ?_
  refine W_E_learn_L27 e he _ _ (fun u4_117 h12 hP => ?_) n27 _ _ _ _ hP
  refine zV_iload dX1_learn_117 rfl ?_
  refine zV_istore (ls' := [zR e, zU, zU, zU, zI u4_117, zI u4_117]) dX1_learn_119 (Nat.le_of_ble_eq_true rfl) rfl rfl ?_
  obtain ⟨n121, hP⟩ := hP
  refine zV_mask [true, true, true, true, false, true] (ls' := [zR e, zU, zU, zU, zU, zI u4_117]) rfl ?_
  refine W_E_learn_L121 e he _ n121 _ _ hP
def P_E_heavier_J57 (e : Int) (y2 : Int) (s0 : Int) (s1 : Int) (h : zH) (Q : Int → zH → Prop) (k4 : Int → Int → zH → Prop) : Prop :=
∀ x1_2 : Int, x1_2 = (zor s1 s0) →
∀ x2_3 : Int, x2_3 = w32 (y2 + 1) →
k4 x1_2 x2_3 h
theorem W_E_heavier_J57 (e : Int) (he : zE e) (y2 : Int) (s0 : Int) (s1 : Int) (h : zH) (Q : Int → zH → Prop) (k4 : Int → Int → zH → Prop) (H4 : ∀ (v1 v2 : Int) (h' : zH), k4 v1 v2 h' → zV true zy_X1_heavier 2 4 [zR e, zI v1, zI v2] [] h' (zQ0 Q)) (hP : P_E_heavier_J57 e y2 s0 s1 h Q k4) : zV true zy_X1_heavier 2 57 [zR e, zU, zI y2] [zI s0, zI s1] h (zQ0 Q) := by
  unfold P_E_heavier_J57 at hP
  refine zV_ior dX1_heavier_57 ?_
  refine zV_top (fun x1_2 e_x1_2 => ?_)
  have hP := hP x1_2 e_x1_2
  refine zV_istore_n (ls' := [zR e, zI x1_2, zI y2]) dX1_heavier_58 rfl (Nat.le_of_ble_eq_true rfl) rfl rfl ?_
  refine zV_inc (ls' := fun z => [zR e, zI x1_2, zI z]) dX1_heavier_59 (Nat.le_of_ble_eq_true rfl) rfl rfl (fun _ => rfl) (fun x2_3 e_x2_3 => ?_)
  have hP := hP x2_3 e_x2_3
  refine zV_goto (tgt := 4) dX1_heavier_62 (by decide) ?_
  exact H4 _ _ _ hP
def P_E_heavier_J36 (e : Int) (y1 : Int) (y2 : Int) (s0 : Int) (s1 : Int) (s2 : Int) (h : zH) (Q : Int → zH → Prop) (k4 : Int → Int → zH → Prop) : Prop :=
(0 ≤ s2 ∧ s2 < 301) ∧
∀ h1 : zH, h1 = zw h (e + 15) s2 (w64 (s1 + s0)) →
(0 ≤ y2 ∧ y2 < 301) ∧
P_E_heavier_J57 e y2 (if zcmp (zd h1 (e + 15) y2) 1000000000000 ≤ 0 then 0 else 1) y1 h1 Q k4
theorem W_E_heavier_J36 (e : Int) (he : zE e) (y1 : Int) (y2 : Int) (s0 : Int) (s1 : Int) (s2 : Int) (h : zH) (Q : Int → zH → Prop) (k4 : Int → Int → zH → Prop) (H4 : ∀ (v1 v2 : Int) (h' : zH), k4 v1 v2 h' → zV true zy_X1_heavier 2 4 [zR e, zI v1, zI v2] [] h' (zQ0 Q)) (hP : P_E_heavier_J36 e y1 y2 s0 s1 s2 h Q k4) : zV true zy_X1_heavier 2 36 [zR e, zI y1, zI y2] [zJ s0, zJ s1, zI s2, zR (e + 15)] h (zQ0 Q) := by
  unfold P_E_heavier_J36 at hP
  refine zV_ladd dX1_heavier_36 ?_
  obtain ⟨ob, hP⟩ := hP
  refine zV_las dX1_heavier_37 (sae_15 he) ob (fun h1 e_h1 => ?_)
  have hP := hP h1 e_h1
  refine zV_iload_n dX1_heavier_38 rfl ?_
  refine zV_aload_n dX1_heavier_39 rfl ?_
  refine zV_sg dX1_heavier_40 (fme_16 he) (sae_0 he) (by decide) fl_X1_60_1 rfl ?_
  refine zV_iload_n dX1_heavier_43 rfl ?_
  obtain ⟨ob, hP⟩ := hP
  refine zV_la dX1_heavier_44 (sae_15 he) ob ?_
  refine zV_ldc2c (x := 1000000000000) dX1_heavier_45 (by decide) q1660 ⟨by decide, by decide⟩ ?_
  refine zV_lcmp dX1_heavier_48 ?_
  have K : zV true zy_X1_heavier 2 57 [zR e, zU, zI y2] [zI (if zcmp (zd h1 (e + 15) y2) 1000000000000 ≤ 0 then 0 else 1), zI y1] h1 (zQ0 Q) := by
    exact W_E_heavier_J57 e he _ _ _ _ _ _ H4 hP
  clear hP
  refine zV_if_le (tgt := 56) dX1_heavier_49 (by decide) (fun c => ?_) (fun c => ?_)
  · try simp only [if_pos c] at K
    refine zV_iconst dX1_heavier_56 ⟨by decide, by decide⟩ ?_
    refine zV_mask [true, false, true] rfl ?_
    exact K
  · try simp only [if_neg c] at K
    refine zV_iconst dX1_heavier_52 ⟨by decide, by decide⟩ ?_
    refine zV_goto (tgt := 57) dX1_heavier_53 (by decide) ?_
    refine zV_mask [true, false, true] rfl ?_
    exact K
def P_E_heavier_L4 (e : Int) (Q : Int → zH → Prop) (k65 : Int → zH → Prop) : Nat → Int → Int → zH → Prop
| 0, _, _, _ => False
| n4 + 1, y1, y2, h =>
if zd h e 11 < y2 then
(k65 y1 h)
else
((0 ≤ y2 ∧ y2 < 301) ∧
(0 ≤ y2 ∧ y2 < 301) ∧
P_E_heavier_J36 e y1 y2 (if zd h (e + 26) y2 = 0 then 0 else zd h e 22) (zd h (e + 15) y2) y2 h Q (P_E_heavier_L4 e Q k65 n4))
theorem W_E_heavier_L4 (e : Int) (he : zE e) (Q : Int → zH → Prop) (k65 : Int → zH → Prop) (H65 : ∀ (v1 : Int) (h' : zH), k65 v1 h' → zV true zy_X1_heavier 2 65 [zR e, zI v1, zU] [] h' (zQ0 Q)) : ∀ (n4 : Nat) (y1 y2 : Int) (h : zH), P_E_heavier_L4 e Q k65 n4 y1 y2 h → zV true zy_X1_heavier 2 4 [zR e, zI y1, zI y2] [] h (zQ0 Q) := by
  intro n4
  induction n4 with
  | zero => intro y1 y2 h hP; exact absurd hP id
  | succ n4 ih =>
    intro y1 y2 h hP
    unfold P_E_heavier_L4 at hP
    refine zV_iload_n dX1_heavier_4 rfl ?_
    refine zV_aload_n dX1_heavier_5 rfl ?_
    refine zV_gf dX1_heavier_6 (sae_0 he) (by decide) fl_X1_121_1 rfl (ki := 11) rfl ?_
    refine zV_icmp_gt (tgt := 65) dX1_heavier_9 (by decide) (fun c => ?_) (fun c => ?_)
    · have hP := zif_p hP c
      refine zV_mask [true, true, false] (ls' := [zR e, zI y1, zU]) rfl ?_
      exact H65 _ _ hP
    · have hP := zif_n hP c
      refine zV_aload_n dX1_heavier_12 rfl ?_
      refine zV_sg dX1_heavier_13 (fme_16 he) (sae_0 he) (by decide) fl_X1_60_1 rfl ?_
      refine zV_iload_n dX1_heavier_16 rfl ?_
      refine zV_dup2 dX1_heavier_17 (Nat.ne_of_beq_eq_false rfl) (Nat.ne_of_beq_eq_false rfl) ?_
      obtain ⟨ob, hP⟩ := hP
      refine zV_la dX1_heavier_18 (sae_15 he) ob ?_
      refine zV_aload_n dX1_heavier_19 rfl ?_
      refine zV_sg dX1_heavier_20 (fme_47 he) (sae_0 he) (by decide) fl_X1_97_1 rfl ?_
      refine zV_iload_n dX1_heavier_23 rfl ?_
      obtain ⟨ob, hP⟩ := hP
      refine zV_za dX1_heavier_24 (sae_26 he) ob ?_
      have K : zV true zy_X1_heavier 2 36 [zR e, zI y1, zI y2] [zJ (if zd h (e + 26) y2 = 0 then 0 else zd h e 22), zJ (zd h (e + 15) y2), zI y2, zR (e + 15)] h (zQ0 Q) := by
        exact W_E_heavier_J36 e he _ _ _ _ _ _ _ _ ih hP
      clear hP
      refine zV_if_eq (tgt := 35) dX1_heavier_25 (by decide) (fun c => ?_) (fun c => ?_)
      · try simp only [if_pos c] at K
        refine zV_lconst (x := 0) dX1_heavier_35 rfl ?_
        refine zV_mask [true, true, true] rfl ?_
        exact K
      · try simp only [if_neg c] at K
        refine zV_aload_n dX1_heavier_28 rfl ?_
        refine zV_gf dX1_heavier_29 (sae_0 he) (by decide) fl_X1_144_1 rfl (ki := 22) rfl ?_
        refine zV_goto (tgt := 36) dX1_heavier_32 (by decide) ?_
        refine zV_mask [true, true, true] rfl ?_
        exact K
def P_E_heavier_L88 (e : Int) (Q : Int → zH → Prop) : Nat → Int → zH → Prop
| 0, _, _ => False
| n88 + 1, y2, h =>
if zd h e 11 < y2 then
(∀ h6 : zH, h6 = zw h e 22 (zmaxl 1 (w64 (Int.tdiv (zd h e 22) 1048576))) →
Q 0 h6)
else
((0 ≤ y2 ∧ y2 < 301) ∧
(0 ≤ y2 ∧ y2 < 301) ∧
∀ h7 : zH, h7 = zw h (e + 15) y2 (w64 (Int.tdiv (zd h (e + 15) y2) 1048576)) →
∀ x2_8 : Int, x2_8 = w32 (y2 + 1) →
P_E_heavier_L88 e Q n88 x2_8 h7)
theorem W_E_heavier_L88 (e : Int) (he : zE e) (Q : Int → zH → Prop) : ∀ (n88 : Nat) (y2 : Int) (h : zH), P_E_heavier_L88 e Q n88 y2 h → zV true zy_X1_heavier 2 88 [zR e, zU, zI y2] [] h (zQ0 Q) := by
  intro n88
  induction n88 with
  | zero => intro y2 h hP; exact absurd hP id
  | succ n88 ih =>
    intro y2 h hP
    unfold P_E_heavier_L88 at hP
    refine zV_iload_n dX1_heavier_88 rfl ?_
    refine zV_aload_n dX1_heavier_89 rfl ?_
    refine zV_gf dX1_heavier_90 (sae_0 he) (by decide) fl_X1_121_1 rfl (ki := 11) rfl ?_
    refine zV_icmp_gt (tgt := 114) dX1_heavier_93 (by decide) (fun c => ?_) (fun c => ?_)
    · have hP := zif_p hP c
      refine zV_aload_n dX1_heavier_114 rfl ?_
      refine zV_lconst (x := 1) dX1_heavier_115 rfl ?_
      refine zV_aload_n dX1_heavier_116 rfl ?_
      refine zV_gf dX1_heavier_117 (sae_0 he) (by decide) fl_X1_144_1 rfl (ki := 22) rfl ?_
      refine zV_ldc2c (x := 1048576) dX1_heavier_120 (by decide) q1662 ⟨by decide, by decide⟩ ?_
      refine zV_ldiv dX1_heavier_123 (by decide) ?_
      refine zV_mmaxl dX1_heavier_124 q1663 q1664 q171 q1665 (Nat.le_of_ble_eq_true rfl) (by decide) ?_
      refine zV_pf dX1_heavier_127 (sae_0 he) (by decide) fl_X1_144_1 rfl rfl trivial (ki := 22) rfl (fun h6 e_h6 => ?_)
      have hP := hP h6 e_h6
      exact zV_return dX1_heavier_130 rfl ⟨rfl, hP⟩
    · have hP := zif_n hP c
      refine zV_aload_n dX1_heavier_96 rfl ?_
      refine zV_sg dX1_heavier_97 (fme_16 he) (sae_0 he) (by decide) fl_X1_60_1 rfl ?_
      refine zV_iload_n dX1_heavier_100 rfl ?_
      refine zV_dup2 dX1_heavier_101 (Nat.ne_of_beq_eq_false rfl) (Nat.ne_of_beq_eq_false rfl) ?_
      obtain ⟨ob, hP⟩ := hP
      refine zV_la dX1_heavier_102 (sae_15 he) ob ?_
      refine zV_ldc2c (x := 1048576) dX1_heavier_103 (by decide) q1662 ⟨by decide, by decide⟩ ?_
      refine zV_ldiv dX1_heavier_106 (by decide) ?_
      obtain ⟨ob, hP⟩ := hP
      refine zV_las dX1_heavier_107 (sae_15 he) ob (fun h7 e_h7 => ?_)
      have hP := hP h7 e_h7
      refine zV_inc (ls' := fun z => [zR e, zU, zI z]) dX1_heavier_108 (Nat.le_of_ble_eq_true rfl) rfl rfl (fun _ => rfl) (fun x2_8 e_x2_8 => ?_)
      have hP := hP x2_8 e_x2_8
      refine zV_goto (tgt := 88) dX1_heavier_111 (by decide) ?_
      exact ih _ _ hP
def P_E_heavier (e : Int) (h : zH) (Q : Int → zH → Prop) : Prop :=
∃ n4, P_E_heavier_L4 e Q (fun u1_65 h4 =>
∀ h5 : zH, h5 = zw h4 e 22 (w64 ((zd h4 e 22) + (w64 (Int.tdiv (zd h4 e 22) 8)))) →
if u1_65 = 0 then
(Q 0 h5)
else
(∃ n88, P_E_heavier_L88 e Q n88 1 h5)) n4 0 1 h
theorem W_E_heavier (e : Int) (he : zE e) (h : zH) (Q : Int → zH → Prop) (hP : P_E_heavier e  h Q) : zC true zy_X1_heavier 2 [zR e] h (zQ0 Q) := by
  unfold P_E_heavier at hP
  refine zC.of (by decide) (Nat.le_of_ble_eq_true rfl) ?_
  show zV true zy_X1_heavier 2 0 [zR e, zU, zU] [] h (zQ0 Q)
  refine zV_iconst dX1_heavier_0 ⟨by decide, by decide⟩ ?_
  refine zV_istore_n (ls' := [zR e, zI 0, zU]) dX1_heavier_1 rfl (Nat.le_of_ble_eq_true rfl) rfl rfl ?_
  refine zV_iconst dX1_heavier_2 ⟨by decide, by decide⟩ ?_
  refine zV_istore_n (ls' := [zR e, zI 0, zI 1]) dX1_heavier_3 rfl (Nat.le_of_ble_eq_true rfl) rfl rfl ?_
  obtain ⟨n4, hP⟩ := hP
  refine W_E_heavier_L4 e he _ _ (fun u1_65 h4 hP => ?_) n4 _ _ _ hP
  refine zV_aload_n dX1_heavier_65 rfl ?_
  refine zV_dup dX1_heavier_66 (Nat.ne_of_beq_eq_false rfl) ?_
  refine zV_gf dX1_heavier_67 (sae_0 he) (by decide) fl_X1_144_1 rfl (ki := 22) rfl ?_
  refine zV_aload_n dX1_heavier_70 rfl ?_
  refine zV_gf dX1_heavier_71 (sae_0 he) (by decide) fl_X1_144_1 rfl (ki := 22) rfl ?_
  refine zV_ldc2c (x := 8) dX1_heavier_74 (by decide) q1661 ⟨by decide, by decide⟩ ?_
  refine zV_ldiv dX1_heavier_77 (by decide) ?_
  refine zV_ladd dX1_heavier_78 ?_
  refine zV_pf dX1_heavier_79 (sae_0 he) (by decide) fl_X1_144_1 rfl rfl trivial (ki := 22) rfl (fun h5 e_h5 => ?_)
  have hP := hP h5 e_h5
  refine zV_iload_n dX1_heavier_82 rfl ?_
  refine zV_if_eq (tgt := 130) dX1_heavier_83 (by decide) (fun c => ?_) (fun c => ?_)
  · have hP := zif_p hP c
    exact zV_return dX1_heavier_130 rfl ⟨rfl, hP⟩
  · have hP := zif_n hP c
    refine zV_iconst dX1_heavier_86 ⟨by decide, by decide⟩ ?_
    refine zV_istore_n (ls' := [zR e, zI u1_65, zI 1]) dX1_heavier_87 rfl (Nat.le_of_ble_eq_true rfl) rfl rfl ?_
    obtain ⟨n88, hP⟩ := hP
    refine zV_mask [true, false, true] (ls' := [zR e, zU, zI 1]) rfl ?_
    refine W_E_heavier_L88 e he _ n88 _ _ hP
def P_E_turnNumber_L7 (e : Int) (y1 : Int) (Q : Int → zH → Prop) (k23 : Int → zH → Prop) : Nat → Int → zH → Prop
| 0, _, _ => False
| n7 + 1, y2, h =>
if y1 ≤ w32 ((w32 (2 * y2)) - 1) then
(k23 y2 h)
else
(∀ x2_2 : Int, x2_2 = (w32 (y2 * 2)) →
P_E_turnNumber_L7 e y1 Q k23 n7 x2_2 h)
theorem W_E_turnNumber_L7 (e : Int) (he : zE e) (y1 : Int) (Q : Int → zH → Prop) (k23 : Int → zH → Prop) (H23 : ∀ (v2 : Int) (h' : zH), k23 v2 h' → zV true zy_X1_turnNumber 1 23 [zU, zI y1, zI v2] [] h' (zQ0 Q)) : ∀ (n7 : Nat) (y2 : Int) (h : zH), P_E_turnNumber_L7 e y1 Q k23 n7 y2 h → zV true zy_X1_turnNumber 1 7 [zU, zI y1, zI y2] [] h (zQ0 Q) := by
  intro n7
  induction n7 with
  | zero => intro y2 h hP; exact absurd hP id
  | succ n7 ih =>
    intro y2 h hP
    unfold P_E_turnNumber_L7 at hP
    refine zV_iconst dX1_turnNumber_7 ⟨by decide, by decide⟩ ?_
    refine zV_iload_n dX1_turnNumber_8 rfl ?_
    refine zV_imul dX1_turnNumber_9 ?_
    refine zV_iconst dX1_turnNumber_10 ⟨by decide, by decide⟩ ?_
    refine zV_isub dX1_turnNumber_11 ?_
    refine zV_iload_n dX1_turnNumber_12 rfl ?_
    refine zV_icmp_ge (tgt := 23) dX1_turnNumber_13 (by decide) (fun c => ?_) (fun c => ?_)
    · have hP := zif_p hP c
      exact H23 _ _ hP
    · have hP := zif_n hP c
      refine zV_iload_n dX1_turnNumber_16 rfl ?_
      refine zV_iconst dX1_turnNumber_17 ⟨by decide, by decide⟩ ?_
      refine zV_imul dX1_turnNumber_18 ?_
      refine zV_top (fun x2_2 e_x2_2 => ?_)
      have hP := hP x2_2 e_x2_2
      refine zV_istore_n (ls' := [zU, zI y1, zI x2_2]) dX1_turnNumber_19 rfl (Nat.le_of_ble_eq_true rfl) rfl rfl ?_
      refine zV_goto (tgt := 7) dX1_turnNumber_20 (by decide) ?_
      exact ih _ _ hP
def P_E_turnNumber_L40 (e : Int) (y1 : Int) (Q : Int → zH → Prop) (k23 : Int → zH → Prop) : Nat → Int → zH → Prop
| 0, _, _ => False
| n40 + 1, y2, h =>
if y1 ≤ w32 ((w32 (2 * y2)) - 1) then
(k23 y2 h)
else
(∀ x2_5 : Int, x2_5 = (w32 (y2 * 2)) →
P_E_turnNumber_L40 e y1 Q k23 n40 x2_5 h)
theorem W_E_turnNumber_L40 (e : Int) (he : zE e) (y1 : Int) (Q : Int → zH → Prop) (k23 : Int → zH → Prop) (H23 : ∀ (v2 : Int) (h' : zH), k23 v2 h' → zV true zy_X1_turnNumber 1 23 [zU, zI y1, zI v2] [] h' (zQ0 Q)) : ∀ (n40 : Nat) (y2 : Int) (h : zH), P_E_turnNumber_L40 e y1 Q k23 n40 y2 h → zV true zy_X1_turnNumber 1 40 [zU, zI y1, zI y2] [] h (zQ0 Q) := by
  intro n40
  induction n40 with
  | zero => intro y2 h hP; exact absurd hP id
  | succ n40 ih =>
    intro y2 h hP
    unfold P_E_turnNumber_L40 at hP
    refine zV_iconst dX1_turnNumber_40 ⟨by decide, by decide⟩ ?_
    refine zV_iload_n dX1_turnNumber_41 rfl ?_
    refine zV_imul dX1_turnNumber_42 ?_
    refine zV_iconst dX1_turnNumber_43 ⟨by decide, by decide⟩ ?_
    refine zV_isub dX1_turnNumber_44 ?_
    refine zV_iload_n dX1_turnNumber_45 rfl ?_
    refine zV_icmp_ge (tgt := 23) dX1_turnNumber_46 (by decide) (fun c => ?_) (fun c => ?_)
    · have hP := zif_p hP c
      exact H23 _ _ hP
    · have hP := zif_n hP c
      refine zV_iload_n dX1_turnNumber_49 rfl ?_
      refine zV_iconst dX1_turnNumber_50 ⟨by decide, by decide⟩ ?_
      refine zV_imul dX1_turnNumber_51 ?_
      refine zV_top (fun x2_5 e_x2_5 => ?_)
      have hP := hP x2_5 e_x2_5
      refine zV_istore_n (ls' := [zU, zI y1, zI x2_5]) dX1_turnNumber_52 rfl (Nat.le_of_ble_eq_true rfl) rfl rfl ?_
      refine zV_goto (tgt := 40) dX1_turnNumber_53 (by decide) ?_
      exact ih _ _ hP
def P_E_turnNumber_L23 (e : Int) (Q : Int → zH → Prop) : Nat → Int → Int → zH → Prop
| 0, _, _, _ => False
| n23 + 1, y1, y2, h =>
if y1 = w32 ((w32 (2 * y2)) - 1) then
(Q y2 h)
else
(∀ x1_4 : Int, x1_4 = (w32 (y1 - (w32 (y2 - 1)))) →
∃ n40, P_E_turnNumber_L40 e x1_4 Q (fun u2_23 h6 => P_E_turnNumber_L23 e Q n23 x1_4 u2_23 h6) n40 1 h)
theorem W_E_turnNumber_L23 (e : Int) (he : zE e) (Q : Int → zH → Prop) : ∀ (n23 : Nat) (y1 y2 : Int) (h : zH), P_E_turnNumber_L23 e Q n23 y1 y2 h → zV true zy_X1_turnNumber 1 23 [zU, zI y1, zI y2] [] h (zQ0 Q) := by
  intro n23
  induction n23 with
  | zero => intro y1 y2 h hP; exact absurd hP id
  | succ n23 ih =>
    intro y1 y2 h hP
    unfold P_E_turnNumber_L23 at hP
    refine zV_iload_n dX1_turnNumber_23 rfl ?_
    refine zV_iconst dX1_turnNumber_24 ⟨by decide, by decide⟩ ?_
    refine zV_iload_n dX1_turnNumber_25 rfl ?_
    refine zV_imul dX1_turnNumber_26 ?_
    refine zV_iconst dX1_turnNumber_27 ⟨by decide, by decide⟩ ?_
    refine zV_isub dX1_turnNumber_28 ?_
    refine zV_icmp_eq (tgt := 56) dX1_turnNumber_29 (by decide) (fun c => ?_) (fun c => ?_)
    · have hP := zif_p hP c
      refine zV_iload_n dX1_turnNumber_56 rfl ?_
      exact zV_ireturn dX1_turnNumber_57 rfl rfl rfl ⟨rfl, hP⟩
    · have hP := zif_n hP c
      refine zV_iload_n dX1_turnNumber_32 rfl ?_
      refine zV_iload_n dX1_turnNumber_33 rfl ?_
      refine zV_iconst dX1_turnNumber_34 ⟨by decide, by decide⟩ ?_
      refine zV_isub dX1_turnNumber_35 ?_
      refine zV_isub dX1_turnNumber_36 ?_
      refine zV_top (fun x1_4 e_x1_4 => ?_)
      have hP := hP x1_4 e_x1_4
      refine zV_istore_n (ls' := [zU, zI x1_4, zI y2]) dX1_turnNumber_37 rfl (Nat.le_of_ble_eq_true rfl) rfl rfl ?_
      refine zV_iconst dX1_turnNumber_38 ⟨by decide, by decide⟩ ?_
      refine zV_istore_n (ls' := [zU, zI x1_4, zI 1]) dX1_turnNumber_39 rfl (Nat.le_of_ble_eq_true rfl) rfl rfl ?_
      obtain ⟨n40, hP⟩ := hP
      refine W_E_turnNumber_L40 e he _ _ _ (fun u2_23 h6 hP => ih _ _ _ hP) n40 _ _ hP
def P_E_turnNumber (e : Int) (h : zH) (Q : Int → zH → Prop) : Prop :=
∀ x1_1 : Int, x1_1 = (zd h e 40) →
∃ n7, P_E_turnNumber_L7 e x1_1 Q (fun u2_23 h3 =>
∃ n23, P_E_turnNumber_L23 e Q n23 x1_1 u2_23 h3) n7 1 h
theorem W_E_turnNumber (e : Int) (he : zE e) (h : zH) (Q : Int → zH → Prop) (hP : P_E_turnNumber e  h Q) : zC true zy_X1_turnNumber 1 [zR e] h (zQ0 Q) := by
  unfold P_E_turnNumber at hP
  refine zC.of (by decide) (Nat.le_of_ble_eq_true rfl) ?_
  show zV true zy_X1_turnNumber 1 0 [zR e, zU, zU] [] h (zQ0 Q)
  refine zV_aload_n dX1_turnNumber_0 rfl ?_
  refine zV_gf dX1_turnNumber_1 (sae_0 he) (by decide) fl_X1_184_1 rfl (ki := 40) rfl ?_
  refine zV_top (fun x1_1 e_x1_1 => ?_)
  have hP := hP x1_1 e_x1_1
  refine zV_istore_n (ls' := [zR e, zI x1_1, zU]) dX1_turnNumber_4 rfl (Nat.le_of_ble_eq_true rfl) rfl rfl ?_
  refine zV_iconst dX1_turnNumber_5 ⟨by decide, by decide⟩ ?_
  refine zV_istore_n (ls' := [zR e, zI x1_1, zI 1]) dX1_turnNumber_6 rfl (Nat.le_of_ble_eq_true rfl) rfl rfl ?_
  obtain ⟨n7, hP⟩ := hP
  refine zV_mask [false, true, true] (ls' := [zU, zI x1_1, zI 1]) rfl ?_
  refine W_E_turnNumber_L7 e he _ _ _ (fun u2_23 h3 hP => ?_) n7 _ _ hP
  obtain ⟨n23, hP⟩ := hP
  refine W_E_turnNumber_L23 e he _ n23 _ _ _ hP
def P_E_isReason_J67 (e : Int) (y1 : Int) (y2 : Int) (s0 : Int) (h : zH) (Q : Int → zH → Prop) (k9 : Int → Int → zH → Prop) : Prop :=
∀ x2_3 : Int, x2_3 = w32 (y2 + 1) →
k9 x2_3 s0 h
theorem W_E_isReason_J67 (e : Int) (he : zE e) (y1 : Int) (y2 : Int) (s0 : Int) (h : zH) (Q : Int → zH → Prop) (k9 : Int → Int → zH → Prop) (H9 : ∀ (v2 v3 : Int) (h' : zH), k9 v2 v3 h' → zV true zy_X1_isReason 2 9 [zR e, zI y1, zI v2, zI v3, zU] [] h' (zQ0 Q)) (hP : P_E_isReason_J67 e y1 y2 s0 h Q k9) : zV true zy_X1_isReason 2 67 [zR e, zI y1, zI y2, zU, zU] [zI s0] h (zQ0 Q) := by
  unfold P_E_isReason_J67 at hP
  refine zV_istore_n (ls' := [zR e, zI y1, zI y2, zI s0, zU]) dX1_isReason_67 rfl (Nat.le_of_ble_eq_true rfl) rfl rfl ?_
  refine zV_inc (ls' := fun z => [zR e, zI y1, zI z, zI s0, zU]) dX1_isReason_68 (Nat.le_of_ble_eq_true rfl) rfl rfl (fun _ => rfl) (fun x2_3 e_x2_3 => ?_)
  have hP := hP x2_3 e_x2_3
  refine zV_goto (tgt := 9) dX1_isReason_71 (by decide) ?_
  exact H9 _ _ _ hP
def P_E_isReason_L9 (e : Int) (y1 : Int) (Q : Int → zH → Prop) : Nat → Int → Int → zH → Prop
| 0, _, _, _ => False
| n9 + 1, y2, y3, h =>
(0 ≤ y1 ∧ y1 < 1364) ∧
(0 ≤ y1 ∧ y1 < 1364) ∧
if w32 ((zd h (e + 1) y1) + (zd h (e + 2) y1)) ≤ y2 then
((y3 = 0 ∨ y3 = 1) ∧ Q y3 h)
else
(if y3 = 0 then
((0 ≤ y2 ∧ y2 < 12080) ∧
∀ x4_2 : Int, x4_2 = (zabs (zd h (e + 7) y2)) →
(0 ≤ x4_2 ∧ x4_2 < 301) ∧
(if zd h (e + 11) x4_2 = 0 then True else (0 ≤ x4_2 ∧ x4_2 < 301) ∧ True) ∧
P_E_isReason_J67 e y1 y2 (if zd h (e + 11) x4_2 = 0 then 0 else if zd h (e + 13) x4_2 = y1 then 1 else 0) h Q (P_E_isReason_L9 e y1 Q n9))
else
((y3 = 0 ∨ y3 = 1) ∧ Q y3 h))
theorem W_E_isReason_L9 (e : Int) (he : zE e) (y1 : Int) (Q : Int → zH → Prop) : ∀ (n9 : Nat) (y2 y3 : Int) (h : zH), P_E_isReason_L9 e y1 Q n9 y2 y3 h → zV true zy_X1_isReason 2 9 [zR e, zI y1, zI y2, zI y3, zU] [] h (zQ0 Q) := by
  intro n9
  induction n9 with
  | zero => intro y2 y3 h hP; exact absurd hP id
  | succ n9 ih =>
    intro y2 y3 h hP
    unfold P_E_isReason_L9 at hP
    refine zV_iload_n dX1_isReason_9 rfl ?_
    refine zV_aload_n dX1_isReason_10 rfl ?_
    refine zV_sg dX1_isReason_11 (fme_0 he) (sae_0 he) (by decide) fl_X1_15_1 rfl ?_
    refine zV_iload_n dX1_isReason_14 rfl ?_
    obtain ⟨ob, hP⟩ := hP
    refine zV_ia dX1_isReason_15 (sae_1 he) ob ?_
    refine zV_aload_n dX1_isReason_16 rfl ?_
    refine zV_sg dX1_isReason_17 (fme_1 he) (sae_0 he) (by decide) fl_X1_19_1 rfl ?_
    refine zV_iload_n dX1_isReason_20 rfl ?_
    obtain ⟨ob, hP⟩ := hP
    refine zV_ia dX1_isReason_21 (sae_2 he) ob ?_
    refine zV_iadd dX1_isReason_22 ?_
    refine zV_icmp_ge (tgt := 74) dX1_isReason_23 (by decide) (fun c => ?_) (fun c => ?_)
    · have hP := zif_p hP c
      refine zV_iload_n dX1_isReason_74 rfl ?_
      exact zV_ireturn dX1_isReason_75 rfl rfl (z01 hP.1) ⟨rfl, hP.2⟩
    · have hP := zif_n hP c
      refine zV_iload_n dX1_isReason_26 rfl ?_
      refine zV_if_ne (tgt := 74) dX1_isReason_27 (by decide) (fun c => ?_) (fun c => ?_)
      · have hP := zif_n hP c
        refine zV_iload_n dX1_isReason_74 rfl ?_
        exact zV_ireturn dX1_isReason_75 rfl rfl (z01 hP.1) ⟨rfl, hP.2⟩
      · have hP := zif_p hP c
        refine zV_aload_n dX1_isReason_30 rfl ?_
        refine zV_sg dX1_isReason_31 (fme_6 he) (sae_0 he) (by decide) fl_X1_36_1 rfl ?_
        refine zV_iload_n dX1_isReason_34 rfl ?_
        obtain ⟨ob, hP⟩ := hP
        refine zV_ia dX1_isReason_35 (sae_7 he) ob ?_
        refine zV_mabs dX1_isReason_36 q1546 q806 q171 q807 (Nat.le_of_ble_eq_true rfl) (by decide) ?_
        refine zV_top (fun x4_2 e_x4_2 => ?_)
        have hP := hP x4_2 e_x4_2
        refine zV_istore (ls' := [zR e, zI y1, zI y2, zI y3, zI x4_2]) dX1_isReason_39 (Nat.le_of_ble_eq_true rfl) rfl rfl ?_
        refine zV_aload_n dX1_isReason_41 rfl ?_
        refine zV_sg dX1_isReason_42 (fme_12 he) (sae_0 he) (by decide) fl_X1_48_1 rfl ?_
        refine zV_iload dX1_isReason_45 rfl ?_
        obtain ⟨ob, hP⟩ := hP
        refine zV_ia dX1_isReason_47 (sae_11 he) ob ?_
        obtain ⟨hO, hP⟩ := hP
        have K : zV true zy_X1_isReason 2 67 [zR e, zI y1, zI y2, zU, zU] [zI (if zd h (e + 11) x4_2 = 0 then 0 else if zd h (e + 13) x4_2 = y1 then 1 else 0)] h (zQ0 Q) := by
          exact W_E_isReason_J67 e he _ _ _ _ _ _ ih hP
        clear hP
        refine zV_if_eq (tgt := 66) dX1_isReason_48 (by decide) (fun c => ?_) (fun c => ?_)
        · try simp only [if_pos c] at K
          have hO := zif_p hO c
          refine zV_iconst dX1_isReason_66 ⟨by decide, by decide⟩ ?_
          refine zV_mask [true, true, true, false, false] rfl ?_
          exact K
        · try simp only [if_neg c] at K
          have hO := zif_n hO c
          refine zV_aload_n dX1_isReason_51 rfl ?_
          refine zV_sg dX1_isReason_52 (fme_14 he) (sae_0 he) (by decide) fl_X1_54_1 rfl ?_
          refine zV_iload dX1_isReason_55 rfl ?_
          obtain ⟨ob, hO⟩ := hO
          refine zV_ia dX1_isReason_57 (sae_13 he) ob ?_
          refine zV_iload_n dX1_isReason_58 rfl ?_
          refine zV_icmp_ne (tgt := 66) dX1_isReason_59 (by decide) (fun c => ?_) (fun c => ?_)
          · try simp only [if_neg c] at K
            refine zV_iconst dX1_isReason_66 ⟨by decide, by decide⟩ ?_
            refine zV_mask [true, true, true, false, false] rfl ?_
            exact K
          · try simp only [if_pos c] at K
            refine zV_iconst dX1_isReason_62 ⟨by decide, by decide⟩ ?_
            refine zV_goto (tgt := 67) dX1_isReason_63 (by decide) ?_
            refine zV_mask [true, true, true, false, false] rfl ?_
            exact K
def P_E_isReason (e : Int) (a1 : Int) (h : zH) (Q : Int → zH → Prop) : Prop :=
(0 ≤ a1 ∧ a1 < 1364) ∧
∀ x2_1 : Int, x2_1 = (zd h (e + 1) a1) →
∃ n9, P_E_isReason_L9 e a1 Q n9 x2_1 0 h
theorem W_E_isReason (e : Int) (he : zE e) (a1 : Int) (h : zH) (Q : Int → zH → Prop) (hP : P_E_isReason e a1 h Q) : zC true zy_X1_isReason 2 [zR e, zI a1] h (zQ0 Q) := by
  unfold P_E_isReason at hP
  refine zC.of (by decide) (Nat.le_of_ble_eq_true rfl) ?_
  show zV true zy_X1_isReason 2 0 [zR e, zI a1, zU, zU, zU] [] h (zQ0 Q)
  refine zV_aload_n dX1_isReason_0 rfl ?_
  refine zV_sg dX1_isReason_1 (fme_0 he) (sae_0 he) (by decide) fl_X1_15_1 rfl ?_
  refine zV_iload_n dX1_isReason_4 rfl ?_
  obtain ⟨ob, hP⟩ := hP
  refine zV_ia dX1_isReason_5 (sae_1 he) ob ?_
  refine zV_top (fun x2_1 e_x2_1 => ?_)
  have hP := hP x2_1 e_x2_1
  refine zV_istore_n (ls' := [zR e, zI a1, zI x2_1, zU, zU]) dX1_isReason_6 rfl (Nat.le_of_ble_eq_true rfl) rfl rfl ?_
  refine zV_iconst dX1_isReason_7 ⟨by decide, by decide⟩ ?_
  refine zV_istore_n (ls' := [zR e, zI a1, zI x2_1, zI 0, zU]) dX1_isReason_8 rfl (Nat.le_of_ble_eq_true rfl) rfl rfl ?_
  obtain ⟨n9, hP⟩ := hP
  refine W_E_isReason_L9 e he _ _ n9 _ _ _ hP
def P_E_forgets_J134 (e : Int) (y1 : Int) (y2 : Int) (h : zH) (Q : Int → zH → Prop) (k29 : Int → Int → zH → Prop) : Prop :=
∀ x2_2 : Int, x2_2 = w32 (y2 + 1) →
k29 y1 x2_2 h
theorem W_E_forgets_J134 (e : Int) (he : zE e) (y1 : Int) (y2 : Int) (h : zH) (Q : Int → zH → Prop) (k29 : Int → Int → zH → Prop) (H29 : ∀ (v1 v2 : Int) (h' : zH), k29 v1 v2 h' → zV true zy_X1_forgets 3 29 [zR e, zI v1, zI v2, zU, zU] [] h' (zQ0 Q)) (hP : P_E_forgets_J134 e y1 y2 h Q k29) : zV true zy_X1_forgets 3 134 [zR e, zI y1, zI y2, zU, zU] [] h (zQ0 Q) := by
  unfold P_E_forgets_J134 at hP
  refine zV_inc (ls' := fun z => [zR e, zI y1, zI z, zU, zU]) dX1_forgets_134 (Nat.le_of_ble_eq_true rfl) rfl rfl (fun _ => rfl) (fun x2_2 e_x2_2 => ?_)
  have hP := hP x2_2 e_x2_2
  refine zV_goto (tgt := 29) dX1_forgets_137 (by decide) ?_
  exact H29 _ _ _ hP
def P_E_forgets_L76 (e : Int) (y1 : Int) (y2 : Int) (Q : Int → zH → Prop) (k126 : Int → zH → Prop) : Nat → Int → zH → Prop
| 0, _, _ => False
| n76 + 1, y4, h =>
if y4 ≤ 0 then
(k126 y4 h)
else
((0 ≤ w32 (y4 - 1) ∧ w32 (y4 - 1) < 800) ∧
(0 ≤ zd h (e + 31) (w32 (y4 - 1)) ∧ zd h (e + 31) (w32 (y4 - 1)) < 800) ∧
(0 ≤ y2 ∧ y2 < 800) ∧
if zd h (e + 20) (zd h (e + 31) (w32 (y4 - 1))) ≤ zd h (e + 20) y2 then
(k126 y4 h)
else
((0 ≤ w32 (y4 - 1) ∧ w32 (y4 - 1) < 800) ∧
(0 ≤ y4 ∧ y4 < 800) ∧
∀ h6 : zH, h6 = zw h (e + 31) y4 (zd h (e + 31) (w32 (y4 - 1))) →
∀ x4_7 : Int, x4_7 = w32 (y4 + (-1)) →
P_E_forgets_L76 e y1 y2 Q k126 n76 x4_7 h6))
theorem W_E_forgets_L76 (e : Int) (he : zE e) (y1 : Int) (y2 : Int) (Q : Int → zH → Prop) (k126 : Int → zH → Prop) (H126 : ∀ (v4 : Int) (h' : zH), k126 v4 h' → zV true zy_X1_forgets 3 126 [zR e, zI y1, zI y2, zU, zI v4] [] h' (zQ0 Q)) : ∀ (n76 : Nat) (y4 : Int) (h : zH), P_E_forgets_L76 e y1 y2 Q k126 n76 y4 h → zV true zy_X1_forgets 3 76 [zR e, zI y1, zI y2, zU, zI y4] [] h (zQ0 Q) := by
  intro n76
  induction n76 with
  | zero => intro y4 h hP; exact absurd hP id
  | succ n76 ih =>
    intro y4 h hP
    unfold P_E_forgets_L76 at hP
    refine zV_iload dX1_forgets_76 rfl ?_
    refine zV_if_le (tgt := 126) dX1_forgets_78 (by decide) (fun c => ?_) (fun c => ?_)
    · have hP := zif_p hP c
      exact H126 _ _ hP
    · have hP := zif_n hP c
      refine zV_aload_n dX1_forgets_81 rfl ?_
      refine zV_sg dX1_forgets_82 (fme_24 he) (sae_0 he) (by decide) fl_X1_75_1 rfl ?_
      refine zV_aload_n dX1_forgets_85 rfl ?_
      refine zV_sg dX1_forgets_86 (fme_55 he) (sae_0 he) (by decide) fl_X1_112_1 rfl ?_
      refine zV_iload dX1_forgets_89 rfl ?_
      refine zV_iconst dX1_forgets_91 ⟨by decide, by decide⟩ ?_
      refine zV_isub dX1_forgets_92 ?_
      obtain ⟨ob, hP⟩ := hP
      refine zV_ia dX1_forgets_93 (sae_31 he) ob ?_
      obtain ⟨ob, hP⟩ := hP
      refine zV_ia dX1_forgets_94 (sae_20 he) ob ?_
      refine zV_aload_n dX1_forgets_95 rfl ?_
      refine zV_sg dX1_forgets_96 (fme_24 he) (sae_0 he) (by decide) fl_X1_75_1 rfl ?_
      refine zV_iload_n dX1_forgets_99 rfl ?_
      obtain ⟨ob, hP⟩ := hP
      refine zV_ia dX1_forgets_100 (sae_20 he) ob ?_
      refine zV_icmp_le (tgt := 126) dX1_forgets_101 (by decide) (fun c => ?_) (fun c => ?_)
      · have hP := zif_p hP c
        exact H126 _ _ hP
      · have hP := zif_n hP c
        refine zV_aload_n dX1_forgets_104 rfl ?_
        refine zV_sg dX1_forgets_105 (fme_55 he) (sae_0 he) (by decide) fl_X1_112_1 rfl ?_
        refine zV_iload dX1_forgets_108 rfl ?_
        refine zV_aload_n dX1_forgets_110 rfl ?_
        refine zV_sg dX1_forgets_111 (fme_55 he) (sae_0 he) (by decide) fl_X1_112_1 rfl ?_
        refine zV_iload dX1_forgets_114 rfl ?_
        refine zV_iconst dX1_forgets_116 ⟨by decide, by decide⟩ ?_
        refine zV_isub dX1_forgets_117 ?_
        obtain ⟨ob, hP⟩ := hP
        refine zV_ia dX1_forgets_118 (sae_31 he) ob ?_
        obtain ⟨ob, hP⟩ := hP
        refine zV_ias dX1_forgets_119 (sae_31 he) ob (fun h6 e_h6 => ?_)
        have hP := hP h6 e_h6
        refine zV_inc (ls' := fun z => [zR e, zI y1, zI y2, zU, zI z]) dX1_forgets_120 (Nat.le_of_ble_eq_true rfl) rfl rfl (fun _ => rfl) (fun x4_7 e_x4_7 => ?_)
        have hP := hP x4_7 e_x4_7
        refine zV_goto (tgt := 76) dX1_forgets_123 (by decide) ?_
        exact ih _ _ hP
def P_E_forgets_J126 (e : Int) (y1 : Int) (y2 : Int) (y4 : Int) (h : zH) (Q : Int → zH → Prop) (k29 : Int → Int → zH → Prop) : Prop :=
(0 ≤ y4 ∧ y4 < 800) ∧
∀ h9 : zH, h9 = zw h (e + 31) y4 y2 →
P_E_forgets_J134 e y1 y2 h9 Q k29
theorem W_E_forgets_J126 (e : Int) (he : zE e) (y1 : Int) (y2 : Int) (y4 : Int) (h : zH) (Q : Int → zH → Prop) (k29 : Int → Int → zH → Prop) (H29 : ∀ (v1 v2 : Int) (h' : zH), k29 v1 v2 h' → zV true zy_X1_forgets 3 29 [zR e, zI v1, zI v2, zU, zU] [] h' (zQ0 Q)) (hP : P_E_forgets_J126 e y1 y2 y4 h Q k29) : zV true zy_X1_forgets 3 126 [zR e, zI y1, zI y2, zU, zI y4] [] h (zQ0 Q) := by
  unfold P_E_forgets_J126 at hP
  refine zV_aload_n dX1_forgets_126 rfl ?_
  refine zV_sg dX1_forgets_127 (fme_55 he) (sae_0 he) (by decide) fl_X1_112_1 rfl ?_
  refine zV_iload dX1_forgets_130 rfl ?_
  refine zV_iload_n dX1_forgets_132 rfl ?_
  obtain ⟨ob, hP⟩ := hP
  refine zV_ias dX1_forgets_133 (sae_31 he) ob (fun h9 e_h9 => ?_)
  have hP := hP h9 e_h9
  refine zV_mask [true, true, true, true, false] (ls' := [zR e, zI y1, zI y2, zU, zU]) rfl ?_
  exact W_E_forgets_J134 e he _ _ _ _ _ H29 hP
def P_E_forgets_L29 (e : Int) (Q : Int → zH → Prop) (k140 : Int → zH → Prop) : Nat → Int → Int → zH → Prop
| 0, _, _, _ => False
| n29 + 1, y1, y2, h =>
if zd h e 25 ≤ y2 then
(k140 y1 h)
else
(∀ x3_1 : Int, x3_1 = (w32 (564 + y2)) →
(0 ≤ x3_1 ∧ x3_1 < 1364) ∧
if zd h (e + 5) x3_1 = 0 then
(P_E_forgets_J134 e y1 y2 h Q (P_E_forgets_L29 e Q k140 n29))
else
((0 ≤ x3_1 ∧ x3_1 < 1364) ∧
if zd h (e + 2) x3_1 ≤ 2 then
(P_E_forgets_J134 e y1 y2 h Q (P_E_forgets_L29 e Q k140 n29))
else
(P_E_isReason e x3_1 h (fun r3 h4 =>
if r3 = 0 then
(∀ x1_5 : Int, x1_5 = w32 (y1 + 1) →
∃ n76, P_E_forgets_L76 e x1_5 y2 Q (fun u4_126 h8 =>
P_E_forgets_J126 e x1_5 y2 u4_126 h8 Q (P_E_forgets_L29 e Q k140 n29)) n76 y1 h4)
else
(P_E_forgets_J134 e y1 y2 h4 Q (P_E_forgets_L29 e Q k140 n29))))))
theorem W_E_forgets_L29 (e : Int) (he : zE e) (Q : Int → zH → Prop) (k140 : Int → zH → Prop) (H140 : ∀ (v1 : Int) (h' : zH), k140 v1 h' → zV true zy_X1_forgets 3 140 [zR e, zI v1, zU, zU, zU] [] h' (zQ0 Q)) : ∀ (n29 : Nat) (y1 y2 : Int) (h : zH), P_E_forgets_L29 e Q k140 n29 y1 y2 h → zV true zy_X1_forgets 3 29 [zR e, zI y1, zI y2, zU, zU] [] h (zQ0 Q) := by
  intro n29
  induction n29 with
  | zero => intro y1 y2 h hP; exact absurd hP id
  | succ n29 ih =>
    intro y1 y2 h hP
    unfold P_E_forgets_L29 at hP
    refine zV_iload_n dX1_forgets_29 rfl ?_
    refine zV_aload_n dX1_forgets_30 rfl ?_
    refine zV_gf dX1_forgets_31 (sae_0 he) (by decide) fl_X1_148_1 rfl (ki := 25) rfl ?_
    refine zV_icmp_ge (tgt := 140) dX1_forgets_34 (by decide) (fun c => ?_) (fun c => ?_)
    · have hP := zif_p hP c
      refine zV_mask [true, true, false, true, true] (ls' := [zR e, zI y1, zU, zU, zU]) rfl ?_
      exact H140 _ _ hP
    · have hP := zif_n hP c
      refine zV_sipush dX1_forgets_37 ⟨by decide, by decide, by decide⟩ ?_
      refine zV_iload_n dX1_forgets_40 rfl ?_
      refine zV_iadd dX1_forgets_41 ?_
      refine zV_top (fun x3_1 e_x3_1 => ?_)
      have hP := hP x3_1 e_x3_1
      refine zV_istore_n (ls' := [zR e, zI y1, zI y2, zI x3_1, zU]) dX1_forgets_42 rfl (Nat.le_of_ble_eq_true rfl) rfl rfl ?_
      refine zV_aload_n dX1_forgets_43 rfl ?_
      refine zV_sg dX1_forgets_44 (fme_4 he) (sae_0 he) (by decide) fl_X1_28_1 rfl ?_
      refine zV_iload_n dX1_forgets_47 rfl ?_
      obtain ⟨ob, hP⟩ := hP
      refine zV_za dX1_forgets_48 (sae_5 he) ob ?_
      refine zV_if_eq (tgt := 134) dX1_forgets_49 (by decide) (fun c => ?_) (fun c => ?_)
      · have hP := zif_p hP c
        refine zV_mask [true, true, true, false, true] (ls' := [zR e, zI y1, zI y2, zU, zU]) rfl ?_
        exact W_E_forgets_J134 e he _ _ _ _ _ ih hP
      · have hP := zif_n hP c
        refine zV_aload_n dX1_forgets_52 rfl ?_
        refine zV_sg dX1_forgets_53 (fme_1 he) (sae_0 he) (by decide) fl_X1_19_1 rfl ?_
        refine zV_iload_n dX1_forgets_56 rfl ?_
        obtain ⟨ob, hP⟩ := hP
        refine zV_ia dX1_forgets_57 (sae_2 he) ob ?_
        refine zV_iconst dX1_forgets_58 ⟨by decide, by decide⟩ ?_
        refine zV_icmp_le (tgt := 134) dX1_forgets_59 (by decide) (fun c => ?_) (fun c => ?_)
        · have hP := zif_p hP c
          refine zV_mask [true, true, true, false, true] (ls' := [zR e, zI y1, zI y2, zU, zU]) rfl ?_
          exact W_E_forgets_J134 e he _ _ _ _ _ ih hP
        · have hP := zif_n hP c
          refine zV_aload_n dX1_forgets_62 rfl ?_
          refine zV_iload_n dX1_forgets_63 rfl ?_
          refine zV_cVk (As := [zI x3_1]) (rest := []) dX1_forgets_64 (sae_0 he) (W_E_isReason e he _ _ _ hP) mi_X1_isReason ml_X1_300 (by decide) (Nat.le_of_ble_eq_true rfl) rfl rfl rfl (fun r3 h4 hP => ?_)
          refine zV_if_ne (tgt := 134) dX1_forgets_67 (by decide) (fun c => ?_) (fun c => ?_)
          · have hP := zif_n hP c
            refine zV_mask [true, true, true, false, true] (ls' := [zR e, zI y1, zI y2, zU, zU]) rfl ?_
            exact W_E_forgets_J134 e he _ _ _ _ _ ih hP
          · have hP := zif_p hP c
            refine zV_iload_n dX1_forgets_70 rfl ?_
            refine zV_inc (ls' := fun z => [zR e, zI z, zI y2, zI x3_1, zU]) dX1_forgets_71 (Nat.le_of_ble_eq_true rfl) rfl rfl (fun _ => rfl) (fun x1_5 e_x1_5 => ?_)
            have hP := hP x1_5 e_x1_5
            refine zV_istore (ls' := [zR e, zI x1_5, zI y2, zI x3_1, zI y1]) dX1_forgets_74 (Nat.le_of_ble_eq_true rfl) rfl rfl ?_
            obtain ⟨n76, hP⟩ := hP
            refine zV_mask [true, true, true, false, true] (ls' := [zR e, zI x1_5, zI y2, zU, zI y1]) rfl ?_
            refine W_E_forgets_L76 e he _ _ _ _ (fun u4_126 h8 hP => ?_) n76 _ _ hP
            exact W_E_forgets_J126 e he _ _ _ _ _ _ ih hP
def P_E_forgets_L142 (e : Int) (y1 : Int) (Q : Int → zH → Prop) (k205 : zH → Prop) : Nat → Int → zH → Prop
| 0, _, _ => False
| n142 + 1, y2, h =>
if w32 (Int.tdiv y1 2) ≤ y2 then
(k205 h)
else
((0 ≤ y2 ∧ y2 < 800) ∧
(0 ≤ w32 (564 + (zd h (e + 31) y2)) ∧ w32 (564 + (zd h (e + 31) y2)) < 1364) ∧
∀ h11 : zH, h11 = zw h (e + 5) (w32 (564 + (zd h (e + 31) y2))) (zbit 0) →
(0 ≤ y2 ∧ y2 < 800) ∧
P_E_look e (w32 (564 + (zd h11 (e + 31) y2))) h11 (fun r12 h13 =>
∀ h14 : zH, h14 = zw h13 e 37 (w32 ((zd h13 e 37) - 1)) →
∀ h15 : zH, h15 = zw h14 e 36 (w32 ((zd h14 e 36) + 1)) →
∀ x2_16 : Int, x2_16 = w32 (y2 + 1) →
P_E_forgets_L142 e y1 Q k205 n142 x2_16 h15))
theorem W_E_forgets_L142 (e : Int) (he : zE e) (y1 : Int) (Q : Int → zH → Prop) (k205 : zH → Prop) (H205 : ∀ (h' : zH), k205 h' → zV true zy_X1_forgets 3 205 [zR e, zU, zU, zU, zU] [] h' (zQ0 Q)) : ∀ (n142 : Nat) (y2 : Int) (h : zH), P_E_forgets_L142 e y1 Q k205 n142 y2 h → zV true zy_X1_forgets 3 142 [zR e, zI y1, zI y2, zU, zU] [] h (zQ0 Q) := by
  intro n142
  induction n142 with
  | zero => intro y2 h hP; exact absurd hP id
  | succ n142 ih =>
    intro y2 h hP
    unfold P_E_forgets_L142 at hP
    refine zV_iload_n dX1_forgets_142 rfl ?_
    refine zV_iload_n dX1_forgets_143 rfl ?_
    refine zV_iconst dX1_forgets_144 ⟨by decide, by decide⟩ ?_
    refine zV_idiv dX1_forgets_145 (by decide) ?_
    refine zV_icmp_ge (tgt := 205) dX1_forgets_146 (by decide) (fun c => ?_) (fun c => ?_)
    · have hP := zif_p hP c
      refine zV_mask [true, false, false, true, true] (ls' := [zR e, zU, zU, zU, zU]) rfl ?_
      exact H205 _ hP
    · have hP := zif_n hP c
      refine zV_aload_n dX1_forgets_149 rfl ?_
      refine zV_sg dX1_forgets_150 (fme_4 he) (sae_0 he) (by decide) fl_X1_28_1 rfl ?_
      refine zV_sipush dX1_forgets_153 ⟨by decide, by decide, by decide⟩ ?_
      refine zV_aload_n dX1_forgets_156 rfl ?_
      refine zV_sg dX1_forgets_157 (fme_55 he) (sae_0 he) (by decide) fl_X1_112_1 rfl ?_
      refine zV_iload_n dX1_forgets_160 rfl ?_
      obtain ⟨ob, hP⟩ := hP
      refine zV_ia dX1_forgets_161 (sae_31 he) ob ?_
      refine zV_iadd dX1_forgets_162 ?_
      refine zV_iconst dX1_forgets_163 ⟨by decide, by decide⟩ ?_
      obtain ⟨ob, hP⟩ := hP
      refine zV_zas dX1_forgets_164 (sae_5 he) ob (fun h11 e_h11 => ?_)
      have hP := hP h11 e_h11
      refine zV_aload_n dX1_forgets_165 rfl ?_
      refine zV_sipush dX1_forgets_166 ⟨by decide, by decide, by decide⟩ ?_
      refine zV_aload_n dX1_forgets_169 rfl ?_
      refine zV_sg dX1_forgets_170 (fme_55 he) (sae_0 he) (by decide) fl_X1_112_1 rfl ?_
      refine zV_iload_n dX1_forgets_173 rfl ?_
      obtain ⟨ob, hP⟩ := hP
      refine zV_ia dX1_forgets_174 (sae_31 he) ob ?_
      refine zV_iadd dX1_forgets_175 ?_
      refine zV_cVv (As := [zI (w32 (564 + (zd h11 (e + 31) y2)))]) (rest := []) dX1_forgets_176 (sae_0 he) (W_E_look e he _ _ _ hP) mi_X1_look ml_X1_202 (by decide) (Nat.le_of_ble_eq_true rfl) rfl rfl (fun r12 h13 hP => ?_)
      refine zV_aload_n dX1_forgets_179 rfl ?_
      refine zV_dup dX1_forgets_180 (Nat.ne_of_beq_eq_false rfl) ?_
      refine zV_gf dX1_forgets_181 (sae_0 he) (by decide) fl_X1_175_1 rfl (ki := 37) rfl ?_
      refine zV_iconst dX1_forgets_184 ⟨by decide, by decide⟩ ?_
      refine zV_isub dX1_forgets_185 ?_
      refine zV_pf dX1_forgets_186 (sae_0 he) (by decide) fl_X1_175_1 rfl rfl trivial (ki := 37) rfl (fun h14 e_h14 => ?_)
      have hP := hP h14 e_h14
      refine zV_aload_n dX1_forgets_189 rfl ?_
      refine zV_dup dX1_forgets_190 (Nat.ne_of_beq_eq_false rfl) ?_
      refine zV_gf dX1_forgets_191 (sae_0 he) (by decide) fl_X1_172_1 rfl (ki := 36) rfl ?_
      refine zV_iconst dX1_forgets_194 ⟨by decide, by decide⟩ ?_
      refine zV_iadd dX1_forgets_195 ?_
      refine zV_pf dX1_forgets_196 (sae_0 he) (by decide) fl_X1_172_1 rfl rfl trivial (ki := 36) rfl (fun h15 e_h15 => ?_)
      have hP := hP h15 e_h15
      refine zV_inc (ls' := fun z => [zR e, zI y1, zI z, zU, zU]) dX1_forgets_199 (Nat.le_of_ble_eq_true rfl) rfl rfl (fun _ => rfl) (fun x2_16 e_x2_16 => ?_)
      have hP := hP x2_16 e_x2_16
      refine zV_goto (tgt := 142) dX1_forgets_202 (by decide) ?_
      exact ih _ _ hP
def P_E_forgets_L207 (e : Int) (Q : Int → zH → Prop) : Nat → Int → zH → Prop
| 0, _, _ => False
| n207 + 1, y2, h =>
if zd h e 25 ≤ y2 then
(Q 0 h)
else
((0 ≤ y2 ∧ y2 < 800) ∧
(0 ≤ y2 ∧ y2 < 800) ∧
∀ h18 : zH, h18 = zw h (e + 20) y2 (w32 (Int.tdiv (zd h (e + 20) y2) 2)) →
∀ x2_19 : Int, x2_19 = w32 (y2 + 1) →
P_E_forgets_L207 e Q n207 x2_19 h18)
theorem W_E_forgets_L207 (e : Int) (he : zE e) (Q : Int → zH → Prop) : ∀ (n207 : Nat) (y2 : Int) (h : zH), P_E_forgets_L207 e Q n207 y2 h → zV true zy_X1_forgets 3 207 [zR e, zU, zI y2, zU, zU] [] h (zQ0 Q) := by
  intro n207
  induction n207 with
  | zero => intro y2 h hP; exact absurd hP id
  | succ n207 ih =>
    intro y2 h hP
    unfold P_E_forgets_L207 at hP
    refine zV_iload_n dX1_forgets_207 rfl ?_
    refine zV_aload_n dX1_forgets_208 rfl ?_
    refine zV_gf dX1_forgets_209 (sae_0 he) (by decide) fl_X1_148_1 rfl (ki := 25) rfl ?_
    refine zV_icmp_ge (tgt := 231) dX1_forgets_212 (by decide) (fun c => ?_) (fun c => ?_)
    · have hP := zif_p hP c
      exact zV_return dX1_forgets_231 rfl ⟨rfl, hP⟩
    · have hP := zif_n hP c
      refine zV_aload_n dX1_forgets_215 rfl ?_
      refine zV_sg dX1_forgets_216 (fme_24 he) (sae_0 he) (by decide) fl_X1_75_1 rfl ?_
      refine zV_iload_n dX1_forgets_219 rfl ?_
      refine zV_dup2 dX1_forgets_220 (Nat.ne_of_beq_eq_false rfl) (Nat.ne_of_beq_eq_false rfl) ?_
      obtain ⟨ob, hP⟩ := hP
      refine zV_ia dX1_forgets_221 (sae_20 he) ob ?_
      refine zV_iconst dX1_forgets_222 ⟨by decide, by decide⟩ ?_
      refine zV_idiv dX1_forgets_223 (by decide) ?_
      obtain ⟨ob, hP⟩ := hP
      refine zV_ias dX1_forgets_224 (sae_20 he) ob (fun h18 e_h18 => ?_)
      have hP := hP h18 e_h18
      refine zV_inc (ls' := fun z => [zR e, zU, zI z, zU, zU]) dX1_forgets_225 (Nat.le_of_ble_eq_true rfl) rfl rfl (fun _ => rfl) (fun x2_19 e_x2_19 => ?_)
      have hP := hP x2_19 e_x2_19
      refine zV_goto (tgt := 207) dX1_forgets_228 (by decide) ?_
      exact ih _ _ hP
def P_E_forgets (e : Int) (h : zH) (Q : Int → zH → Prop) : Prop :=
if zd h 14 27 = 0 then
(Q 0 h)
else
(if zd h 14 27 < zd h e 37 then
(∃ n29, P_E_forgets_L29 e Q (fun u1_140 h10 =>
∃ n142, P_E_forgets_L142 e u1_140 Q (fun h17 =>
∃ n207, P_E_forgets_L207 e Q n207 0 h17) n142 0 h10) n29 0 0 h)
else
(Q 0 h))
theorem W_E_forgets (e : Int) (he : zE e) (h : zH) (Q : Int → zH → Prop) (hP : P_E_forgets e  h Q) : zC true zy_X1_forgets 3 [zR e] h (zQ0 Q) := by
  unfold P_E_forgets at hP
  refine zC.of (by decide) (Nat.le_of_ble_eq_true rfl) ?_
  show zV true zy_X1_forgets 3 0 [zR e, zU, zU, zU, zU] [] h (zQ0 Q)
  refine zV_aload_n dX1_forgets_0 rfl ?_
  refine zV_sg dX1_forgets_1 (fme_57 he) (sae_0 he) (by decide) fl_X1_3_1 rfl ?_
  refine zV_gf dX1_forgets_4 sa_14 (by decide) fl_X1_297_0 rfl (ki := 27) rfl ?_
  refine zV_if_eq (tgt := 24) dX1_forgets_7 (by decide) (fun c => ?_) (fun c => ?_)
  · have hP := zif_p hP c
    exact zV_return dX1_forgets_24 rfl ⟨rfl, hP⟩
  · have hP := zif_n hP c
    refine zV_aload_n dX1_forgets_10 rfl ?_
    refine zV_gf dX1_forgets_11 (sae_0 he) (by decide) fl_X1_175_1 rfl (ki := 37) rfl ?_
    refine zV_aload_n dX1_forgets_14 rfl ?_
    refine zV_sg dX1_forgets_15 (fme_57 he) (sae_0 he) (by decide) fl_X1_3_1 rfl ?_
    refine zV_gf dX1_forgets_18 sa_14 (by decide) fl_X1_297_0 rfl (ki := 27) rfl ?_
    refine zV_icmp_gt (tgt := 25) dX1_forgets_21 (by decide) (fun c => ?_) (fun c => ?_)
    · have hP := zif_p hP c
      refine zV_iconst dX1_forgets_25 ⟨by decide, by decide⟩ ?_
      refine zV_istore_n (ls' := [zR e, zI 0, zU, zU, zU]) dX1_forgets_26 rfl (Nat.le_of_ble_eq_true rfl) rfl rfl ?_
      refine zV_iconst dX1_forgets_27 ⟨by decide, by decide⟩ ?_
      refine zV_istore_n (ls' := [zR e, zI 0, zI 0, zU, zU]) dX1_forgets_28 rfl (Nat.le_of_ble_eq_true rfl) rfl rfl ?_
      obtain ⟨n29, hP⟩ := hP
      refine W_E_forgets_L29 e he _ _ (fun u1_140 h10 hP => ?_) n29 _ _ _ hP
      refine zV_iconst dX1_forgets_140 ⟨by decide, by decide⟩ ?_
      refine zV_istore_n (ls' := [zR e, zI u1_140, zI 0, zU, zU]) dX1_forgets_141 rfl (Nat.le_of_ble_eq_true rfl) rfl rfl ?_
      obtain ⟨n142, hP⟩ := hP
      refine W_E_forgets_L142 e he _ _ _ (fun h17 hP => ?_) n142 _ _ hP
      refine zV_iconst dX1_forgets_205 ⟨by decide, by decide⟩ ?_
      refine zV_istore_n (ls' := [zR e, zU, zI 0, zU, zU]) dX1_forgets_206 rfl (Nat.le_of_ble_eq_true rfl) rfl rfl ?_
      obtain ⟨n207, hP⟩ := hP
      refine W_E_forgets_L207 e he _ n207 _ _ hP
    · have hP := zif_n hP c
      exact zV_return dX1_forgets_24 rfl ⟨rfl, hP⟩
def P_E_learns_L38 (e : Int) (y1 : Int) (Q : Int → zH → Prop) (k67 : zH → Prop) : Nat → Int → zH → Prop
| 0, _, _ => False
| n38 + 1, y2, h =>
if zd h e 54 ≤ y2 then
(k67 h)
else
((0 ≤ y2 ∧ y2 < 301) ∧
(0 ≤ zd h (e + 30) y2 ∧ zd h (e + 30) y2 < 800) ∧
(0 ≤ zd h (e + 30) y2 ∧ zd h (e + 30) y2 < 800) ∧
∀ h10 : zH, h10 = zw h (e + 20) (zd h (e + 30) y2) (w32 ((zd h (e + 20) (zd h (e + 30) y2)) + 1)) →
∀ x2_11 : Int, x2_11 = w32 (y2 + 1) →
P_E_learns_L38 e y1 Q k67 n38 x2_11 h10)
theorem W_E_learns_L38 (e : Int) (he : zE e) (y1 : Int) (Q : Int → zH → Prop) (k67 : zH → Prop) (H67 : ∀ (h' : zH), k67 h' → zV true zy_X1_learns 5 67 [zR e, zI y1, zU, zU, zU] [] h' (zQ0 Q)) : ∀ (n38 : Nat) (y2 : Int) (h : zH), P_E_learns_L38 e y1 Q k67 n38 y2 h → zV true zy_X1_learns 5 38 [zR e, zI y1, zI y2, zU, zU] [] h (zQ0 Q) := by
  intro n38
  induction n38 with
  | zero => intro y2 h hP; exact absurd hP id
  | succ n38 ih =>
    intro y2 h hP
    unfold P_E_learns_L38 at hP
    refine zV_iload_n dX1_learns_38 rfl ?_
    refine zV_aload_n dX1_learns_39 rfl ?_
    refine zV_gf dX1_learns_40 (sae_0 he) (by decide) fl_X1_272_1 rfl (ki := 54) rfl ?_
    refine zV_icmp_ge (tgt := 67) dX1_learns_43 (by decide) (fun c => ?_) (fun c => ?_)
    · have hP := zif_p hP c
      refine zV_mask [true, true, false, true, true] (ls' := [zR e, zI y1, zU, zU, zU]) rfl ?_
      exact H67 _ hP
    · have hP := zif_n hP c
      refine zV_aload_n dX1_learns_46 rfl ?_
      refine zV_sg dX1_learns_47 (fme_24 he) (sae_0 he) (by decide) fl_X1_75_1 rfl ?_
      refine zV_aload_n dX1_learns_50 rfl ?_
      refine zV_sg dX1_learns_51 (fme_53 he) (sae_0 he) (by decide) fl_X1_109_1 rfl ?_
      refine zV_iload_n dX1_learns_54 rfl ?_
      obtain ⟨ob, hP⟩ := hP
      refine zV_ia dX1_learns_55 (sae_30 he) ob ?_
      refine zV_dup2 dX1_learns_56 (Nat.ne_of_beq_eq_false rfl) (Nat.ne_of_beq_eq_false rfl) ?_
      obtain ⟨ob, hP⟩ := hP
      refine zV_ia dX1_learns_57 (sae_20 he) ob ?_
      refine zV_iconst dX1_learns_58 ⟨by decide, by decide⟩ ?_
      refine zV_iadd dX1_learns_59 ?_
      obtain ⟨ob, hP⟩ := hP
      refine zV_ias dX1_learns_60 (sae_20 he) ob (fun h10 e_h10 => ?_)
      have hP := hP h10 e_h10
      refine zV_inc (ls' := fun z => [zR e, zI y1, zI z, zU, zU]) dX1_learns_61 (Nat.le_of_ble_eq_true rfl) rfl rfl (fun _ => rfl) (fun x2_11 e_x2_11 => ?_)
      have hP := hP x2_11 e_x2_11
      refine zV_goto (tgt := 38) dX1_learns_64 (by decide) ?_
      exact ih _ _ hP
def P_E_learns_L77 (e : Int) (y1 : Int) (y2 : Int) (Q : Int → zH → Prop) (k112 : Int → zH → Prop) : Nat → Int → Int → zH → Prop
| 0, _, _, _ => False
| n77 + 1, y3, y4, h =>
if zd h e 50 ≤ y4 then
(k112 y3 h)
else
((0 ≤ y4 ∧ y4 < 300) ∧
(0 ≤ zabs (zd h (e + 28) y4) ∧ zabs (zd h (e + 28) y4) < 301) ∧
∀ x3_14 : Int, x3_14 = (zmax y3 (zd h (e + 12) (zabs (zd h (e + 28) y4)))) →
∀ x4_15 : Int, x4_15 = w32 (y4 + 1) →
P_E_learns_L77 e y1 y2 Q k112 n77 x3_14 x4_15 h)
theorem W_E_learns_L77 (e : Int) (he : zE e) (y1 : Int) (y2 : Int) (Q : Int → zH → Prop) (k112 : Int → zH → Prop) (H112 : ∀ (v3 : Int) (h' : zH), k112 v3 h' → zV true zy_X1_learns 5 112 [zR e, zI y1, zI y2, zI v3, zU] [] h' (zQ0 Q)) : ∀ (n77 : Nat) (y3 y4 : Int) (h : zH), P_E_learns_L77 e y1 y2 Q k112 n77 y3 y4 h → zV true zy_X1_learns 5 77 [zR e, zI y1, zI y2, zI y3, zI y4] [] h (zQ0 Q) := by
  intro n77
  induction n77 with
  | zero => intro y3 y4 h hP; exact absurd hP id
  | succ n77 ih =>
    intro y3 y4 h hP
    unfold P_E_learns_L77 at hP
    refine zV_iload dX1_learns_77 rfl ?_
    refine zV_aload_n dX1_learns_79 rfl ?_
    refine zV_gf dX1_learns_80 (sae_0 he) (by decide) fl_X1_278_1 rfl (ki := 50) rfl ?_
    refine zV_icmp_ge (tgt := 112) dX1_learns_83 (by decide) (fun c => ?_) (fun c => ?_)
    · have hP := zif_p hP c
      refine zV_mask [true, true, true, true, false] (ls' := [zR e, zI y1, zI y2, zI y3, zU]) rfl ?_
      exact H112 _ _ hP
    · have hP := zif_n hP c
      refine zV_iload_n dX1_learns_86 rfl ?_
      refine zV_aload_n dX1_learns_87 rfl ?_
      refine zV_sg dX1_learns_88 (fme_13 he) (sae_0 he) (by decide) fl_X1_51_1 rfl ?_
      refine zV_aload_n dX1_learns_91 rfl ?_
      refine zV_sg dX1_learns_92 (fme_49 he) (sae_0 he) (by decide) fl_X1_103_1 rfl ?_
      refine zV_iload dX1_learns_95 rfl ?_
      obtain ⟨ob, hP⟩ := hP
      refine zV_ia dX1_learns_97 (sae_28 he) ob ?_
      refine zV_mabs dX1_learns_98 q1546 q806 q171 q807 (Nat.le_of_ble_eq_true rfl) (by decide) ?_
      obtain ⟨ob, hP⟩ := hP
      refine zV_ia dX1_learns_101 (sae_12 he) ob ?_
      refine zV_mmax dX1_learns_102 q1666 q1667 q171 q1668 (Nat.le_of_ble_eq_true rfl) (by decide) ?_
      refine zV_top (fun x3_14 e_x3_14 => ?_)
      have hP := hP x3_14 e_x3_14
      refine zV_istore_n (ls' := [zR e, zI y1, zI y2, zI x3_14, zI y4]) dX1_learns_105 rfl (Nat.le_of_ble_eq_true rfl) rfl rfl ?_
      refine zV_inc (ls' := fun z => [zR e, zI y1, zI y2, zI x3_14, zI z]) dX1_learns_106 (Nat.le_of_ble_eq_true rfl) rfl rfl (fun _ => rfl) (fun x4_15 e_x4_15 => ?_)
      have hP := hP x4_15 e_x4_15
      refine zV_goto (tgt := 77) dX1_learns_109 (by decide) ?_
      exact ih _ _ _ hP
def P_E_learns_J186 (e : Int) (y1 : Int) (y2 : Int) (h : zH) (Q : Int → zH → Prop) : Prop :=
P_E_forgets e h (fun r20 h21 =>
P_E_keep e 1 h21 (fun r22 h23 =>
P_E_tell e y1 y2 (zd h23 e 21) h23 (fun r24 h25 =>
Q 1 h25)))
theorem W_E_learns_J186 (e : Int) (he : zE e) (y1 : Int) (y2 : Int) (h : zH) (Q : Int → zH → Prop) (hP : P_E_learns_J186 e y1 y2 h Q) : zV true zy_X1_learns 5 186 [zR e, zI y1, zI y2, zU, zU] [] h (zQ0 Q) := by
  unfold P_E_learns_J186 at hP
  refine zV_aload_n dX1_learns_186 rfl ?_
  refine zV_cVv (As := []) (rest := []) dX1_learns_187 (sae_0 he) (W_E_forgets e he _ _ hP) mi_X1_forgets ml_X1_321 (by decide) (Nat.le_of_ble_eq_true rfl) rfl rfl (fun r20 h21 hP => ?_)
  refine zV_aload_n dX1_learns_190 rfl ?_
  refine zV_iconst dX1_learns_191 ⟨by decide, by decide⟩ ?_
  refine zV_cVv (As := [zI 1]) (rest := []) dX1_learns_192 (sae_0 he) (W_E_keep e he _ _ _ hP) mi_X1_keep ml_X1_324 (by decide) (Nat.le_of_ble_eq_true rfl) rfl rfl (fun r22 h23 hP => ?_)
  refine zV_aload_n dX1_learns_195 rfl ?_
  refine zV_iload_n dX1_learns_196 rfl ?_
  refine zV_iload_n dX1_learns_197 rfl ?_
  refine zV_aload_n dX1_learns_198 rfl ?_
  refine zV_gf dX1_learns_199 (sae_0 he) (by decide) fl_X1_139_1 rfl (ki := 21) rfl ?_
  refine zV_cVv (As := [zI y1, zI y2, zI (zd h23 e 21)]) (rest := []) dX1_learns_202 (sae_0 he) (W_E_tell e he _ _ _ _ _ hP) mi_X1_tell ml_X1_328 (by decide) (Nat.le_of_ble_eq_true rfl) rfl rfl (fun r24 h25 hP => ?_)
  refine zV_iconst dX1_learns_205 ⟨by decide, by decide⟩ ?_
  exact zV_ireturn dX1_learns_206 rfl rfl (z01 z1) ⟨rfl, hP⟩
def P_E_learns (e : Int) (a1 : Int) (h : zH) (Q : Int → zH → Prop) : Prop :=
P_E_learn e a1 h (fun r1 h2 =>
P_E_hasRoom e (zd h2 e 50) h2 (fun r3 h4 =>
if r3 = 0 then
(Q 0 h4)
else
(P_E_step e h4 (fun r5 h6 =>
∀ h7 : zH, h7 = zw h6 e 34 (w32 ((zd h6 e 34) + 1)) →
P_E_heavier e h7 (fun r8 h9 =>
∃ n38, P_E_learns_L38 e a1 Q (fun h12 =>
∀ x2_13 : Int, x2_13 = (zd h12 e 21) →
∃ n77, P_E_learns_L77 e a1 x2_13 Q (fun u3_112 h16 =>
P_E_back e u3_112 h16 (fun r17 h18 =>
∀ h19 : zH, h19 = zw h18 e 39 (w32 ((zd h18 e 39) + 1)) →
if zd h19 14 26 ≤ 0 then
(P_E_learns_J186 e a1 x2_13 h19 Q)
else
(P_E_turnNumber e h19 (fun r26 h27 =>
if zd h19 e 39 < w32 ((zd h19 14 26) * r26) then
(P_E_learns_J186 e a1 x2_13 h27 Q)
else
(P_E_back e 0 h27 (fun r28 h29 =>
∀ h30 : zH, h30 = zw h29 e 39 0 →
∀ h31 : zH, h31 = zw h30 e 40 (w32 ((zd h30 e 40) + 1)) →
∀ h32 : zH, h32 = zw h31 e 35 (w32 ((zd h31 e 35) + 1)) →
P_E_learns_J186 e a1 x2_13 h32 Q)))))) n77 0 1 h12) n38 0 h9)))))
theorem W_E_learns (e : Int) (he : zE e) (a1 : Int) (h : zH) (Q : Int → zH → Prop) (hP : P_E_learns e a1 h Q) : zC true zy_X1_learns 5 [zR e, zI a1] h (zQ0 Q) := by
  unfold P_E_learns at hP
  refine zC.of (by decide) (Nat.le_of_ble_eq_true rfl) ?_
  show zV true zy_X1_learns 5 0 [zR e, zI a1, zU, zU, zU] [] h (zQ0 Q)
  refine zV_aload_n dX1_learns_0 rfl ?_
  refine zV_iload_n dX1_learns_1 rfl ?_
  refine zV_cVv (As := [zI a1]) (rest := []) dX1_learns_2 (sae_0 he) (W_E_learn e he _ _ _ hP) mi_X1_learn ml_X1_303 (by decide) (Nat.le_of_ble_eq_true rfl) rfl rfl (fun r1 h2 hP => ?_)
  refine zV_aload_n dX1_learns_5 rfl ?_
  refine zV_aload_n dX1_learns_6 rfl ?_
  refine zV_gf dX1_learns_7 (sae_0 he) (by decide) fl_X1_278_1 rfl (ki := 50) rfl ?_
  refine zV_cVk (As := [zI (zd h2 e 50)]) (rest := []) dX1_learns_10 (sae_0 he) (W_E_hasRoom e he _ _ _ hP) mi_X1_hasRoom ml_X1_306 (by decide) (Nat.le_of_ble_eq_true rfl) rfl rfl rfl (fun r3 h4 hP => ?_)
  refine zV_if_ne (tgt := 18) dX1_learns_13 (by decide) (fun c => ?_) (fun c => ?_)
  · have hP := zif_n hP c
    refine zV_aload_n dX1_learns_18 rfl ?_
    refine zV_cVv (As := []) (rest := []) dX1_learns_19 (sae_0 he) (W_E_step e he _ _ hP) mi_X1_step ml_X1_263 (by decide) (Nat.le_of_ble_eq_true rfl) rfl rfl (fun r5 h6 hP => ?_)
    refine zV_aload_n dX1_learns_22 rfl ?_
    refine zV_dup dX1_learns_23 (Nat.ne_of_beq_eq_false rfl) ?_
    refine zV_gf dX1_learns_24 (sae_0 he) (by decide) fl_X1_166_1 rfl (ki := 34) rfl ?_
    refine zV_iconst dX1_learns_27 ⟨by decide, by decide⟩ ?_
    refine zV_iadd dX1_learns_28 ?_
    refine zV_pf dX1_learns_29 (sae_0 he) (by decide) fl_X1_166_1 rfl rfl trivial (ki := 34) rfl (fun h7 e_h7 => ?_)
    have hP := hP h7 e_h7
    refine zV_aload_n dX1_learns_32 rfl ?_
    refine zV_cVv (As := []) (rest := []) dX1_learns_33 (sae_0 he) (W_E_heavier e he _ _ hP) mi_X1_heavier ml_X1_309 (by decide) (Nat.le_of_ble_eq_true rfl) rfl rfl (fun r8 h9 hP => ?_)
    refine zV_iconst dX1_learns_36 ⟨by decide, by decide⟩ ?_
    refine zV_istore_n (ls' := [zR e, zI a1, zI 0, zU, zU]) dX1_learns_37 rfl (Nat.le_of_ble_eq_true rfl) rfl rfl ?_
    obtain ⟨n38, hP⟩ := hP
    refine W_E_learns_L38 e he _ _ _ (fun h12 hP => ?_) n38 _ _ hP
    refine zV_aload_n dX1_learns_67 rfl ?_
    refine zV_gf dX1_learns_68 (sae_0 he) (by decide) fl_X1_139_1 rfl (ki := 21) rfl ?_
    refine zV_top (fun x2_13 e_x2_13 => ?_)
    have hP := hP x2_13 e_x2_13
    refine zV_istore_n (ls' := [zR e, zI a1, zI x2_13, zU, zU]) dX1_learns_71 rfl (Nat.le_of_ble_eq_true rfl) rfl rfl ?_
    refine zV_iconst dX1_learns_72 ⟨by decide, by decide⟩ ?_
    refine zV_istore_n (ls' := [zR e, zI a1, zI x2_13, zI 0, zU]) dX1_learns_73 rfl (Nat.le_of_ble_eq_true rfl) rfl rfl ?_
    refine zV_iconst dX1_learns_74 ⟨by decide, by decide⟩ ?_
    refine zV_istore (ls' := [zR e, zI a1, zI x2_13, zI 0, zI 1]) dX1_learns_75 (Nat.le_of_ble_eq_true rfl) rfl rfl ?_
    obtain ⟨n77, hP⟩ := hP
    refine W_E_learns_L77 e he _ _ _ _ (fun u3_112 h16 hP => ?_) n77 _ _ _ hP
    refine zV_aload_n dX1_learns_112 rfl ?_
    refine zV_iload_n dX1_learns_113 rfl ?_
    refine zV_cVv (As := [zI u3_112]) (rest := []) dX1_learns_114 (sae_0 he) (W_E_back e he _ _ _ hP) mi_X1_back ml_X1_312 (by decide) (Nat.le_of_ble_eq_true rfl) rfl rfl (fun r17 h18 hP => ?_)
    refine zV_aload_n dX1_learns_117 rfl ?_
    refine zV_dup dX1_learns_118 (Nat.ne_of_beq_eq_false rfl) ?_
    refine zV_gf dX1_learns_119 (sae_0 he) (by decide) fl_X1_181_1 rfl (ki := 39) rfl ?_
    refine zV_iconst dX1_learns_122 ⟨by decide, by decide⟩ ?_
    refine zV_iadd dX1_learns_123 ?_
    refine zV_pf dX1_learns_124 (sae_0 he) (by decide) fl_X1_181_1 rfl rfl trivial (ki := 39) rfl (fun h19 e_h19 => ?_)
    have hP := hP h19 e_h19
    refine zV_aload_n dX1_learns_127 rfl ?_
    refine zV_sg dX1_learns_128 (fme_57 he) (sae_0 he) (by decide) fl_X1_3_1 rfl ?_
    refine zV_gf dX1_learns_131 sa_14 (by decide) fl_X1_315_0 rfl (ki := 26) rfl ?_
    refine zV_if_le (tgt := 186) dX1_learns_134 (by decide) (fun c => ?_) (fun c => ?_)
    · have hP := zif_p hP c
      refine zV_mask [true, true, true, false, true] (ls' := [zR e, zI a1, zI x2_13, zU, zU]) rfl ?_
      exact W_E_learns_J186 e he _ _ _ _ hP
    · have hP := zif_n hP c
      refine zV_aload_n dX1_learns_137 rfl ?_
      refine zV_gf dX1_learns_138 (sae_0 he) (by decide) fl_X1_181_1 rfl (ki := 39) rfl ?_
      refine zV_aload_n dX1_learns_141 rfl ?_
      refine zV_sg dX1_learns_142 (fme_57 he) (sae_0 he) (by decide) fl_X1_3_1 rfl ?_
      refine zV_gf dX1_learns_145 sa_14 (by decide) fl_X1_315_0 rfl (ki := 26) rfl ?_
      refine zV_aload_n dX1_learns_148 rfl ?_
      refine zV_cVk (As := []) (rest := [zI (zd h19 14 26), zI (zd h19 e 39)]) dX1_learns_149 (sae_0 he) (W_E_turnNumber e he _ _ hP) mi_X1_turnNumber ml_X1_318 (by decide) (Nat.le_of_ble_eq_true rfl) rfl rfl rfl (fun r26 h27 hP => ?_)
      refine zV_imul dX1_learns_152 ?_
      refine zV_icmp_lt (tgt := 186) dX1_learns_153 (by decide) (fun c => ?_) (fun c => ?_)
      · have hP := zif_p hP c
        refine zV_mask [true, true, true, false, true] (ls' := [zR e, zI a1, zI x2_13, zU, zU]) rfl ?_
        exact W_E_learns_J186 e he _ _ _ _ hP
      · have hP := zif_n hP c
        refine zV_aload_n dX1_learns_156 rfl ?_
        refine zV_iconst dX1_learns_157 ⟨by decide, by decide⟩ ?_
        refine zV_cVv (As := [zI 0]) (rest := []) dX1_learns_158 (sae_0 he) (W_E_back e he _ _ _ hP) mi_X1_back ml_X1_312 (by decide) (Nat.le_of_ble_eq_true rfl) rfl rfl (fun r28 h29 hP => ?_)
        refine zV_aload_n dX1_learns_161 rfl ?_
        refine zV_iconst dX1_learns_162 ⟨by decide, by decide⟩ ?_
        refine zV_pf dX1_learns_163 (sae_0 he) (by decide) fl_X1_181_1 rfl rfl trivial (ki := 39) rfl (fun h30 e_h30 => ?_)
        have hP := hP h30 e_h30
        refine zV_aload_n dX1_learns_166 rfl ?_
        refine zV_dup dX1_learns_167 (Nat.ne_of_beq_eq_false rfl) ?_
        refine zV_gf dX1_learns_168 (sae_0 he) (by decide) fl_X1_184_1 rfl (ki := 40) rfl ?_
        refine zV_iconst dX1_learns_171 ⟨by decide, by decide⟩ ?_
        refine zV_iadd dX1_learns_172 ?_
        refine zV_pf dX1_learns_173 (sae_0 he) (by decide) fl_X1_184_1 rfl rfl trivial (ki := 40) rfl (fun h31 e_h31 => ?_)
        have hP := hP h31 e_h31
        refine zV_aload_n dX1_learns_176 rfl ?_
        refine zV_dup dX1_learns_177 (Nat.ne_of_beq_eq_false rfl) ?_
        refine zV_gf dX1_learns_178 (sae_0 he) (by decide) fl_X1_169_1 rfl (ki := 35) rfl ?_
        refine zV_iconst dX1_learns_181 ⟨by decide, by decide⟩ ?_
        refine zV_iadd dX1_learns_182 ?_
        refine zV_pf dX1_learns_183 (sae_0 he) (by decide) fl_X1_169_1 rfl rfl trivial (ki := 35) rfl (fun h32 e_h32 => ?_)
        have hP := hP h32 e_h32
        refine zV_mask [true, true, true, false, true] (ls' := [zR e, zI a1, zI x2_13, zU, zU]) rfl ?_
        exact W_E_learns_J186 e he _ _ _ _ hP
  · have hP := zif_p hP c
    refine zV_iconst dX1_learns_16 ⟨by decide, by decide⟩ ?_
    exact zV_ireturn dX1_learns_17 rfl rfl (z01 z0) ⟨rfl, hP⟩
def P_E_firstAssumed_L2 (e : Int) (Q : Int → zH → Prop) : Nat → Int → zH → Prop
| 0, _, _ => False
| n2 + 1, y1, h =>
if zd h e 28 ≤ y1 then
(Q 0 h)
else
((0 ≤ y1 ∧ y1 < 20) ∧
P_E_isTrue e (zd h (e + 21) y1) h (fun r1 h2 =>
if r1 = 0 then
((0 ≤ y1 ∧ y1 < 20) ∧
Q (zd h2 (e + 21) y1) h2)
else
(∀ x1_3 : Int, x1_3 = w32 (y1 + 1) →
P_E_firstAssumed_L2 e Q n2 x1_3 h2)))
theorem W_E_firstAssumed_L2 (e : Int) (he : zE e) (Q : Int → zH → Prop) : ∀ (n2 : Nat) (y1 : Int) (h : zH), P_E_firstAssumed_L2 e Q n2 y1 h → zV true zy_X1_firstAssumed 3 2 [zR e, zI y1] [] h (zQ0 Q) := by
  intro n2
  induction n2 with
  | zero => intro y1 h hP; exact absurd hP id
  | succ n2 ih =>
    intro y1 h hP
    unfold P_E_firstAssumed_L2 at hP
    refine zV_iload_n dX1_firstAssumed_2 rfl ?_
    refine zV_aload_n dX1_firstAssumed_3 rfl ?_
    refine zV_gf dX1_firstAssumed_4 (sae_0 he) (by decide) fl_X1_154_1 rfl (ki := 28) rfl ?_
    refine zV_icmp_ge (tgt := 36) dX1_firstAssumed_7 (by decide) (fun c => ?_) (fun c => ?_)
    · have hP := zif_p hP c
      refine zV_iconst dX1_firstAssumed_36 ⟨by decide, by decide⟩ ?_
      exact zV_ireturn dX1_firstAssumed_37 rfl rfl rfl ⟨rfl, hP⟩
    · have hP := zif_n hP c
      refine zV_aload_n dX1_firstAssumed_10 rfl ?_
      refine zV_aload_n dX1_firstAssumed_11 rfl ?_
      refine zV_sg dX1_firstAssumed_12 (fme_27 he) (sae_0 he) (by decide) fl_X1_78_1 rfl ?_
      refine zV_iload_n dX1_firstAssumed_15 rfl ?_
      obtain ⟨ob, hP⟩ := hP
      refine zV_ia dX1_firstAssumed_16 (sae_21 he) ob ?_
      refine zV_cVk (As := [zI (zd h (e + 21) y1)]) (rest := []) dX1_firstAssumed_17 (sae_0 he) (W_E_isTrue e he _ _ _ hP) mi_X1_isTrue ml_X1_198 (by decide) (Nat.le_of_ble_eq_true rfl) rfl rfl rfl (fun r1 h2 hP => ?_)
      refine zV_if_ne (tgt := 30) dX1_firstAssumed_20 (by decide) (fun c => ?_) (fun c => ?_)
      · have hP := zif_n hP c
        refine zV_inc (ls' := fun z => [zR e, zI z]) dX1_firstAssumed_30 (Nat.le_of_ble_eq_true rfl) rfl rfl (fun _ => rfl) (fun x1_3 e_x1_3 => ?_)
        have hP := hP x1_3 e_x1_3
        refine zV_goto (tgt := 2) dX1_firstAssumed_33 (by decide) ?_
        exact ih _ _ hP
      · have hP := zif_p hP c
        refine zV_aload_n dX1_firstAssumed_23 rfl ?_
        refine zV_sg dX1_firstAssumed_24 (fme_27 he) (sae_0 he) (by decide) fl_X1_78_1 rfl ?_
        refine zV_iload_n dX1_firstAssumed_27 rfl ?_
        obtain ⟨ob, hP⟩ := hP
        refine zV_ia dX1_firstAssumed_28 (sae_21 he) ob ?_
        exact zV_ireturn dX1_firstAssumed_29 rfl rfl rfl ⟨rfl, hP⟩
def P_E_firstAssumed (e : Int) (h : zH) (Q : Int → zH → Prop) : Prop :=
∃ n2, P_E_firstAssumed_L2 e Q n2 0 h
theorem W_E_firstAssumed (e : Int) (he : zE e) (h : zH) (Q : Int → zH → Prop) (hP : P_E_firstAssumed e  h Q) : zC true zy_X1_firstAssumed 3 [zR e] h (zQ0 Q) := by
  unfold P_E_firstAssumed at hP
  refine zC.of (by decide) (Nat.le_of_ble_eq_true rfl) ?_
  show zV true zy_X1_firstAssumed 3 0 [zR e, zU] [] h (zQ0 Q)
  refine zV_iconst dX1_firstAssumed_0 ⟨by decide, by decide⟩ ?_
  refine zV_istore_n (ls' := [zR e, zI 0]) dX1_firstAssumed_1 rfl (Nat.le_of_ble_eq_true rfl) rfl rfl ?_
  obtain ⟨n2, hP⟩ := hP
  refine W_E_firstAssumed_L2 e he _ n2 _ _ hP
def P_E_marks_J67 (e : Int) (y1 : Int) (y2 : Int) (y3 : Int) (s0 : Int) (s1 : Int) (s2 : Int) (h : zH) (Q : Int → zH → Prop) (k17 : Int → zH → Prop) : Prop :=
(0 ≤ s2 ∧ s2 < 301) ∧
∀ h4 : zH, h4 = zw h (e + 25) s2 (zbit (zor s1 s0)) →
∀ x3_5 : Int, x3_5 = w32 (y3 + 1) →
k17 x3_5 h4
theorem W_E_marks_J67 (e : Int) (he : zE e) (y1 : Int) (y2 : Int) (y3 : Int) (s0 : Int) (s1 : Int) (s2 : Int) (h : zH) (Q : Int → zH → Prop) (k17 : Int → zH → Prop) (H17 : ∀ (v3 : Int) (h' : zH), k17 v3 h' → zV true zy_X1_marks 2 17 [zR e, zI y1, zI y2, zI v3] [] h' (zQ0 Q)) (hP : P_E_marks_J67 e y1 y2 y3 s0 s1 s2 h Q k17) : zV true zy_X1_marks 2 67 [zR e, zI y1, zI y2, zI y3] [zI s0, zI s1, zI s2, zR (e + 25)] h (zQ0 Q) := by
  unfold P_E_marks_J67 at hP
  refine zV_ior dX1_marks_67 ?_
  obtain ⟨ob, hP⟩ := hP
  refine zV_zas dX1_marks_68 (sae_25 he) ob (fun h4 e_h4 => ?_)
  have hP := hP h4 e_h4
  refine zV_inc (ls' := fun z => [zR e, zI y1, zI y2, zI z]) dX1_marks_69 (Nat.le_of_ble_eq_true rfl) rfl rfl (fun _ => rfl) (fun x3_5 e_x3_5 => ?_)
  have hP := hP x3_5 e_x3_5
  refine zV_goto (tgt := 17) dX1_marks_72 (by decide) ?_
  exact H17 _ _ hP
def P_E_marks_L17 (e : Int) (y1 : Int) (y2 : Int) (Q : Int → zH → Prop) : Nat → Int → zH → Prop
| 0, _, _ => False
| n17 + 1, y3, h =>
(0 ≤ y1 ∧ y1 < 1364) ∧
(0 ≤ y1 ∧ y1 < 1364) ∧
if w32 ((zd h (e + 1) y1) + (zd h (e + 2) y1)) ≤ y3 then
(Q 0 h)
else
((0 ≤ y3 ∧ y3 < 12080) ∧
(0 ≤ zabs (zd h (e + 7) y3) ∧ zabs (zd h (e + 7) y3) < 301) ∧
(0 ≤ y3 ∧ y3 < 12080) ∧
P_E_marks_J67 e y1 y2 y3 (if zabs (zd h (e + 7) y3) = y2 then 0 else 1) (zd h (e + 25) (zabs (zd h (e + 7) y3))) (zabs (zd h (e + 7) y3)) h Q (P_E_marks_L17 e y1 y2 Q n17))
theorem W_E_marks_L17 (e : Int) (he : zE e) (y1 : Int) (y2 : Int) (Q : Int → zH → Prop) : ∀ (n17 : Nat) (y3 : Int) (h : zH), P_E_marks_L17 e y1 y2 Q n17 y3 h → zV true zy_X1_marks 2 17 [zR e, zI y1, zI y2, zI y3] [] h (zQ0 Q) := by
  intro n17
  induction n17 with
  | zero => intro y3 h hP; exact absurd hP id
  | succ n17 ih =>
    intro y3 h hP
    unfold P_E_marks_L17 at hP
    refine zV_iload_n dX1_marks_17 rfl ?_
    refine zV_aload_n dX1_marks_18 rfl ?_
    refine zV_sg dX1_marks_19 (fme_0 he) (sae_0 he) (by decide) fl_X1_15_1 rfl ?_
    refine zV_iload_n dX1_marks_22 rfl ?_
    obtain ⟨ob, hP⟩ := hP
    refine zV_ia dX1_marks_23 (sae_1 he) ob ?_
    refine zV_aload_n dX1_marks_24 rfl ?_
    refine zV_sg dX1_marks_25 (fme_1 he) (sae_0 he) (by decide) fl_X1_19_1 rfl ?_
    refine zV_iload_n dX1_marks_28 rfl ?_
    obtain ⟨ob, hP⟩ := hP
    refine zV_ia dX1_marks_29 (sae_2 he) ob ?_
    refine zV_iadd dX1_marks_30 ?_
    refine zV_icmp_ge (tgt := 75) dX1_marks_31 (by decide) (fun c => ?_) (fun c => ?_)
    · have hP := zif_p hP c
      exact zV_return dX1_marks_75 rfl ⟨rfl, hP⟩
    · have hP := zif_n hP c
      refine zV_aload_n dX1_marks_34 rfl ?_
      refine zV_sg dX1_marks_35 (fme_46 he) (sae_0 he) (by decide) fl_X1_94_1 rfl ?_
      refine zV_aload_n dX1_marks_38 rfl ?_
      refine zV_sg dX1_marks_39 (fme_6 he) (sae_0 he) (by decide) fl_X1_36_1 rfl ?_
      refine zV_iload_n dX1_marks_42 rfl ?_
      obtain ⟨ob, hP⟩ := hP
      refine zV_ia dX1_marks_43 (sae_7 he) ob ?_
      refine zV_mabs dX1_marks_44 q1546 q806 q171 q807 (Nat.le_of_ble_eq_true rfl) (by decide) ?_
      refine zV_dup2 dX1_marks_47 (Nat.ne_of_beq_eq_false rfl) (Nat.ne_of_beq_eq_false rfl) ?_
      obtain ⟨ob, hP⟩ := hP
      refine zV_za dX1_marks_48 (sae_25 he) ob ?_
      refine zV_aload_n dX1_marks_49 rfl ?_
      refine zV_sg dX1_marks_50 (fme_6 he) (sae_0 he) (by decide) fl_X1_36_1 rfl ?_
      refine zV_iload_n dX1_marks_53 rfl ?_
      obtain ⟨ob, hP⟩ := hP
      refine zV_ia dX1_marks_54 (sae_7 he) ob ?_
      refine zV_mabs dX1_marks_55 q1546 q806 q171 q807 (Nat.le_of_ble_eq_true rfl) (by decide) ?_
      refine zV_iload_n dX1_marks_58 rfl ?_
      have K : zV true zy_X1_marks 2 67 [zR e, zI y1, zI y2, zI y3] [zI (if zabs (zd h (e + 7) y3) = y2 then 0 else 1), zI (zd h (e + 25) (zabs (zd h (e + 7) y3))), zI (zabs (zd h (e + 7) y3)), zR (e + 25)] h (zQ0 Q) := by
        exact W_E_marks_J67 e he _ _ _ _ _ _ _ _ _ ih hP
      clear hP
      refine zV_icmp_eq (tgt := 66) dX1_marks_59 (by decide) (fun c => ?_) (fun c => ?_)
      · try simp only [if_pos c] at K
        refine zV_iconst dX1_marks_66 ⟨by decide, by decide⟩ ?_
        refine zV_mask [true, true, true, true] rfl ?_
        exact K
      · try simp only [if_neg c] at K
        refine zV_iconst dX1_marks_62 ⟨by decide, by decide⟩ ?_
        refine zV_goto (tgt := 67) dX1_marks_63 (by decide) ?_
        refine zV_mask [true, true, true, true] rfl ?_
        exact K
def P_E_marks (e : Int) (a1 : Int) (a2 : Int) (h : zH) (Q : Int → zH → Prop) : Prop :=
P_E_addSource e (e + 29) 0 a1 h (fun r1 h2 =>
(0 ≤ a1 ∧ a1 < 1364) ∧
∀ x3_3 : Int, x3_3 = (zd h2 (e + 1) a1) →
∃ n17, P_E_marks_L17 e a1 a2 Q n17 x3_3 h2)
theorem W_E_marks (e : Int) (he : zE e) (a1 : Int) (a2 : Int) (h : zH) (Q : Int → zH → Prop) (hP : P_E_marks e a1 a2 h Q) : zC true zy_X1_marks 2 [zR e, zI a1, zI a2] h (zQ0 Q) := by
  unfold P_E_marks at hP
  refine zC.of (by decide) (Nat.le_of_ble_eq_true rfl) ?_
  show zV true zy_X1_marks 2 0 [zR e, zI a1, zI a2, zU] [] h (zQ0 Q)
  refine zV_aload_n dX1_marks_0 rfl ?_
  refine zV_aload_n dX1_marks_1 rfl ?_
  refine zV_sg dX1_marks_2 (fme_51 he) (sae_0 he) (by decide) fl_X1_106_1 rfl ?_
  refine zV_iconst dX1_marks_5 ⟨by decide, by decide⟩ ?_
  refine zV_iload_n dX1_marks_6 rfl ?_
  refine zV_cVv (As := [zR (e + 29), zI 0, zI a1]) (rest := []) dX1_marks_7 (sae_0 he) (W_E_addSource e he _ _ _ _ _ hP) mi_X1_addSource ml_X1_230 (by decide) (Nat.le_of_ble_eq_true rfl) rfl rfl (fun r1 h2 hP => ?_)
  refine zV_aload_n dX1_marks_10 rfl ?_
  refine zV_sg dX1_marks_11 (fme_0 he) (sae_0 he) (by decide) fl_X1_15_1 rfl ?_
  refine zV_iload_n dX1_marks_14 rfl ?_
  obtain ⟨ob, hP⟩ := hP
  refine zV_ia dX1_marks_15 (sae_1 he) ob ?_
  refine zV_top (fun x3_3 e_x3_3 => ?_)
  have hP := hP x3_3 e_x3_3
  refine zV_istore_n (ls' := [zR e, zI a1, zI a2, zI x3_3]) dX1_marks_16 rfl (Nat.le_of_ble_eq_true rfl) rfl rfl ?_
  obtain ⟨n17, hP⟩ := hP
  refine W_E_marks_L17 e he _ _ _ n17 _ _ hP
def P_E_noBy_L6 (e : Int) (y1 : Int) (Q : Int → zH → Prop) (k27 : zH → Prop) : Nat → Int → zH → Prop
| 0, _, _ => False
| n6 + 1, y2, h =>
if zd h e 11 < y2 then
(k27 h)
else
((0 ≤ y2 ∧ y2 < 301) ∧
∀ h3 : zH, h3 = zw h (e + 27) y2 (zbit 0) →
∀ x2_4 : Int, x2_4 = w32 (y2 + 1) →
P_E_noBy_L6 e y1 Q k27 n6 x2_4 h3)
theorem W_E_noBy_L6 (e : Int) (he : zE e) (y1 : Int) (Q : Int → zH → Prop) (k27 : zH → Prop) (H27 : ∀ (h' : zH), k27 h' → zV true zy_X1_noBy 6 27 [zR e, zI y1, zU, zU, zU] [] h' (zQ0 Q)) : ∀ (n6 : Nat) (y2 : Int) (h : zH), P_E_noBy_L6 e y1 Q k27 n6 y2 h → zV true zy_X1_noBy 6 6 [zR e, zI y1, zI y2, zU, zU] [] h (zQ0 Q) := by
  intro n6
  induction n6 with
  | zero => intro y2 h hP; exact absurd hP id
  | succ n6 ih =>
    intro y2 h hP
    unfold P_E_noBy_L6 at hP
    refine zV_iload_n dX1_noBy_6 rfl ?_
    refine zV_aload_n dX1_noBy_7 rfl ?_
    refine zV_gf dX1_noBy_8 (sae_0 he) (by decide) fl_X1_121_1 rfl (ki := 11) rfl ?_
    refine zV_icmp_gt (tgt := 27) dX1_noBy_11 (by decide) (fun c => ?_) (fun c => ?_)
    · have hP := zif_p hP c
      refine zV_mask [true, true, false, true, true] (ls' := [zR e, zI y1, zU, zU, zU]) rfl ?_
      exact H27 _ hP
    · have hP := zif_n hP c
      refine zV_aload_n dX1_noBy_14 rfl ?_
      refine zV_sg dX1_noBy_15 (fme_48 he) (sae_0 he) (by decide) fl_X1_100_1 rfl ?_
      refine zV_iload_n dX1_noBy_18 rfl ?_
      refine zV_iconst dX1_noBy_19 ⟨by decide, by decide⟩ ?_
      obtain ⟨ob, hP⟩ := hP
      refine zV_zas dX1_noBy_20 (sae_27 he) ob (fun h3 e_h3 => ?_)
      have hP := hP h3 e_h3
      refine zV_inc (ls' := fun z => [zR e, zI y1, zI z, zU, zU]) dX1_noBy_21 (Nat.le_of_ble_eq_true rfl) rfl rfl (fun _ => rfl) (fun x2_4 e_x2_4 => ?_)
      have hP := hP x2_4 e_x2_4
      refine zV_goto (tgt := 6) dX1_noBy_24 (by decide) ?_
      exact ih _ _ hP
def P_E_noBy_J135 (e : Int) (y1 : Int) (y3 : Int) (h : zH) (Q : Int → zH → Prop) (k46 : Int → zH → Prop) : Prop :=
∀ x3_12 : Int, x3_12 = w32 (y3 + (-1)) →
k46 x3_12 h
theorem W_E_noBy_J135 (e : Int) (he : zE e) (y1 : Int) (y3 : Int) (h : zH) (Q : Int → zH → Prop) (k46 : Int → zH → Prop) (H46 : ∀ (v3 : Int) (h' : zH), k46 v3 h' → zV true zy_X1_noBy 6 46 [zR e, zI y1, zU, zI v3, zU] [] h' (zQ0 Q)) (hP : P_E_noBy_J135 e y1 y3 h Q k46) : zV true zy_X1_noBy 6 135 [zR e, zI y1, zU, zI y3, zU] [] h (zQ0 Q) := by
  unfold P_E_noBy_J135 at hP
  refine zV_inc (ls' := fun z => [zR e, zI y1, zU, zI z, zU]) dX1_noBy_135 (Nat.le_of_ble_eq_true rfl) rfl rfl (fun _ => rfl) (fun x3_12 e_x3_12 => ?_)
  have hP := hP x3_12 e_x3_12
  refine zV_goto (tgt := 46) dX1_noBy_138 (by decide) ?_
  exact H46 _ _ hP
def P_E_noBy_L46 (e : Int) (y1 : Int) (Q : Int → zH → Prop) (k141 : zH → Prop) : Nat → Int → zH → Prop
| 0, _, _ => False
| n46 + 1, y3, h =>
if y3 < 0 then
(k141 h)
else
((0 ≤ y3 ∧ y3 < 300) ∧
∀ x4_9 : Int, x4_9 = (zabs (zd h (e + 17) y3)) →
(0 ≤ x4_9 ∧ x4_9 < 301) ∧
if zd h (e + 25) x4_9 = 0 then
(P_E_noBy_J135 e y1 y3 h Q (P_E_noBy_L46 e y1 Q k141 n46))
else
((0 ≤ x4_9 ∧ x4_9 < 301) ∧
if zd h (e + 12) x4_9 = 0 then
(P_E_addRoot e (e + 29) 0 x4_9 h (fun r14 h15 =>
P_E_noBy_J135 e y1 y3 h15 Q (P_E_noBy_L46 e y1 Q k141 n46)))
else
((0 ≤ x4_9 ∧ x4_9 < 301) ∧
if zd h (e + 13) x4_9 = (-1005) then
((0 ≤ x4_9 ∧ x4_9 < 301) ∧
∀ h13 : zH, h13 = zw h (e + 27) x4_9 (zbit 1) →
P_E_noBy_J135 e y1 y3 h13 Q (P_E_noBy_L46 e y1 Q k141 n46))
else
((0 ≤ x4_9 ∧ x4_9 < 301) ∧
P_E_marks e (zd h (e + 13) x4_9) x4_9 h (fun r10 h11 =>
P_E_noBy_J135 e y1 y3 h11 Q (P_E_noBy_L46 e y1 Q k141 n46))))))
theorem W_E_noBy_L46 (e : Int) (he : zE e) (y1 : Int) (Q : Int → zH → Prop) (k141 : zH → Prop) (H141 : ∀ (h' : zH), k141 h' → zV true zy_X1_noBy 6 141 [zR e, zI y1, zU, zU, zU] [] h' (zQ0 Q)) : ∀ (n46 : Nat) (y3 : Int) (h : zH), P_E_noBy_L46 e y1 Q k141 n46 y3 h → zV true zy_X1_noBy 6 46 [zR e, zI y1, zU, zI y3, zU] [] h (zQ0 Q) := by
  intro n46
  induction n46 with
  | zero => intro y3 h hP; exact absurd hP id
  | succ n46 ih =>
    intro y3 h hP
    unfold P_E_noBy_L46 at hP
    refine zV_iload_n dX1_noBy_46 rfl ?_
    refine zV_if_lt (tgt := 141) dX1_noBy_47 (by decide) (fun c => ?_) (fun c => ?_)
    · have hP := zif_p hP c
      refine zV_mask [true, true, true, false, true] (ls' := [zR e, zI y1, zU, zU, zU]) rfl ?_
      exact H141 _ hP
    · have hP := zif_n hP c
      refine zV_aload_n dX1_noBy_50 rfl ?_
      refine zV_sg dX1_noBy_51 (fme_18 he) (sae_0 he) (by decide) fl_X1_66_1 rfl ?_
      refine zV_iload_n dX1_noBy_54 rfl ?_
      obtain ⟨ob, hP⟩ := hP
      refine zV_ia dX1_noBy_55 (sae_17 he) ob ?_
      refine zV_mabs dX1_noBy_56 q1546 q806 q171 q807 (Nat.le_of_ble_eq_true rfl) (by decide) ?_
      refine zV_top (fun x4_9 e_x4_9 => ?_)
      have hP := hP x4_9 e_x4_9
      refine zV_istore (ls' := [zR e, zI y1, zU, zI y3, zI x4_9]) dX1_noBy_59 (Nat.le_of_ble_eq_true rfl) rfl rfl ?_
      refine zV_aload_n dX1_noBy_61 rfl ?_
      refine zV_sg dX1_noBy_62 (fme_46 he) (sae_0 he) (by decide) fl_X1_94_1 rfl ?_
      refine zV_iload dX1_noBy_65 rfl ?_
      obtain ⟨ob, hP⟩ := hP
      refine zV_za dX1_noBy_67 (sae_25 he) ob ?_
      refine zV_if_ne (tgt := 74) dX1_noBy_68 (by decide) (fun c => ?_) (fun c => ?_)
      · have hP := zif_n hP c
        refine zV_aload_n dX1_noBy_74 rfl ?_
        refine zV_sg dX1_noBy_75 (fme_13 he) (sae_0 he) (by decide) fl_X1_51_1 rfl ?_
        refine zV_iload dX1_noBy_78 rfl ?_
        obtain ⟨ob, hP⟩ := hP
        refine zV_ia dX1_noBy_80 (sae_12 he) ob ?_
        refine zV_if_ne (tgt := 98) dX1_noBy_81 (by decide) (fun c => ?_) (fun c => ?_)
        · have hP := zif_n hP c
          refine zV_aload_n dX1_noBy_98 rfl ?_
          refine zV_sg dX1_noBy_99 (fme_14 he) (sae_0 he) (by decide) fl_X1_54_1 rfl ?_
          refine zV_iload dX1_noBy_102 rfl ?_
          obtain ⟨ob, hP⟩ := hP
          refine zV_ia dX1_noBy_104 (sae_13 he) ob ?_
          refine zV_sipush dX1_noBy_105 ⟨by decide, by decide, by decide⟩ ?_
          refine zV_icmp_ne (tgt := 122) dX1_noBy_108 (by decide) (fun c => ?_) (fun c => ?_)
          · have hP := zif_n hP c
            refine zV_aload_n dX1_noBy_122 rfl ?_
            refine zV_aload_n dX1_noBy_123 rfl ?_
            refine zV_sg dX1_noBy_124 (fme_14 he) (sae_0 he) (by decide) fl_X1_54_1 rfl ?_
            refine zV_iload dX1_noBy_127 rfl ?_
            obtain ⟨ob, hP⟩ := hP
            refine zV_ia dX1_noBy_129 (sae_13 he) ob ?_
            refine zV_iload dX1_noBy_130 rfl ?_
            refine zV_cVv (As := [zI (zd h (e + 13) x4_9), zI x4_9]) (rest := []) dX1_noBy_132 (sae_0 he) (W_E_marks e he _ _ _ _ hP) mi_X1_marks ml_X1_338 (by decide) (Nat.le_of_ble_eq_true rfl) rfl rfl (fun r10 h11 hP => ?_)
            refine zV_mask [true, true, true, true, false] (ls' := [zR e, zI y1, zU, zI y3, zU]) rfl ?_
            exact W_E_noBy_J135 e he _ _ _ _ _ ih hP
          · have hP := zif_p hP c
            refine zV_aload_n dX1_noBy_111 rfl ?_
            refine zV_sg dX1_noBy_112 (fme_48 he) (sae_0 he) (by decide) fl_X1_100_1 rfl ?_
            refine zV_iload dX1_noBy_115 rfl ?_
            refine zV_iconst dX1_noBy_117 ⟨by decide, by decide⟩ ?_
            obtain ⟨ob, hP⟩ := hP
            refine zV_zas dX1_noBy_118 (sae_27 he) ob (fun h13 e_h13 => ?_)
            have hP := hP h13 e_h13
            refine zV_goto (tgt := 135) dX1_noBy_119 (by decide) ?_
            refine zV_mask [true, true, true, true, false] (ls' := [zR e, zI y1, zU, zI y3, zU]) rfl ?_
            exact W_E_noBy_J135 e he _ _ _ _ _ ih hP
        · have hP := zif_p hP c
          refine zV_aload_n dX1_noBy_84 rfl ?_
          refine zV_aload_n dX1_noBy_85 rfl ?_
          refine zV_sg dX1_noBy_86 (fme_51 he) (sae_0 he) (by decide) fl_X1_106_1 rfl ?_
          refine zV_iconst dX1_noBy_89 ⟨by decide, by decide⟩ ?_
          refine zV_iload dX1_noBy_90 rfl ?_
          refine zV_cVv (As := [zR (e + 29), zI 0, zI x4_9]) (rest := []) dX1_noBy_92 (sae_0 he) (W_E_addRoot e he _ _ _ _ _ hP) mi_X1_addRoot ml_X1_234 (by decide) (Nat.le_of_ble_eq_true rfl) rfl rfl (fun r14 h15 hP => ?_)
          refine zV_goto (tgt := 135) dX1_noBy_95 (by decide) ?_
          refine zV_mask [true, true, true, true, false] (ls' := [zR e, zI y1, zU, zI y3, zU]) rfl ?_
          exact W_E_noBy_J135 e he _ _ _ _ _ ih hP
      · have hP := zif_p hP c
        refine zV_goto (tgt := 135) dX1_noBy_71 (by decide) ?_
        refine zV_mask [true, true, true, true, false] (ls' := [zR e, zI y1, zU, zI y3, zU]) rfl ?_
        exact W_E_noBy_J135 e he _ _ _ _ _ ih hP
def P_E_noBy_J229 (e : Int) (y1 : Int) (y3 : Int) (h : zH) (Q : Int → zH → Prop) (k148 : Int → zH → Prop) : Prop :=
∀ x3_25 : Int, x3_25 = w32 (y3 + 1) →
k148 x3_25 h
theorem W_E_noBy_J229 (e : Int) (he : zE e) (y1 : Int) (y3 : Int) (h : zH) (Q : Int → zH → Prop) (k148 : Int → zH → Prop) (H148 : ∀ (v3 : Int) (h' : zH), k148 v3 h' → zV true zy_X1_noBy 6 148 [zR e, zI y1, zU, zI v3, zU] [] h' (zQ0 Q)) (hP : P_E_noBy_J229 e y1 y3 h Q k148) : zV true zy_X1_noBy 6 229 [zR e, zI y1, zU, zI y3, zU] [] h (zQ0 Q) := by
  unfold P_E_noBy_J229 at hP
  refine zV_inc (ls' := fun z => [zR e, zI y1, zU, zI z, zU]) dX1_noBy_229 (Nat.le_of_ble_eq_true rfl) rfl rfl (fun _ => rfl) (fun x3_25 e_x3_25 => ?_)
  have hP := hP x3_25 e_x3_25
  refine zV_goto (tgt := 148) dX1_noBy_232 (by decide) ?_
  exact H148 _ _ hP
def P_E_noBy_J192 (e : Int) (y1 : Int) (y3 : Int) (y4 : Int) (h : zH) (Q : Int → zH → Prop) (k148 : Int → zH → Prop) : Prop :=
∀ h21 : zH, h21 = zw h e 45 (w32 ((zd h e 45) + 1)) →
(0 ≤ zd h e 45 ∧ zd h e 45 < 20) ∧
∀ h22 : zH, h22 = zw h21 (e + 24) (zd h e 45) y4 →
∀ h23 : zH, h23 = zw h22 e 50 (w32 ((zd h22 e 50) + 1)) →
(0 ≤ zd h22 e 50 ∧ zd h22 e 50 < 300) ∧
∀ h24 : zH, h24 = zw h23 (e + 28) (zd h22 e 50) (w32 (-y4)) →
P_E_noBy_J229 e y1 y3 h24 Q k148
theorem W_E_noBy_J192 (e : Int) (he : zE e) (y1 : Int) (y3 : Int) (y4 : Int) (h : zH) (Q : Int → zH → Prop) (k148 : Int → zH → Prop) (H148 : ∀ (v3 : Int) (h' : zH), k148 v3 h' → zV true zy_X1_noBy 6 148 [zR e, zI y1, zU, zI v3, zU] [] h' (zQ0 Q)) (hP : P_E_noBy_J192 e y1 y3 y4 h Q k148) : zV true zy_X1_noBy 6 192 [zR e, zI y1, zU, zI y3, zI y4] [] h (zQ0 Q) := by
  unfold P_E_noBy_J192 at hP
  refine zV_aload_n dX1_noBy_192 rfl ?_
  refine zV_sg dX1_noBy_193 (fme_44 he) (sae_0 he) (by decide) fl_X1_91_1 rfl ?_
  refine zV_aload_n dX1_noBy_196 rfl ?_
  refine zV_dup dX1_noBy_197 (Nat.ne_of_beq_eq_false rfl) ?_
  refine zV_gf dX1_noBy_198 (sae_0 he) (by decide) fl_X1_191_1 rfl (ki := 45) rfl ?_
  refine zV_dup_x1 dX1_noBy_201 (Nat.ne_of_beq_eq_false rfl) (Nat.ne_of_beq_eq_false rfl) ?_
  refine zV_iconst dX1_noBy_202 ⟨by decide, by decide⟩ ?_
  refine zV_iadd dX1_noBy_203 ?_
  refine zV_pf dX1_noBy_204 (sae_0 he) (by decide) fl_X1_191_1 rfl rfl trivial (ki := 45) rfl (fun h21 e_h21 => ?_)
  have hP := hP h21 e_h21
  refine zV_iload dX1_noBy_207 rfl ?_
  obtain ⟨ob, hP⟩ := hP
  refine zV_ias dX1_noBy_209 (sae_24 he) ob (fun h22 e_h22 => ?_)
  have hP := hP h22 e_h22
  refine zV_aload_n dX1_noBy_210 rfl ?_
  refine zV_sg dX1_noBy_211 (fme_49 he) (sae_0 he) (by decide) fl_X1_103_1 rfl ?_
  refine zV_aload_n dX1_noBy_214 rfl ?_
  refine zV_dup dX1_noBy_215 (Nat.ne_of_beq_eq_false rfl) ?_
  refine zV_gf dX1_noBy_216 (sae_0 he) (by decide) fl_X1_278_1 rfl (ki := 50) rfl ?_
  refine zV_dup_x1 dX1_noBy_219 (Nat.ne_of_beq_eq_false rfl) (Nat.ne_of_beq_eq_false rfl) ?_
  refine zV_iconst dX1_noBy_220 ⟨by decide, by decide⟩ ?_
  refine zV_iadd dX1_noBy_221 ?_
  refine zV_pf dX1_noBy_222 (sae_0 he) (by decide) fl_X1_278_1 rfl rfl trivial (ki := 50) rfl (fun h23 e_h23 => ?_)
  have hP := hP h23 e_h23
  refine zV_iload dX1_noBy_225 rfl ?_
  refine zV_ineg dX1_noBy_227 ?_
  obtain ⟨ob, hP⟩ := hP
  refine zV_ias dX1_noBy_228 (sae_28 he) ob (fun h24 e_h24 => ?_)
  have hP := hP h24 e_h24
  refine zV_mask [true, true, true, true, false] (ls' := [zR e, zI y1, zU, zI y3, zU]) rfl ?_
  exact W_E_noBy_J229 e he _ _ _ _ _ H148 hP
def P_E_noBy_L148 (e : Int) (y1 : Int) (Q : Int → zH → Prop) : Nat → Int → zH → Prop
| 0, _, _ => False
| n148 + 1, y3, h =>
if zd h e 28 ≤ y3 then
(P_E_no e h (fun r18 h19 =>
Q r18 h19))
else
((0 ≤ y3 ∧ y3 < 20) ∧
∀ x4_20 : Int, x4_20 = (zd h (e + 21) y3) →
if x4_20 = y1 then
(P_E_noBy_J192 e y1 y3 x4_20 h Q (P_E_noBy_L148 e y1 Q n148))
else
((0 ≤ zabs x4_20 ∧ zabs x4_20 < 301) ∧
if zd h (e + 27) (zabs x4_20) = 0 then
(P_E_noBy_J229 e y1 y3 h Q (P_E_noBy_L148 e y1 Q n148))
else
(P_E_isTrue e x4_20 h (fun r26 h27 =>
if r26 = 0 then
(P_E_noBy_J229 e y1 y3 h27 Q (P_E_noBy_L148 e y1 Q n148))
else
(P_E_noBy_J192 e y1 y3 x4_20 h27 Q (P_E_noBy_L148 e y1 Q n148))))))
theorem W_E_noBy_L148 (e : Int) (he : zE e) (y1 : Int) (Q : Int → zH → Prop) : ∀ (n148 : Nat) (y3 : Int) (h : zH), P_E_noBy_L148 e y1 Q n148 y3 h → zV true zy_X1_noBy 6 148 [zR e, zI y1, zU, zI y3, zU] [] h (zQ0 Q) := by
  intro n148
  induction n148 with
  | zero => intro y3 h hP; exact absurd hP id
  | succ n148 ih =>
    intro y3 h hP
    unfold P_E_noBy_L148 at hP
    refine zV_iload_n dX1_noBy_148 rfl ?_
    refine zV_aload_n dX1_noBy_149 rfl ?_
    refine zV_gf dX1_noBy_150 (sae_0 he) (by decide) fl_X1_154_1 rfl (ki := 28) rfl ?_
    refine zV_icmp_ge (tgt := 235) dX1_noBy_153 (by decide) (fun c => ?_) (fun c => ?_)
    · have hP := zif_p hP c
      refine zV_aload_n dX1_noBy_235 rfl ?_
      refine zV_cVk (As := []) (rest := []) dX1_noBy_236 (sae_0 he) (W_E_no e he _ _ hP) mi_X1_no ml_X1_335 (by decide) (Nat.le_of_ble_eq_true rfl) rfl rfl rfl (fun r18 h19 hP => ?_)
      exact zV_ireturn dX1_noBy_239 rfl rfl rfl ⟨rfl, hP⟩
    · have hP := zif_n hP c
      refine zV_aload_n dX1_noBy_156 rfl ?_
      refine zV_sg dX1_noBy_157 (fme_27 he) (sae_0 he) (by decide) fl_X1_78_1 rfl ?_
      refine zV_iload_n dX1_noBy_160 rfl ?_
      obtain ⟨ob, hP⟩ := hP
      refine zV_ia dX1_noBy_161 (sae_21 he) ob ?_
      refine zV_top (fun x4_20 e_x4_20 => ?_)
      have hP := hP x4_20 e_x4_20
      refine zV_istore (ls' := [zR e, zI y1, zU, zI y3, zI x4_20]) dX1_noBy_162 (Nat.le_of_ble_eq_true rfl) rfl rfl ?_
      refine zV_iload dX1_noBy_164 rfl ?_
      refine zV_iload_n dX1_noBy_166 rfl ?_
      refine zV_icmp_eq (tgt := 192) dX1_noBy_167 (by decide) (fun c => ?_) (fun c => ?_)
      · have hP := zif_p hP c
        exact W_E_noBy_J192 e he _ _ _ _ _ _ ih hP
      · have hP := zif_n hP c
        refine zV_aload_n dX1_noBy_170 rfl ?_
        refine zV_sg dX1_noBy_171 (fme_48 he) (sae_0 he) (by decide) fl_X1_100_1 rfl ?_
        refine zV_iload dX1_noBy_174 rfl ?_
        refine zV_mabs dX1_noBy_176 q1546 q806 q171 q807 (Nat.le_of_ble_eq_true rfl) (by decide) ?_
        obtain ⟨ob, hP⟩ := hP
        refine zV_za dX1_noBy_179 (sae_27 he) ob ?_
        refine zV_if_eq (tgt := 229) dX1_noBy_180 (by decide) (fun c => ?_) (fun c => ?_)
        · have hP := zif_p hP c
          refine zV_mask [true, true, true, true, false] (ls' := [zR e, zI y1, zU, zI y3, zU]) rfl ?_
          exact W_E_noBy_J229 e he _ _ _ _ _ ih hP
        · have hP := zif_n hP c
          refine zV_aload_n dX1_noBy_183 rfl ?_
          refine zV_iload dX1_noBy_184 rfl ?_
          refine zV_cVk (As := [zI x4_20]) (rest := []) dX1_noBy_186 (sae_0 he) (W_E_isTrue e he _ _ _ hP) mi_X1_isTrue ml_X1_198 (by decide) (Nat.le_of_ble_eq_true rfl) rfl rfl rfl (fun r26 h27 hP => ?_)
          refine zV_if_eq (tgt := 229) dX1_noBy_189 (by decide) (fun c => ?_) (fun c => ?_)
          · have hP := zif_p hP c
            refine zV_mask [true, true, true, true, false] (ls' := [zR e, zI y1, zU, zI y3, zU]) rfl ?_
            exact W_E_noBy_J229 e he _ _ _ _ _ ih hP
          · have hP := zif_n hP c
            exact W_E_noBy_J192 e he _ _ _ _ _ _ ih hP
def P_E_noBy (e : Int) (a1 : Int) (h : zH) (Q : Int → zH → Prop) : Prop :=
P_E_beginSet e h (fun r1 h2 =>
∃ n6, P_E_noBy_L6 e a1 Q (fun h5 =>
∀ x2_6 : Int, x2_6 = (zabs a1) →
(0 ≤ x2_6 ∧ x2_6 < 301) ∧
∀ h7 : zH, h7 = zw h5 (e + 25) x2_6 (zbit 1) →
∀ x3_8 : Int, x3_8 = (w32 ((zd h7 e 20) - 1)) →
∃ n46, P_E_noBy_L46 e a1 Q (fun h16 =>
∀ h17 : zH, h17 = zw h16 e 45 0 →
∃ n148, P_E_noBy_L148 e a1 Q n148 0 h17) n46 x3_8 h7) n6 1 h2)
theorem W_E_noBy (e : Int) (he : zE e) (a1 : Int) (h : zH) (Q : Int → zH → Prop) (hP : P_E_noBy e a1 h Q) : zC true zy_X1_noBy 6 [zR e, zI a1] h (zQ0 Q) := by
  unfold P_E_noBy at hP
  refine zC.of (by decide) (Nat.le_of_ble_eq_true rfl) ?_
  show zV true zy_X1_noBy 6 0 [zR e, zI a1, zU, zU, zU] [] h (zQ0 Q)
  refine zV_aload_n dX1_noBy_0 rfl ?_
  refine zV_cVv (As := []) (rest := []) dX1_noBy_1 (sae_0 he) (W_E_beginSet e he _ _ hP) mi_X1_beginSet ml_X1_281 (by decide) (Nat.le_of_ble_eq_true rfl) rfl rfl (fun r1 h2 hP => ?_)
  refine zV_iconst dX1_noBy_4 ⟨by decide, by decide⟩ ?_
  refine zV_istore_n (ls' := [zR e, zI a1, zI 1, zU, zU]) dX1_noBy_5 rfl (Nat.le_of_ble_eq_true rfl) rfl rfl ?_
  obtain ⟨n6, hP⟩ := hP
  refine W_E_noBy_L6 e he _ _ _ (fun h5 hP => ?_) n6 _ _ hP
  refine zV_iload_n dX1_noBy_27 rfl ?_
  refine zV_mabs dX1_noBy_28 q1546 q806 q171 q807 (Nat.le_of_ble_eq_true rfl) (by decide) ?_
  refine zV_top (fun x2_6 e_x2_6 => ?_)
  have hP := hP x2_6 e_x2_6
  refine zV_istore_n (ls' := [zR e, zI a1, zI x2_6, zU, zU]) dX1_noBy_31 rfl (Nat.le_of_ble_eq_true rfl) rfl rfl ?_
  refine zV_aload_n dX1_noBy_32 rfl ?_
  refine zV_sg dX1_noBy_33 (fme_46 he) (sae_0 he) (by decide) fl_X1_94_1 rfl ?_
  refine zV_iload_n dX1_noBy_36 rfl ?_
  refine zV_iconst dX1_noBy_37 ⟨by decide, by decide⟩ ?_
  obtain ⟨ob, hP⟩ := hP
  refine zV_zas dX1_noBy_38 (sae_25 he) ob (fun h7 e_h7 => ?_)
  have hP := hP h7 e_h7
  refine zV_aload_n dX1_noBy_39 rfl ?_
  refine zV_gf dX1_noBy_40 (sae_0 he) (by decide) fl_X1_136_1 rfl (ki := 20) rfl ?_
  refine zV_iconst dX1_noBy_43 ⟨by decide, by decide⟩ ?_
  refine zV_isub dX1_noBy_44 ?_
  refine zV_top (fun x3_8 e_x3_8 => ?_)
  have hP := hP x3_8 e_x3_8
  refine zV_istore_n (ls' := [zR e, zI a1, zI x2_6, zI x3_8, zU]) dX1_noBy_45 rfl (Nat.le_of_ble_eq_true rfl) rfl rfl ?_
  obtain ⟨n46, hP⟩ := hP
  refine zV_mask [true, true, false, true, true] (ls' := [zR e, zI a1, zU, zI x3_8, zU]) rfl ?_
  refine W_E_noBy_L46 e he _ _ _ (fun h16 hP => ?_) n46 _ _ hP
  refine zV_aload_n dX1_noBy_141 rfl ?_
  refine zV_iconst dX1_noBy_142 ⟨by decide, by decide⟩ ?_
  refine zV_pf dX1_noBy_143 (sae_0 he) (by decide) fl_X1_191_1 rfl rfl trivial (ki := 45) rfl (fun h17 e_h17 => ?_)
  have hP := hP h17 e_h17
  refine zV_iconst dX1_noBy_146 ⟨by decide, by decide⟩ ?_
  refine zV_istore_n (ls' := [zR e, zI a1, zU, zI 0, zU]) dX1_noBy_147 rfl (Nat.le_of_ble_eq_true rfl) rfl rfl ?_
  obtain ⟨n148, hP⟩ := hP
  refine W_E_noBy_L148 e he _ _ n148 _ _ hP
def P_E_heaviest_J43 (e : Int) (y1 : Int) (y2 : Int) (h : zH) (Q : Int → zH → Prop) (k4 : Int → Int → zH → Prop) : Prop :=
∀ x2_1 : Int, x2_1 = w32 (y2 + 1) →
k4 y1 x2_1 h
theorem W_E_heaviest_J43 (e : Int) (he : zE e) (y1 : Int) (y2 : Int) (h : zH) (Q : Int → zH → Prop) (k4 : Int → Int → zH → Prop) (H4 : ∀ (v1 v2 : Int) (h' : zH), k4 v1 v2 h' → zV true zy_X1_heaviest 1 4 [zR e, zI v1, zI v2] [] h' (zQ0 Q)) (hP : P_E_heaviest_J43 e y1 y2 h Q k4) : zV true zy_X1_heaviest 1 43 [zR e, zI y1, zI y2] [] h (zQ0 Q) := by
  unfold P_E_heaviest_J43 at hP
  refine zV_inc (ls' := fun z => [zR e, zI y1, zI z]) dX1_heaviest_43 (Nat.le_of_ble_eq_true rfl) rfl rfl (fun _ => rfl) (fun x2_1 e_x2_1 => ?_)
  have hP := hP x2_1 e_x2_1
  refine zV_goto (tgt := 4) dX1_heaviest_46 (by decide) ?_
  exact H4 _ _ _ hP
def P_E_heaviest_J41 (e : Int) (y2 : Int) (h : zH) (Q : Int → zH → Prop) (k4 : Int → Int → zH → Prop) : Prop :=
P_E_heaviest_J43 e y2 y2 h Q k4
theorem W_E_heaviest_J41 (e : Int) (he : zE e) (y2 : Int) (h : zH) (Q : Int → zH → Prop) (k4 : Int → Int → zH → Prop) (H4 : ∀ (v1 v2 : Int) (h' : zH), k4 v1 v2 h' → zV true zy_X1_heaviest 1 4 [zR e, zI v1, zI v2] [] h' (zQ0 Q)) (hP : P_E_heaviest_J41 e y2 h Q k4) : zV true zy_X1_heaviest 1 41 [zR e, zU, zI y2] [] h (zQ0 Q) := by
  unfold P_E_heaviest_J41 at hP
  refine zV_iload_n dX1_heaviest_41 rfl ?_
  refine zV_istore_n (ls' := [zR e, zI y2, zI y2]) dX1_heaviest_42 rfl (Nat.le_of_ble_eq_true rfl) rfl rfl ?_
  exact W_E_heaviest_J43 e he _ _ _ _ _ H4 hP
def P_E_heaviest_L4 (e : Int) (Q : Int → zH → Prop) (k49 : Int → zH → Prop) : Nat → Int → Int → zH → Prop
| 0, _, _, _ => False
| n4 + 1, y1, y2, h =>
if zd h e 11 < y2 then
(k49 y1 h)
else
((0 ≤ y2 ∧ y2 < 301) ∧
if zd h (e + 11) y2 = 0 then
(if y1 = 0 then
(P_E_heaviest_J41 e y2 h Q (P_E_heaviest_L4 e Q k49 n4))
else
((0 ≤ y2 ∧ y2 < 301) ∧
(0 ≤ y1 ∧ y1 < 301) ∧
if zcmp (zd h (e + 15) y2) (zd h (e + 15) y1) ≤ 0 then
(P_E_heaviest_J43 e y1 y2 h Q (P_E_heaviest_L4 e Q k49 n4))
else
(P_E_heaviest_J41 e y2 h Q (P_E_heaviest_L4 e Q k49 n4))))
else
(P_E_heaviest_J43 e y1 y2 h Q (P_E_heaviest_L4 e Q k49 n4)))
theorem W_E_heaviest_L4 (e : Int) (he : zE e) (Q : Int → zH → Prop) (k49 : Int → zH → Prop) (H49 : ∀ (v1 : Int) (h' : zH), k49 v1 h' → zV true zy_X1_heaviest 1 49 [zR e, zI v1, zU] [] h' (zQ0 Q)) : ∀ (n4 : Nat) (y1 y2 : Int) (h : zH), P_E_heaviest_L4 e Q k49 n4 y1 y2 h → zV true zy_X1_heaviest 1 4 [zR e, zI y1, zI y2] [] h (zQ0 Q) := by
  intro n4
  induction n4 with
  | zero => intro y1 y2 h hP; exact absurd hP id
  | succ n4 ih =>
    intro y1 y2 h hP
    unfold P_E_heaviest_L4 at hP
    refine zV_iload_n dX1_heaviest_4 rfl ?_
    refine zV_aload_n dX1_heaviest_5 rfl ?_
    refine zV_gf dX1_heaviest_6 (sae_0 he) (by decide) fl_X1_121_1 rfl (ki := 11) rfl ?_
    refine zV_icmp_gt (tgt := 49) dX1_heaviest_9 (by decide) (fun c => ?_) (fun c => ?_)
    · have hP := zif_p hP c
      refine zV_mask [true, true, false] (ls' := [zR e, zI y1, zU]) rfl ?_
      exact H49 _ _ hP
    · have hP := zif_n hP c
      refine zV_aload_n dX1_heaviest_12 rfl ?_
      refine zV_sg dX1_heaviest_13 (fme_12 he) (sae_0 he) (by decide) fl_X1_48_1 rfl ?_
      refine zV_iload_n dX1_heaviest_16 rfl ?_
      obtain ⟨ob, hP⟩ := hP
      refine zV_ia dX1_heaviest_17 (sae_11 he) ob ?_
      refine zV_if_ne (tgt := 43) dX1_heaviest_18 (by decide) (fun c => ?_) (fun c => ?_)
      · have hP := zif_n hP c
        exact W_E_heaviest_J43 e he _ _ _ _ _ ih hP
      · have hP := zif_p hP c
        refine zV_iload_n dX1_heaviest_21 rfl ?_
        refine zV_if_eq (tgt := 41) dX1_heaviest_22 (by decide) (fun c => ?_) (fun c => ?_)
        · have hP := zif_p hP c
          refine zV_mask [true, false, true] (ls' := [zR e, zU, zI y2]) rfl ?_
          exact W_E_heaviest_J41 e he _ _ _ _ ih hP
        · have hP := zif_n hP c
          refine zV_aload_n dX1_heaviest_25 rfl ?_
          refine zV_sg dX1_heaviest_26 (fme_16 he) (sae_0 he) (by decide) fl_X1_60_1 rfl ?_
          refine zV_iload_n dX1_heaviest_29 rfl ?_
          obtain ⟨ob, hP⟩ := hP
          refine zV_la dX1_heaviest_30 (sae_15 he) ob ?_
          refine zV_aload_n dX1_heaviest_31 rfl ?_
          refine zV_sg dX1_heaviest_32 (fme_16 he) (sae_0 he) (by decide) fl_X1_60_1 rfl ?_
          refine zV_iload_n dX1_heaviest_35 rfl ?_
          obtain ⟨ob, hP⟩ := hP
          refine zV_la dX1_heaviest_36 (sae_15 he) ob ?_
          refine zV_lcmp dX1_heaviest_37 ?_
          refine zV_if_le (tgt := 43) dX1_heaviest_38 (by decide) (fun c => ?_) (fun c => ?_)
          · have hP := zif_p hP c
            exact W_E_heaviest_J43 e he _ _ _ _ _ ih hP
          · have hP := zif_n hP c
            refine zV_mask [true, false, true] (ls' := [zR e, zU, zI y2]) rfl ?_
            exact W_E_heaviest_J41 e he _ _ _ _ ih hP
def P_E_heaviest (e : Int) (h : zH) (Q : Int → zH → Prop) : Prop :=
∃ n4, P_E_heaviest_L4 e Q (fun u1_49 h2 =>
(if u1_49 = 0 then True else (0 ≤ u1_49 ∧ u1_49 < 301) ∧ True) ∧
Q (if u1_49 = 0 then 0 else if zd h2 (e + 14) u1_49 = 1 then u1_49 else w32 (-u1_49)) h2) n4 0 1 h
theorem W_E_heaviest (e : Int) (he : zE e) (h : zH) (Q : Int → zH → Prop) (hP : P_E_heaviest e  h Q) : zC true zy_X1_heaviest 1 [zR e] h (zQ0 Q) := by
  unfold P_E_heaviest at hP
  refine zC.of (by decide) (Nat.le_of_ble_eq_true rfl) ?_
  show zV true zy_X1_heaviest 1 0 [zR e, zU, zU] [] h (zQ0 Q)
  refine zV_iconst dX1_heaviest_0 ⟨by decide, by decide⟩ ?_
  refine zV_istore_n (ls' := [zR e, zI 0, zU]) dX1_heaviest_1 rfl (Nat.le_of_ble_eq_true rfl) rfl rfl ?_
  refine zV_iconst dX1_heaviest_2 ⟨by decide, by decide⟩ ?_
  refine zV_istore_n (ls' := [zR e, zI 0, zI 1]) dX1_heaviest_3 rfl (Nat.le_of_ble_eq_true rfl) rfl rfl ?_
  obtain ⟨n4, hP⟩ := hP
  refine W_E_heaviest_L4 e he _ _ (fun u1_49 h2 hP => ?_) n4 _ _ _ hP
  refine zV_iload_n dX1_heaviest_49 rfl ?_
  obtain ⟨hO, hP⟩ := hP
  have K : zV true zy_X1_heaviest 1 73 [zU, zU, zU] [zI (if u1_49 = 0 then 0 else if zd h2 (e + 14) u1_49 = 1 then u1_49 else w32 (-u1_49))] h2 (zQ0 Q) := by
    exact zV_ireturn dX1_heaviest_73 rfl rfl rfl ⟨rfl, hP⟩
  clear hP
  refine zV_if_ne (tgt := 57) dX1_heaviest_50 (by decide) (fun c => ?_) (fun c => ?_)
  · try simp only [if_neg c] at K
    have hO := zif_n hO c
    refine zV_aload_n dX1_heaviest_57 rfl ?_
    refine zV_sg dX1_heaviest_58 (fme_15 he) (sae_0 he) (by decide) fl_X1_57_1 rfl ?_
    refine zV_iload_n dX1_heaviest_61 rfl ?_
    obtain ⟨ob, hO⟩ := hO
    refine zV_ia dX1_heaviest_62 (sae_14 he) ob ?_
    refine zV_iconst dX1_heaviest_63 ⟨by decide, by decide⟩ ?_
    refine zV_icmp_ne (tgt := 71) dX1_heaviest_64 (by decide) (fun c => ?_) (fun c => ?_)
    · try simp only [if_neg c] at K
      refine zV_iload_n dX1_heaviest_71 rfl ?_
      refine zV_ineg dX1_heaviest_72 ?_
      refine zV_mask [false, false, false] rfl ?_
      exact K
    · try simp only [if_pos c] at K
      refine zV_iload_n dX1_heaviest_67 rfl ?_
      refine zV_goto (tgt := 73) dX1_heaviest_68 (by decide) ?_
      refine zV_mask [false, false, false] rfl ?_
      exact K
  · try simp only [if_pos c] at K
    have hO := zif_p hO c
    refine zV_iconst dX1_heaviest_53 ⟨by decide, by decide⟩ ?_
    refine zV_goto (tgt := 73) dX1_heaviest_54 (by decide) ?_
    refine zV_mask [false, false, false] rfl ?_
    exact K
def P_E_up (e : Int) (h : zH) (Q : Int → zH → Prop) : Prop :=
∀ h1 : zH, h1 = zw h e 21 (w32 ((zd h e 21) + 1)) →
(0 ≤ zd h1 e 21 ∧ zd h1 e 21 < 322) ∧
∀ h2 : zH, h2 = zw h1 (e + 18) (zd h1 e 21) (zd h1 e 20) →
∀ h3 : zH, h3 = zw h2 e 38 (zmax (zd h2 e 38) (zd h2 e 21)) →
Q 0 h3
theorem W_E_up (e : Int) (he : zE e) (h : zH) (Q : Int → zH → Prop) (hP : P_E_up e  h Q) : zC true zy_X1_up 2 [zR e] h (zQ0 Q) := by
  unfold P_E_up at hP
  refine zC.of (by decide) (Nat.le_of_ble_eq_true rfl) ?_
  show zV true zy_X1_up 2 0 [zR e] [] h (zQ0 Q)
  refine zV_aload_n dX1_up_0 rfl ?_
  refine zV_dup dX1_up_1 (Nat.ne_of_beq_eq_false rfl) ?_
  refine zV_gf dX1_up_2 (sae_0 he) (by decide) fl_X1_139_1 rfl (ki := 21) rfl ?_
  refine zV_iconst dX1_up_5 ⟨by decide, by decide⟩ ?_
  refine zV_iadd dX1_up_6 ?_
  refine zV_pf dX1_up_7 (sae_0 he) (by decide) fl_X1_139_1 rfl rfl trivial (ki := 21) rfl (fun h1 e_h1 => ?_)
  have hP := hP h1 e_h1
  refine zV_aload_n dX1_up_10 rfl ?_
  refine zV_sg dX1_up_11 (fme_19 he) (sae_0 he) (by decide) fl_X1_69_1 rfl ?_
  refine zV_aload_n dX1_up_14 rfl ?_
  refine zV_gf dX1_up_15 (sae_0 he) (by decide) fl_X1_139_1 rfl (ki := 21) rfl ?_
  refine zV_aload_n dX1_up_18 rfl ?_
  refine zV_gf dX1_up_19 (sae_0 he) (by decide) fl_X1_136_1 rfl (ki := 20) rfl ?_
  obtain ⟨ob, hP⟩ := hP
  refine zV_ias dX1_up_22 (sae_18 he) ob (fun h2 e_h2 => ?_)
  have hP := hP h2 e_h2
  refine zV_aload_n dX1_up_23 rfl ?_
  refine zV_aload_n dX1_up_24 rfl ?_
  refine zV_gf dX1_up_25 (sae_0 he) (by decide) fl_X1_178_1 rfl (ki := 38) rfl ?_
  refine zV_aload_n dX1_up_28 rfl ?_
  refine zV_gf dX1_up_29 (sae_0 he) (by decide) fl_X1_139_1 rfl (ki := 21) rfl ?_
  refine zV_mmax dX1_up_32 q1666 q1667 q171 q1668 (Nat.le_of_ble_eq_true rfl) (by decide) ?_
  refine zV_pf dX1_up_35 (sae_0 he) (by decide) fl_X1_178_1 rfl rfl trivial (ki := 38) rfl (fun h3 e_h3 => ?_)
  have hP := hP h3 e_h3
  exact zV_return dX1_up_38 rfl ⟨rfl, hP⟩
def P_E_search_J270 (e : Int) (y2 : Int) (s0 : Int) (h : zH) (Q : Int → zH → Prop) (k277 : zH → Prop) (k323 : zH → Prop) (k9 : zH → Prop) : Prop :=
if s0 = 0 then
(k277 h)
else
(if zd h e 31 = 0 then
(k323 h)
else
(P_E_step e h (fun r8 h9 =>
∀ h10 : zH, h10 = zw h9 e 33 (w32 ((zd h9 e 33) + 1)) →
P_E_up e h10 (fun r11 h12 =>
P_E_set e s0 (-1005) h12 (fun r13 h14 =>
k9 h14)))))
theorem W_E_search_J270 (e : Int) (he : zE e) (y2 : Int) (s0 : Int) (h : zH) (Q : Int → zH → Prop) (k277 : zH → Prop) (k323 : zH → Prop) (k9 : zH → Prop) (H277 : ∀ (h' : zH), k277 h' → zV true zy_X1_search 7 277 [zR e, zU, zU, zU, zU, zU, zU, zU] [] h' (zQ0 Q)) (H323 : ∀ (h' : zH), k323 h' → zV true zy_X1_search 7 323 [zR e, zU, zI y2, zU, zU, zU, zU, zU] [] h' (zQ0 Q)) (H9 : ∀ (h' : zH), k9 h' → zV true zy_X1_search 7 9 [zR e, zU, zI y2, zU, zU, zU, zU, zU] [] h' (zQ0 Q)) (hP : P_E_search_J270 e y2 s0 h Q k277 k323 k9) : zV true zy_X1_search 7 270 [zR e, zU, zI y2, zU, zU, zU, zU, zU] [zI s0] h (zQ0 Q) := by
  unfold P_E_search_J270 at hP
  refine zV_istore (ls' := [zR e, zU, zI y2, zU, zU, zI s0, zU, zU]) dX1_search_270 (Nat.le_of_ble_eq_true rfl) rfl rfl ?_
  refine zV_iload dX1_search_272 rfl ?_
  refine zV_if_ne (tgt := 316) dX1_search_274 (by decide) (fun c => ?_) (fun c => ?_)
  · have hP := zif_n hP c
    refine zV_aload_n dX1_search_316 rfl ?_
    refine zV_gf dX1_search_317 (sae_0 he) (by decide) fl_X1_260_1 rfl (ki := 31) rfl ?_
    refine zV_if_ne (tgt := 360) dX1_search_320 (by decide) (fun c => ?_) (fun c => ?_)
    · have hP := zif_n hP c
      refine zV_aload_n dX1_search_360 rfl ?_
      refine zV_cVv (As := []) (rest := []) dX1_search_361 (sae_0 he) (W_E_step e he _ _ hP) mi_X1_step ml_X1_263 (by decide) (Nat.le_of_ble_eq_true rfl) rfl rfl (fun r8 h9 hP => ?_)
      refine zV_aload_n dX1_search_364 rfl ?_
      refine zV_dup dX1_search_365 (Nat.ne_of_beq_eq_false rfl) ?_
      refine zV_gf dX1_search_366 (sae_0 he) (by decide) fl_X1_163_1 rfl (ki := 33) rfl ?_
      refine zV_iconst dX1_search_369 ⟨by decide, by decide⟩ ?_
      refine zV_iadd dX1_search_370 ?_
      refine zV_pf dX1_search_371 (sae_0 he) (by decide) fl_X1_163_1 rfl rfl trivial (ki := 33) rfl (fun h10 e_h10 => ?_)
      have hP := hP h10 e_h10
      refine zV_aload_n dX1_search_374 rfl ?_
      refine zV_cVv (As := []) (rest := []) dX1_search_375 (sae_0 he) (W_E_up e he _ _ hP) mi_X1_up ml_X1_362 (by decide) (Nat.le_of_ble_eq_true rfl) rfl rfl (fun r11 h12 hP => ?_)
      refine zV_aload_n dX1_search_378 rfl ?_
      refine zV_iload dX1_search_379 rfl ?_
      refine zV_sipush dX1_search_381 ⟨by decide, by decide, by decide⟩ ?_
      refine zV_cVv (As := [zI s0, zI (-1005)]) (rest := []) dX1_search_384 (sae_0 he) (W_E_set e he _ _ _ _ hP) mi_X1_set ml_X1_269 (by decide) (Nat.le_of_ble_eq_true rfl) rfl rfl (fun r13 h14 hP => ?_)
      refine zV_goto (tgt := 9) dX1_search_387 (by decide) ?_
      refine zV_mask [true, true, true, true, true, false, true, true] (ls' := [zR e, zU, zI y2, zU, zU, zU, zU, zU]) rfl ?_
      exact H9 _ hP
    · have hP := zif_p hP c
      refine zV_mask [true, true, true, true, true, false, true, true] (ls' := [zR e, zU, zI y2, zU, zU, zU, zU, zU]) rfl ?_
      exact H323 _ hP
  · have hP := zif_p hP c
    refine zV_mask [true, true, false, true, true, false, true, true] (ls' := [zR e, zU, zU, zU, zU, zU, zU, zU]) rfl ?_
    exact H277 _ hP
def P_E_search_J256 (e : Int) (y2 : Int) (y4 : Int) (h : zH) (Q : Int → zH → Prop) (k277 : zH → Prop) (k323 : zH → Prop) (k9 : zH → Prop) : Prop :=
if y4 = 0 then
(P_E_heaviest e h (fun r6 h7 =>
P_E_search_J270 e y2 r6 h7 Q k277 k323 k9))
else
(P_E_search_J270 e y2 y4 h Q k277 k323 k9)
theorem W_E_search_J256 (e : Int) (he : zE e) (y2 : Int) (y4 : Int) (h : zH) (Q : Int → zH → Prop) (k277 : zH → Prop) (k323 : zH → Prop) (k9 : zH → Prop) (H277 : ∀ (h' : zH), k277 h' → zV true zy_X1_search 7 277 [zR e, zU, zU, zU, zU, zU, zU, zU] [] h' (zQ0 Q)) (H323 : ∀ (h' : zH), k323 h' → zV true zy_X1_search 7 323 [zR e, zU, zI y2, zU, zU, zU, zU, zU] [] h' (zQ0 Q)) (H9 : ∀ (h' : zH), k9 h' → zV true zy_X1_search 7 9 [zR e, zU, zI y2, zU, zU, zU, zU, zU] [] h' (zQ0 Q)) (hP : P_E_search_J256 e y2 y4 h Q k277 k323 k9) : zV true zy_X1_search 7 256 [zR e, zU, zI y2, zU, zI y4, zU, zU, zU] [] h (zQ0 Q) := by
  unfold P_E_search_J256 at hP
  refine zV_iload dX1_search_256 rfl ?_
  refine zV_if_eq (tgt := 266) dX1_search_258 (by decide) (fun c => ?_) (fun c => ?_)
  · have hP := zif_p hP c
    refine zV_aload_n dX1_search_266 rfl ?_
    refine zV_cVk (As := []) (rest := []) dX1_search_267 (sae_0 he) (W_E_heaviest e he _ _ hP) mi_X1_heaviest ml_X1_359 (by decide) (Nat.le_of_ble_eq_true rfl) rfl rfl rfl (fun r6 h7 hP => ?_)
    refine zV_mask [true, true, true, true, false, true, true, true] (ls' := [zR e, zU, zI y2, zU, zU, zU, zU, zU]) rfl ?_
    exact W_E_search_J270 e he _ _ _ _ _ _ _ H277 H323 H9 hP
  · have hP := zif_n hP c
    refine zV_iload dX1_search_261 rfl ?_
    refine zV_goto (tgt := 270) dX1_search_263 (by decide) ?_
    refine zV_mask [true, true, true, true, false, true, true, true] (ls' := [zR e, zU, zI y2, zU, zU, zU, zU, zU]) rfl ?_
    exact W_E_search_J270 e he _ _ _ _ _ _ _ H277 H323 H9 hP
def P_E_search_J136 (e : Int) (y2 : Int) (y3 : Int) (h : zH) (Q : Int → zH → Prop) (k151 : zH → Prop) (k212 : Int → zH → Prop) (k277 : zH → Prop) (k323 : zH → Prop) (k9 : zH → Prop) : Prop :=
if y3 = (-1005) then
(P_E_firstAssumed e h (fun r4 h5 =>
if r4 = 0 then
(P_E_search_J256 e y2 r4 h5 Q k277 k323 k9)
else
(P_E_isOpen e r4 h5 (fun r15 h16 =>
if r15 = 0 then
(k212 r4 h16)
else
(P_E_search_J256 e y2 r4 h16 Q k277 k323 k9)))))
else
(P_E_learns e y3 h (fun r17 h18 =>
if r17 = 0 then
(k151 h18)
else
(k9 h18)))
theorem W_E_search_J136 (e : Int) (he : zE e) (y2 : Int) (y3 : Int) (h : zH) (Q : Int → zH → Prop) (k151 : zH → Prop) (k212 : Int → zH → Prop) (k277 : zH → Prop) (k323 : zH → Prop) (k9 : zH → Prop) (H151 : ∀ (h' : zH), k151 h' → zV true zy_X1_search 7 151 [zR e, zU, zU, zU, zU, zU, zU, zU] [] h' (zQ0 Q)) (H212 : ∀ (v4 : Int) (h' : zH), k212 v4 h' → zV true zy_X1_search 7 212 [zR e, zU, zU, zU, zI v4, zU, zU, zU] [] h' (zQ0 Q)) (H277 : ∀ (h' : zH), k277 h' → zV true zy_X1_search 7 277 [zR e, zU, zU, zU, zU, zU, zU, zU] [] h' (zQ0 Q)) (H323 : ∀ (h' : zH), k323 h' → zV true zy_X1_search 7 323 [zR e, zU, zI y2, zU, zU, zU, zU, zU] [] h' (zQ0 Q)) (H9 : ∀ (h' : zH), k9 h' → zV true zy_X1_search 7 9 [zR e, zU, zI y2, zU, zU, zU, zU, zU] [] h' (zQ0 Q)) (hP : P_E_search_J136 e y2 y3 h Q k151 k212 k277 k323 k9) : zV true zy_X1_search 7 136 [zR e, zU, zI y2, zI y3, zU, zU, zU, zU] [] h (zQ0 Q) := by
  unfold P_E_search_J136 at hP
  refine zV_iload_n dX1_search_136 rfl ?_
  refine zV_sipush dX1_search_137 ⟨by decide, by decide, by decide⟩ ?_
  refine zV_icmp_eq (tgt := 192) dX1_search_140 (by decide) (fun c => ?_) (fun c => ?_)
  · have hP := zif_p hP c
    refine zV_aload_n dX1_search_192 rfl ?_
    refine zV_cVk (As := []) (rest := []) dX1_search_193 (sae_0 he) (W_E_firstAssumed e he _ _ hP) mi_X1_firstAssumed ml_X1_353 (by decide) (Nat.le_of_ble_eq_true rfl) rfl rfl rfl (fun r4 h5 hP => ?_)
    refine zV_istore (ls' := [zR e, zU, zI y2, zI y3, zI r4, zU, zU, zU]) dX1_search_196 (Nat.le_of_ble_eq_true rfl) rfl rfl ?_
    refine zV_iload dX1_search_198 rfl ?_
    refine zV_if_eq (tgt := 256) dX1_search_200 (by decide) (fun c => ?_) (fun c => ?_)
    · have hP := zif_p hP c
      refine zV_mask [true, true, true, false, true, true, true, true] (ls' := [zR e, zU, zI y2, zU, zI r4, zU, zU, zU]) rfl ?_
      exact W_E_search_J256 e he _ _ _ _ _ _ _ H277 H323 H9 hP
    · have hP := zif_n hP c
      refine zV_aload_n dX1_search_203 rfl ?_
      refine zV_iload dX1_search_204 rfl ?_
      refine zV_cVk (As := [zI r4]) (rest := []) dX1_search_206 (sae_0 he) (W_E_isOpen e he _ _ _ hP) mi_X1_isOpen ml_X1_250 (by decide) (Nat.le_of_ble_eq_true rfl) rfl rfl rfl (fun r15 h16 hP => ?_)
      refine zV_if_ne (tgt := 256) dX1_search_209 (by decide) (fun c => ?_) (fun c => ?_)
      · have hP := zif_n hP c
        refine zV_mask [true, true, true, false, true, true, true, true] (ls' := [zR e, zU, zI y2, zU, zI r4, zU, zU, zU]) rfl ?_
        exact W_E_search_J256 e he _ _ _ _ _ _ _ H277 H323 H9 hP
      · have hP := zif_p hP c
        refine zV_mask [true, true, false, false, true, true, true, true] (ls' := [zR e, zU, zU, zU, zI r4, zU, zU, zU]) rfl ?_
        exact H212 _ _ hP
  · have hP := zif_n hP c
    refine zV_aload_n dX1_search_143 rfl ?_
    refine zV_iload_n dX1_search_144 rfl ?_
    refine zV_cVk (As := [zI y3]) (rest := []) dX1_search_145 (sae_0 he) (W_E_learns e he _ _ _ hP) mi_X1_learns ml_X1_350 (by decide) (Nat.le_of_ble_eq_true rfl) rfl rfl rfl (fun r17 h18 hP => ?_)
    refine zV_if_ne (tgt := 9) dX1_search_148 (by decide) (fun c => ?_) (fun c => ?_)
    · have hP := zif_n hP c
      refine zV_mask [true, true, true, false, true, true, true, true] (ls' := [zR e, zU, zI y2, zU, zU, zU, zU, zU]) rfl ?_
      exact H9 _ hP
    · have hP := zif_p hP c
      refine zV_mask [true, true, false, false, true, true, true, true] (ls' := [zR e, zU, zU, zU, zU, zU, zU, zU]) rfl ?_
      exact H151 _ hP
def P_E_search_J79 (e : Int) (y2 : Int) (y3 : Int) (h : zH) (Q : Int → zH → Prop) (k93 : Int → zH → Prop) (k151 : zH → Prop) (k212 : Int → zH → Prop) (k277 : zH → Prop) (k323 : zH → Prop) (k9 : zH → Prop) : Prop :=
if y3 = (-1005) then
(P_E_search_J136 e y2 y3 h Q k151 k212 k277 k323 k9)
else
(if zd h e 21 = 0 then
(k93 y3 h)
else
(P_E_search_J136 e y2 y3 h Q k151 k212 k277 k323 k9))
theorem W_E_search_J79 (e : Int) (he : zE e) (y2 : Int) (y3 : Int) (h : zH) (Q : Int → zH → Prop) (k93 : Int → zH → Prop) (k151 : zH → Prop) (k212 : Int → zH → Prop) (k277 : zH → Prop) (k323 : zH → Prop) (k9 : zH → Prop) (H93 : ∀ (v3 : Int) (h' : zH), k93 v3 h' → zV true zy_X1_search 7 93 [zR e, zU, zU, zI v3, zU, zU, zU, zU] [] h' (zQ0 Q)) (H151 : ∀ (h' : zH), k151 h' → zV true zy_X1_search 7 151 [zR e, zU, zU, zU, zU, zU, zU, zU] [] h' (zQ0 Q)) (H212 : ∀ (v4 : Int) (h' : zH), k212 v4 h' → zV true zy_X1_search 7 212 [zR e, zU, zU, zU, zI v4, zU, zU, zU] [] h' (zQ0 Q)) (H277 : ∀ (h' : zH), k277 h' → zV true zy_X1_search 7 277 [zR e, zU, zU, zU, zU, zU, zU, zU] [] h' (zQ0 Q)) (H323 : ∀ (h' : zH), k323 h' → zV true zy_X1_search 7 323 [zR e, zU, zI y2, zU, zU, zU, zU, zU] [] h' (zQ0 Q)) (H9 : ∀ (h' : zH), k9 h' → zV true zy_X1_search 7 9 [zR e, zU, zI y2, zU, zU, zU, zU, zU] [] h' (zQ0 Q)) (hP : P_E_search_J79 e y2 y3 h Q k93 k151 k212 k277 k323 k9) : zV true zy_X1_search 7 79 [zR e, zU, zI y2, zI y3, zU, zU, zU, zU] [] h (zQ0 Q) := by
  unfold P_E_search_J79 at hP
  refine zV_iload_n dX1_search_79 rfl ?_
  refine zV_sipush dX1_search_80 ⟨by decide, by decide, by decide⟩ ?_
  refine zV_icmp_eq (tgt := 136) dX1_search_83 (by decide) (fun c => ?_) (fun c => ?_)
  · have hP := zif_p hP c
    exact W_E_search_J136 e he _ _ _ _ _ _ _ _ _ H151 H212 H277 H323 H9 hP
  · have hP := zif_n hP c
    refine zV_aload_n dX1_search_86 rfl ?_
    refine zV_gf dX1_search_87 (sae_0 he) (by decide) fl_X1_139_1 rfl (ki := 21) rfl ?_
    refine zV_if_ne (tgt := 136) dX1_search_90 (by decide) (fun c => ?_) (fun c => ?_)
    · have hP := zif_n hP c
      exact W_E_search_J136 e he _ _ _ _ _ _ _ _ _ H151 H212 H277 H323 H9 hP
    · have hP := zif_p hP c
      refine zV_mask [true, true, false, true, true, true, true, true] (ls' := [zR e, zU, zU, zI y3, zU, zU, zU, zU]) rfl ?_
      exact H93 _ _ hP
def P_E_search_L9 (e : Int) (y2 : Int) (Q : Int → zH → Prop) (k42 : zH → Prop) (k93 : Int → zH → Prop) (k151 : zH → Prop) (k212 : Int → zH → Prop) (k277 : zH → Prop) (k323 : zH → Prop) : Nat → zH → Prop
| 0, _ => False
| n9 + 1, h =>
P_E_force e h (fun r2 h3 =>
if r2 = (-1004) then
(k42 h3)
else
(if r2 = (-1005) then
(P_E_search_J79 e y2 r2 h3 Q k93 k151 k212 k277 k323 (P_E_search_L9 e y2 Q k42 k93 k151 k212 k277 k323 n9))
else
(if zd h3 e 21 ≤ 0 then
(P_E_search_J79 e y2 r2 h3 Q k93 k151 k212 k277 k323 (P_E_search_L9 e y2 Q k42 k93 k151 k212 k277 k323 n9))
else
(if zd h3 e 31 = 0 then
(k42 h3)
else
(P_E_search_J79 e y2 r2 h3 Q k93 k151 k212 k277 k323 (P_E_search_L9 e y2 Q k42 k93 k151 k212 k277 k323 n9))))))
theorem W_E_search_L9 (e : Int) (he : zE e) (y2 : Int) (Q : Int → zH → Prop) (k42 : zH → Prop) (k93 : Int → zH → Prop) (k151 : zH → Prop) (k212 : Int → zH → Prop) (k277 : zH → Prop) (k323 : zH → Prop) (H42 : ∀ (h' : zH), k42 h' → zV true zy_X1_search 7 42 [zR e, zU, zI y2, zU, zU, zU, zU, zU] [] h' (zQ0 Q)) (H93 : ∀ (v3 : Int) (h' : zH), k93 v3 h' → zV true zy_X1_search 7 93 [zR e, zU, zU, zI v3, zU, zU, zU, zU] [] h' (zQ0 Q)) (H151 : ∀ (h' : zH), k151 h' → zV true zy_X1_search 7 151 [zR e, zU, zU, zU, zU, zU, zU, zU] [] h' (zQ0 Q)) (H212 : ∀ (v4 : Int) (h' : zH), k212 v4 h' → zV true zy_X1_search 7 212 [zR e, zU, zU, zU, zI v4, zU, zU, zU] [] h' (zQ0 Q)) (H277 : ∀ (h' : zH), k277 h' → zV true zy_X1_search 7 277 [zR e, zU, zU, zU, zU, zU, zU, zU] [] h' (zQ0 Q)) (H323 : ∀ (h' : zH), k323 h' → zV true zy_X1_search 7 323 [zR e, zU, zI y2, zU, zU, zU, zU, zU] [] h' (zQ0 Q)) : ∀ (n9 : Nat) (h : zH), P_E_search_L9 e y2 Q k42 k93 k151 k212 k277 k323 n9 h → zV true zy_X1_search 7 9 [zR e, zU, zI y2, zU, zU, zU, zU, zU] [] h (zQ0 Q) := by
  intro n9
  induction n9 with
  | zero => intro h hP; exact absurd hP id
  | succ n9 ih =>
    intro h hP
    unfold P_E_search_L9 at hP
    refine zV_aload_n dX1_search_9 rfl ?_
    refine zV_cVk (As := []) (rest := []) dX1_search_10 (sae_0 he) (W_E_force e he _ _ hP) mi_X1_force ml_X1_341 (by decide) (Nat.le_of_ble_eq_true rfl) rfl rfl rfl (fun r2 h3 hP => ?_)
    refine zV_istore_n (ls' := [zR e, zU, zI y2, zI r2, zU, zU, zU, zU]) dX1_search_13 rfl (Nat.le_of_ble_eq_true rfl) rfl rfl ?_
    refine zV_iload_n dX1_search_14 rfl ?_
    refine zV_sipush dX1_search_15 ⟨by decide, by decide, by decide⟩ ?_
    refine zV_icmp_eq (tgt := 42) dX1_search_18 (by decide) (fun c => ?_) (fun c => ?_)
    · have hP := zif_p hP c
      refine zV_mask [true, true, true, false, true, true, true, true] (ls' := [zR e, zU, zI y2, zU, zU, zU, zU, zU]) rfl ?_
      exact H42 _ hP
    · have hP := zif_n hP c
      refine zV_iload_n dX1_search_21 rfl ?_
      refine zV_sipush dX1_search_22 ⟨by decide, by decide, by decide⟩ ?_
      refine zV_icmp_eq (tgt := 79) dX1_search_25 (by decide) (fun c => ?_) (fun c => ?_)
      · have hP := zif_p hP c
        exact W_E_search_J79 e he _ _ _ _ _ _ _ _ _ _ H93 H151 H212 H277 H323 ih hP
      · have hP := zif_n hP c
        refine zV_aload_n dX1_search_28 rfl ?_
        refine zV_gf dX1_search_29 (sae_0 he) (by decide) fl_X1_139_1 rfl (ki := 21) rfl ?_
        refine zV_if_le (tgt := 79) dX1_search_32 (by decide) (fun c => ?_) (fun c => ?_)
        · have hP := zif_p hP c
          exact W_E_search_J79 e he _ _ _ _ _ _ _ _ _ _ H93 H151 H212 H277 H323 ih hP
        · have hP := zif_n hP c
          refine zV_aload_n dX1_search_35 rfl ?_
          refine zV_gf dX1_search_36 (sae_0 he) (by decide) fl_X1_260_1 rfl (ki := 31) rfl ?_
          refine zV_if_ne (tgt := 79) dX1_search_39 (by decide) (fun c => ?_) (fun c => ?_)
          · have hP := zif_n hP c
            exact W_E_search_J79 e he _ _ _ _ _ _ _ _ _ _ H93 H151 H212 H277 H323 ih hP
          · have hP := zif_p hP c
            refine zV_mask [true, true, true, false, true, true, true, true] (ls' := [zR e, zU, zI y2, zU, zU, zU, zU, zU]) rfl ?_
            exact H42 _ hP
def P_E_search_J59 (e : Int) (y2 : Int) (y4 : Int) (h : zH) (Q : Int → zH → Prop) : Prop :=
if y2 = (-1004) then
(Q y4 h)
else
(P_E_back e (-1) h (fun r21 h22 =>
∀ h23 : zH, h23 = zw h22 e 21 0 →
Q y4 h23))
theorem W_E_search_J59 (e : Int) (he : zE e) (y2 : Int) (y4 : Int) (h : zH) (Q : Int → zH → Prop) (hP : P_E_search_J59 e y2 y4 h Q) : zV true zy_X1_search 7 59 [zR e, zU, zI y2, zU, zI y4, zU, zU, zU] [] h (zQ0 Q) := by
  unfold P_E_search_J59 at hP
  refine zV_iload_n dX1_search_59 rfl ?_
  refine zV_sipush dX1_search_60 ⟨by decide, by decide, by decide⟩ ?_
  refine zV_icmp_eq (tgt := 76) dX1_search_63 (by decide) (fun c => ?_) (fun c => ?_)
  · have hP := zif_p hP c
    refine zV_iload dX1_search_76 rfl ?_
    exact zV_ireturn dX1_search_78 rfl rfl rfl ⟨rfl, hP⟩
  · have hP := zif_n hP c
    refine zV_aload_n dX1_search_66 rfl ?_
    refine zV_iconst dX1_search_67 ⟨by decide, by decide⟩ ?_
    refine zV_cVv (As := [zI (-1)]) (rest := []) dX1_search_68 (sae_0 he) (W_E_back e he _ _ _ hP) mi_X1_back ml_X1_312 (by decide) (Nat.le_of_ble_eq_true rfl) rfl rfl (fun r21 h22 hP => ?_)
    refine zV_aload_n dX1_search_71 rfl ?_
    refine zV_iconst dX1_search_72 ⟨by decide, by decide⟩ ?_
    refine zV_pf dX1_search_73 (sae_0 he) (by decide) fl_X1_139_1 rfl rfl trivial (ki := 21) rfl (fun h23 e_h23 => ?_)
    have hP := hP h23 e_h23
    refine zV_iload dX1_search_76 rfl ?_
    exact zV_ireturn dX1_search_78 rfl rfl rfl ⟨rfl, hP⟩
def P_E_search_J42 (e : Int) (y2 : Int) (h : zH) (Q : Int → zH → Prop) : Prop :=
∀ h20 : zH, h20 = zw h e 29 y2 →
if y2 = 1 then
(P_E_keepTruth e h20 (fun r24 h25 =>
P_E_search_J59 e y2 y2 h25 Q))
else
(P_E_search_J59 e y2 y2 h20 Q)
theorem W_E_search_J42 (e : Int) (he : zE e) (y2 : Int) (h : zH) (Q : Int → zH → Prop) (hP : P_E_search_J42 e y2 h Q) : zV true zy_X1_search 7 42 [zR e, zU, zI y2, zU, zU, zU, zU, zU] [] h (zQ0 Q) := by
  unfold P_E_search_J42 at hP
  refine zV_iload_n dX1_search_42 rfl ?_
  refine zV_istore (ls' := [zR e, zU, zI y2, zU, zI y2, zU, zU, zU]) dX1_search_43 (Nat.le_of_ble_eq_true rfl) rfl rfl ?_
  refine zV_aload_n dX1_search_45 rfl ?_
  refine zV_iload_n dX1_search_46 rfl ?_
  refine zV_pf dX1_search_47 (sae_0 he) (by decide) fl_X1_81_1 rfl rfl trivial (ki := 29) rfl (fun h20 e_h20 => ?_)
  have hP := hP h20 e_h20
  refine zV_iload_n dX1_search_50 rfl ?_
  refine zV_iconst dX1_search_51 ⟨by decide, by decide⟩ ?_
  refine zV_icmp_ne (tgt := 59) dX1_search_52 (by decide) (fun c => ?_) (fun c => ?_)
  · have hP := zif_n hP c
    exact W_E_search_J59 e he _ _ _ _ hP
  · have hP := zif_p hP c
    refine zV_aload_n dX1_search_55 rfl ?_
    refine zV_cVv (As := []) (rest := []) dX1_search_56 (sae_0 he) (W_E_keepTruth e he _ _ hP) mi_X1_keepTruth ml_X1_344 (by decide) (Nat.le_of_ble_eq_true rfl) rfl rfl (fun r24 h25 hP => ?_)
    exact W_E_search_J59 e he _ _ _ _ hP
def P_E_search_J116 (e : Int) (y2 : Int) (y4 : Int) (h : zH) (Q : Int → zH → Prop) : Prop :=
if y2 = (-1004) then
(Q y4 h)
else
(P_E_back e (-1) h (fun r30 h31 =>
∀ h32 : zH, h32 = zw h31 e 21 0 →
Q y4 h32))
theorem W_E_search_J116 (e : Int) (he : zE e) (y2 : Int) (y4 : Int) (h : zH) (Q : Int → zH → Prop) (hP : P_E_search_J116 e y2 y4 h Q) : zV true zy_X1_search 7 116 [zR e, zU, zI y2, zU, zI y4, zU, zU, zU] [] h (zQ0 Q) := by
  unfold P_E_search_J116 at hP
  refine zV_iload_n dX1_search_116 rfl ?_
  refine zV_sipush dX1_search_117 ⟨by decide, by decide, by decide⟩ ?_
  refine zV_icmp_eq (tgt := 133) dX1_search_120 (by decide) (fun c => ?_) (fun c => ?_)
  · have hP := zif_p hP c
    refine zV_iload dX1_search_133 rfl ?_
    exact zV_ireturn dX1_search_135 rfl rfl rfl ⟨rfl, hP⟩
  · have hP := zif_n hP c
    refine zV_aload_n dX1_search_123 rfl ?_
    refine zV_iconst dX1_search_124 ⟨by decide, by decide⟩ ?_
    refine zV_cVv (As := [zI (-1)]) (rest := []) dX1_search_125 (sae_0 he) (W_E_back e he _ _ _ hP) mi_X1_back ml_X1_312 (by decide) (Nat.le_of_ble_eq_true rfl) rfl rfl (fun r30 h31 hP => ?_)
    refine zV_aload_n dX1_search_128 rfl ?_
    refine zV_iconst dX1_search_129 ⟨by decide, by decide⟩ ?_
    refine zV_pf dX1_search_130 (sae_0 he) (by decide) fl_X1_139_1 rfl rfl trivial (ki := 21) rfl (fun h32 e_h32 => ?_)
    have hP := hP h32 e_h32
    refine zV_iload dX1_search_133 rfl ?_
    exact zV_ireturn dX1_search_135 rfl rfl rfl ⟨rfl, hP⟩
def P_E_search_J172 (e : Int) (y2 : Int) (y4 : Int) (h : zH) (Q : Int → zH → Prop) : Prop :=
if y2 = (-1004) then
(Q y4 h)
else
(P_E_back e (-1) h (fun r37 h38 =>
∀ h39 : zH, h39 = zw h38 e 21 0 →
Q y4 h39))
theorem W_E_search_J172 (e : Int) (he : zE e) (y2 : Int) (y4 : Int) (h : zH) (Q : Int → zH → Prop) (hP : P_E_search_J172 e y2 y4 h Q) : zV true zy_X1_search 7 172 [zR e, zU, zI y2, zU, zI y4, zU, zU, zU] [] h (zQ0 Q) := by
  unfold P_E_search_J172 at hP
  refine zV_iload_n dX1_search_172 rfl ?_
  refine zV_sipush dX1_search_173 ⟨by decide, by decide, by decide⟩ ?_
  refine zV_icmp_eq (tgt := 189) dX1_search_176 (by decide) (fun c => ?_) (fun c => ?_)
  · have hP := zif_p hP c
    refine zV_iload dX1_search_189 rfl ?_
    exact zV_ireturn dX1_search_191 rfl rfl rfl ⟨rfl, hP⟩
  · have hP := zif_n hP c
    refine zV_aload_n dX1_search_179 rfl ?_
    refine zV_iconst dX1_search_180 ⟨by decide, by decide⟩ ?_
    refine zV_cVv (As := [zI (-1)]) (rest := []) dX1_search_181 (sae_0 he) (W_E_back e he _ _ _ hP) mi_X1_back ml_X1_312 (by decide) (Nat.le_of_ble_eq_true rfl) rfl rfl (fun r37 h38 hP => ?_)
    refine zV_aload_n dX1_search_184 rfl ?_
    refine zV_iconst dX1_search_185 ⟨by decide, by decide⟩ ?_
    refine zV_pf dX1_search_186 (sae_0 he) (by decide) fl_X1_139_1 rfl rfl trivial (ki := 21) rfl (fun h39 e_h39 => ?_)
    have hP := hP h39 e_h39
    refine zV_iload dX1_search_189 rfl ?_
    exact zV_ireturn dX1_search_191 rfl rfl rfl ⟨rfl, hP⟩
def P_E_search_J236 (e : Int) (y2 : Int) (y5 : Int) (h : zH) (Q : Int → zH → Prop) : Prop :=
if y2 = (-1004) then
(Q y5 h)
else
(P_E_back e (-1) h (fun r46 h47 =>
∀ h48 : zH, h48 = zw h47 e 21 0 →
Q y5 h48))
theorem W_E_search_J236 (e : Int) (he : zE e) (y2 : Int) (y5 : Int) (h : zH) (Q : Int → zH → Prop) (hP : P_E_search_J236 e y2 y5 h Q) : zV true zy_X1_search 7 236 [zR e, zU, zI y2, zU, zU, zI y5, zU, zU] [] h (zQ0 Q) := by
  unfold P_E_search_J236 at hP
  refine zV_iload_n dX1_search_236 rfl ?_
  refine zV_sipush dX1_search_237 ⟨by decide, by decide, by decide⟩ ?_
  refine zV_icmp_eq (tgt := 253) dX1_search_240 (by decide) (fun c => ?_) (fun c => ?_)
  · have hP := zif_p hP c
    refine zV_iload dX1_search_253 rfl ?_
    exact zV_ireturn dX1_search_255 rfl rfl rfl ⟨rfl, hP⟩
  · have hP := zif_n hP c
    refine zV_aload_n dX1_search_243 rfl ?_
    refine zV_iconst dX1_search_244 ⟨by decide, by decide⟩ ?_
    refine zV_cVv (As := [zI (-1)]) (rest := []) dX1_search_245 (sae_0 he) (W_E_back e he _ _ _ hP) mi_X1_back ml_X1_312 (by decide) (Nat.le_of_ble_eq_true rfl) rfl rfl (fun r46 h47 hP => ?_)
    refine zV_aload_n dX1_search_248 rfl ?_
    refine zV_iconst dX1_search_249 ⟨by decide, by decide⟩ ?_
    refine zV_pf dX1_search_250 (sae_0 he) (by decide) fl_X1_139_1 rfl rfl trivial (ki := 21) rfl (fun h48 e_h48 => ?_)
    have hP := hP h48 e_h48
    refine zV_iload dX1_search_253 rfl ?_
    exact zV_ireturn dX1_search_255 rfl rfl rfl ⟨rfl, hP⟩
def P_E_search_J296 (e : Int) (y2 : Int) (y6 : Int) (h : zH) (Q : Int → zH → Prop) : Prop :=
if y2 = (-1004) then
(Q y6 h)
else
(P_E_back e (-1) h (fun r53 h54 =>
∀ h55 : zH, h55 = zw h54 e 21 0 →
Q y6 h55))
theorem W_E_search_J296 (e : Int) (he : zE e) (y2 : Int) (y6 : Int) (h : zH) (Q : Int → zH → Prop) (hP : P_E_search_J296 e y2 y6 h Q) : zV true zy_X1_search 7 296 [zR e, zU, zI y2, zU, zU, zU, zI y6, zU] [] h (zQ0 Q) := by
  unfold P_E_search_J296 at hP
  refine zV_iload_n dX1_search_296 rfl ?_
  refine zV_sipush dX1_search_297 ⟨by decide, by decide, by decide⟩ ?_
  refine zV_icmp_eq (tgt := 313) dX1_search_300 (by decide) (fun c => ?_) (fun c => ?_)
  · have hP := zif_p hP c
    refine zV_iload dX1_search_313 rfl ?_
    exact zV_ireturn dX1_search_315 rfl rfl rfl ⟨rfl, hP⟩
  · have hP := zif_n hP c
    refine zV_aload_n dX1_search_303 rfl ?_
    refine zV_iconst dX1_search_304 ⟨by decide, by decide⟩ ?_
    refine zV_cVv (As := [zI (-1)]) (rest := []) dX1_search_305 (sae_0 he) (W_E_back e he _ _ _ hP) mi_X1_back ml_X1_312 (by decide) (Nat.le_of_ble_eq_true rfl) rfl rfl (fun r53 h54 hP => ?_)
    refine zV_aload_n dX1_search_308 rfl ?_
    refine zV_iconst dX1_search_309 ⟨by decide, by decide⟩ ?_
    refine zV_pf dX1_search_310 (sae_0 he) (by decide) fl_X1_139_1 rfl rfl trivial (ki := 21) rfl (fun h55 e_h55 => ?_)
    have hP := hP h55 e_h55
    refine zV_iload dX1_search_313 rfl ?_
    exact zV_ireturn dX1_search_315 rfl rfl rfl ⟨rfl, hP⟩
def P_E_search_J340 (e : Int) (y2 : Int) (y6 : Int) (h : zH) (Q : Int → zH → Prop) : Prop :=
if y2 = (-1004) then
(Q y6 h)
else
(P_E_back e (-1) h (fun r60 h61 =>
∀ h62 : zH, h62 = zw h61 e 21 0 →
Q y6 h62))
theorem W_E_search_J340 (e : Int) (he : zE e) (y2 : Int) (y6 : Int) (h : zH) (Q : Int → zH → Prop) (hP : P_E_search_J340 e y2 y6 h Q) : zV true zy_X1_search 7 340 [zR e, zU, zI y2, zU, zU, zU, zI y6, zU] [] h (zQ0 Q) := by
  unfold P_E_search_J340 at hP
  refine zV_iload_n dX1_search_340 rfl ?_
  refine zV_sipush dX1_search_341 ⟨by decide, by decide, by decide⟩ ?_
  refine zV_icmp_eq (tgt := 357) dX1_search_344 (by decide) (fun c => ?_) (fun c => ?_)
  · have hP := zif_p hP c
    refine zV_iload dX1_search_357 rfl ?_
    exact zV_ireturn dX1_search_359 rfl rfl rfl ⟨rfl, hP⟩
  · have hP := zif_n hP c
    refine zV_aload_n dX1_search_347 rfl ?_
    refine zV_iconst dX1_search_348 ⟨by decide, by decide⟩ ?_
    refine zV_cVv (As := [zI (-1)]) (rest := []) dX1_search_349 (sae_0 he) (W_E_back e he _ _ _ hP) mi_X1_back ml_X1_312 (by decide) (Nat.le_of_ble_eq_true rfl) rfl rfl (fun r60 h61 hP => ?_)
    refine zV_aload_n dX1_search_352 rfl ?_
    refine zV_iconst dX1_search_353 ⟨by decide, by decide⟩ ?_
    refine zV_pf dX1_search_354 (sae_0 he) (by decide) fl_X1_139_1 rfl rfl trivial (ki := 21) rfl (fun h62 e_h62 => ?_)
    have hP := hP h62 e_h62
    refine zV_iload dX1_search_357 rfl ?_
    exact zV_ireturn dX1_search_359 rfl rfl rfl ⟨rfl, hP⟩
def P_E_search (e : Int) (a1 : Int) (h : zH) (Q : Int → zH → Prop) : Prop :=
∀ h1 : zH, h1 = zw h e 31 a1 →
∃ n9, P_E_search_L9 e (-1004) Q (fun h19 =>
P_E_search_J42 e (-1004) h19 Q) (fun u3_93 h26 =>
P_E_noAtAll e u3_93 h26 (fun r27 h28 =>
∀ h29 : zH, h29 = zw h28 e 29 r27 →
if r27 = 1 then
(P_E_keepTruth e h29 (fun r33 h34 =>
P_E_search_J116 e r27 r27 h34 Q))
else
(P_E_search_J116 e r27 r27 h29 Q))) (fun h35 =>
∀ h36 : zH, h36 = zw h35 e 29 (-1003) →
if ((-1003) : Int) = 1 then
(P_E_keepTruth e h36 (fun r40 h41 =>
P_E_search_J172 e (-1003) (-1003) h41 Q))
else
(P_E_search_J172 e (-1003) (-1003) h36 Q)) (fun u4_212 h42 =>
P_E_noBy e u4_212 h42 (fun r43 h44 =>
∀ h45 : zH, h45 = zw h44 e 29 r43 →
if r43 = 1 then
(P_E_keepTruth e h45 (fun r49 h50 =>
P_E_search_J236 e r43 r43 h50 Q))
else
(P_E_search_J236 e r43 r43 h45 Q))) (fun h51 =>
∀ h52 : zH, h52 = zw h51 e 29 1 →
if (1 : Int) = 1 then
(P_E_keepTruth e h52 (fun r56 h57 =>
P_E_search_J296 e 1 1 h57 Q))
else
(P_E_search_J296 e 1 1 h52 Q)) (fun h58 =>
∀ h59 : zH, h59 = zw h58 e 29 (-1004) →
if ((-1004) : Int) = 1 then
(P_E_keepTruth e h59 (fun r63 h64 =>
P_E_search_J340 e (-1004) (-1004) h64 Q))
else
(P_E_search_J340 e (-1004) (-1004) h59 Q)) n9 h1
theorem W_E_search (e : Int) (he : zE e) (a1 : Int) (h : zH) (Q : Int → zH → Prop) (hP : P_E_search e a1 h Q) : zC true zy_X1_search 7 [zR e, zI a1] h (zQ0 Q) := by
  unfold P_E_search at hP
  refine zC.of (by decide) (Nat.le_of_ble_eq_true rfl) ?_
  show zV true zy_X1_search 7 0 [zR e, zI a1, zU, zU, zU, zU, zU, zU] [] h (zQ0 Q)
  refine zV_aload_n dX1_search_0 rfl ?_
  refine zV_iload_n dX1_search_1 rfl ?_
  refine zV_pf dX1_search_2 (sae_0 he) (by decide) fl_X1_260_1 rfl rfl trivial (ki := 31) rfl (fun h1 e_h1 => ?_)
  have hP := hP h1 e_h1
  refine zV_sipush dX1_search_5 ⟨by decide, by decide, by decide⟩ ?_
  refine zV_istore_n (ls' := [zR e, zI a1, zI (-1004), zU, zU, zU, zU, zU]) dX1_search_8 rfl (Nat.le_of_ble_eq_true rfl) rfl rfl ?_
  obtain ⟨n9, hP⟩ := hP
  refine zV_mask [true, false, true, true, true, true, true, true] (ls' := [zR e, zU, zI (-1004), zU, zU, zU, zU, zU]) rfl ?_
  refine W_E_search_L9 e he _ _ _ _ _ _ _ _ (fun h19 hP => ?_) (fun u3_93 h26 hP => ?_) (fun h35 hP => ?_) (fun u4_212 h42 hP => ?_) (fun h51 hP => ?_) (fun h58 hP => ?_) n9 _ hP
  · exact W_E_search_J42 e he _ _ _ hP
  · refine zV_aload_n dX1_search_93 rfl ?_
    refine zV_iload_n dX1_search_94 rfl ?_
    refine zV_cVk (As := [zI u3_93]) (rest := []) dX1_search_95 (sae_0 he) (W_E_noAtAll e he _ _ _ hP) mi_X1_noAtAll ml_X1_347 (by decide) (Nat.le_of_ble_eq_true rfl) rfl rfl rfl (fun r27 h28 hP => ?_)
    refine zV_istore_n (ls' := [zR e, zU, zI r27, zI u3_93, zU, zU, zU, zU]) dX1_search_98 rfl (Nat.le_of_ble_eq_true rfl) rfl rfl ?_
    refine zV_iload_n dX1_search_99 rfl ?_
    refine zV_istore (ls' := [zR e, zU, zI r27, zI u3_93, zI r27, zU, zU, zU]) dX1_search_100 (Nat.le_of_ble_eq_true rfl) rfl rfl ?_
    refine zV_aload_n dX1_search_102 rfl ?_
    refine zV_iload_n dX1_search_103 rfl ?_
    refine zV_pf dX1_search_104 (sae_0 he) (by decide) fl_X1_81_1 rfl rfl trivial (ki := 29) rfl (fun h29 e_h29 => ?_)
    have hP := hP h29 e_h29
    refine zV_iload_n dX1_search_107 rfl ?_
    refine zV_iconst dX1_search_108 ⟨by decide, by decide⟩ ?_
    refine zV_icmp_ne (tgt := 116) dX1_search_109 (by decide) (fun c => ?_) (fun c => ?_)
    · have hP := zif_n hP c
      refine zV_mask [true, true, true, false, true, true, true, true] (ls' := [zR e, zU, zI r27, zU, zI r27, zU, zU, zU]) rfl ?_
      exact W_E_search_J116 e he _ _ _ _ hP
    · have hP := zif_p hP c
      refine zV_aload_n dX1_search_112 rfl ?_
      refine zV_cVv (As := []) (rest := []) dX1_search_113 (sae_0 he) (W_E_keepTruth e he _ _ hP) mi_X1_keepTruth ml_X1_344 (by decide) (Nat.le_of_ble_eq_true rfl) rfl rfl (fun r33 h34 hP => ?_)
      refine zV_mask [true, true, true, false, true, true, true, true] (ls' := [zR e, zU, zI r27, zU, zI r27, zU, zU, zU]) rfl ?_
      exact W_E_search_J116 e he _ _ _ _ hP
  · refine zV_sipush dX1_search_151 ⟨by decide, by decide, by decide⟩ ?_
    refine zV_istore_n (ls' := [zR e, zU, zI (-1003), zU, zU, zU, zU, zU]) dX1_search_154 rfl (Nat.le_of_ble_eq_true rfl) rfl rfl ?_
    refine zV_iload_n dX1_search_155 rfl ?_
    refine zV_istore (ls' := [zR e, zU, zI (-1003), zU, zI (-1003), zU, zU, zU]) dX1_search_156 (Nat.le_of_ble_eq_true rfl) rfl rfl ?_
    refine zV_aload_n dX1_search_158 rfl ?_
    refine zV_iload_n dX1_search_159 rfl ?_
    refine zV_pf dX1_search_160 (sae_0 he) (by decide) fl_X1_81_1 rfl rfl trivial (ki := 29) rfl (fun h36 e_h36 => ?_)
    have hP := hP h36 e_h36
    refine zV_iload_n dX1_search_163 rfl ?_
    refine zV_iconst dX1_search_164 ⟨by decide, by decide⟩ ?_
    refine zV_icmp_ne (tgt := 172) dX1_search_165 (by decide) (fun c => ?_) (fun c => ?_)
    · have hP := zif_n hP c
      exact W_E_search_J172 e he _ _ _ _ hP
    · have hP := zif_p hP c
      refine zV_aload_n dX1_search_168 rfl ?_
      refine zV_cVv (As := []) (rest := []) dX1_search_169 (sae_0 he) (W_E_keepTruth e he _ _ hP) mi_X1_keepTruth ml_X1_344 (by decide) (Nat.le_of_ble_eq_true rfl) rfl rfl (fun r40 h41 hP => ?_)
      exact W_E_search_J172 e he _ _ _ _ hP
  · refine zV_aload_n dX1_search_212 rfl ?_
    refine zV_iload dX1_search_213 rfl ?_
    refine zV_cVk (As := [zI u4_212]) (rest := []) dX1_search_215 (sae_0 he) (W_E_noBy e he _ _ _ hP) mi_X1_noBy ml_X1_356 (by decide) (Nat.le_of_ble_eq_true rfl) rfl rfl rfl (fun r43 h44 hP => ?_)
    refine zV_istore_n (ls' := [zR e, zU, zI r43, zU, zI u4_212, zU, zU, zU]) dX1_search_218 rfl (Nat.le_of_ble_eq_true rfl) rfl rfl ?_
    refine zV_iload_n dX1_search_219 rfl ?_
    refine zV_istore (ls' := [zR e, zU, zI r43, zU, zI u4_212, zI r43, zU, zU]) dX1_search_220 (Nat.le_of_ble_eq_true rfl) rfl rfl ?_
    refine zV_aload_n dX1_search_222 rfl ?_
    refine zV_iload_n dX1_search_223 rfl ?_
    refine zV_pf dX1_search_224 (sae_0 he) (by decide) fl_X1_81_1 rfl rfl trivial (ki := 29) rfl (fun h45 e_h45 => ?_)
    have hP := hP h45 e_h45
    refine zV_iload_n dX1_search_227 rfl ?_
    refine zV_iconst dX1_search_228 ⟨by decide, by decide⟩ ?_
    refine zV_icmp_ne (tgt := 236) dX1_search_229 (by decide) (fun c => ?_) (fun c => ?_)
    · have hP := zif_n hP c
      refine zV_mask [true, true, true, true, false, true, true, true] (ls' := [zR e, zU, zI r43, zU, zU, zI r43, zU, zU]) rfl ?_
      exact W_E_search_J236 e he _ _ _ _ hP
    · have hP := zif_p hP c
      refine zV_aload_n dX1_search_232 rfl ?_
      refine zV_cVv (As := []) (rest := []) dX1_search_233 (sae_0 he) (W_E_keepTruth e he _ _ hP) mi_X1_keepTruth ml_X1_344 (by decide) (Nat.le_of_ble_eq_true rfl) rfl rfl (fun r49 h50 hP => ?_)
      refine zV_mask [true, true, true, true, false, true, true, true] (ls' := [zR e, zU, zI r43, zU, zU, zI r43, zU, zU]) rfl ?_
      exact W_E_search_J236 e he _ _ _ _ hP
  · refine zV_iconst dX1_search_277 ⟨by decide, by decide⟩ ?_
    refine zV_istore_n (ls' := [zR e, zU, zI 1, zU, zU, zU, zU, zU]) dX1_search_278 rfl (Nat.le_of_ble_eq_true rfl) rfl rfl ?_
    refine zV_iload_n dX1_search_279 rfl ?_
    refine zV_istore (ls' := [zR e, zU, zI 1, zU, zU, zU, zI 1, zU]) dX1_search_280 (Nat.le_of_ble_eq_true rfl) rfl rfl ?_
    refine zV_aload_n dX1_search_282 rfl ?_
    refine zV_iload_n dX1_search_283 rfl ?_
    refine zV_pf dX1_search_284 (sae_0 he) (by decide) fl_X1_81_1 rfl rfl trivial (ki := 29) rfl (fun h52 e_h52 => ?_)
    have hP := hP h52 e_h52
    refine zV_iload_n dX1_search_287 rfl ?_
    refine zV_iconst dX1_search_288 ⟨by decide, by decide⟩ ?_
    refine zV_icmp_ne (tgt := 296) dX1_search_289 (by decide) (fun c => ?_) (fun c => ?_)
    · have hP := zif_n hP c
      exact W_E_search_J296 e he _ _ _ _ hP
    · have hP := zif_p hP c
      refine zV_aload_n dX1_search_292 rfl ?_
      refine zV_cVv (As := []) (rest := []) dX1_search_293 (sae_0 he) (W_E_keepTruth e he _ _ hP) mi_X1_keepTruth ml_X1_344 (by decide) (Nat.le_of_ble_eq_true rfl) rfl rfl (fun r56 h57 hP => ?_)
      exact W_E_search_J296 e he _ _ _ _ hP
  · refine zV_iload_n dX1_search_323 rfl ?_
    refine zV_istore (ls' := [zR e, zU, zI (-1004), zU, zU, zU, zI (-1004), zU]) dX1_search_324 (Nat.le_of_ble_eq_true rfl) rfl rfl ?_
    refine zV_aload_n dX1_search_326 rfl ?_
    refine zV_iload_n dX1_search_327 rfl ?_
    refine zV_pf dX1_search_328 (sae_0 he) (by decide) fl_X1_81_1 rfl rfl trivial (ki := 29) rfl (fun h59 e_h59 => ?_)
    have hP := hP h59 e_h59
    refine zV_iload_n dX1_search_331 rfl ?_
    refine zV_iconst dX1_search_332 ⟨by decide, by decide⟩ ?_
    refine zV_icmp_ne (tgt := 340) dX1_search_333 (by decide) (fun c => ?_) (fun c => ?_)
    · have hP := zif_n hP c
      exact W_E_search_J340 e he _ _ _ _ hP
    · have hP := zif_p hP c
      refine zV_aload_n dX1_search_336 rfl ?_
      refine zV_cVv (As := []) (rest := []) dX1_search_337 (sae_0 he) (W_E_keepTruth e he _ _ hP) mi_X1_keepTruth ml_X1_344 (by decide) (Nat.le_of_ble_eq_true rfl) rfl rfl (fun r63 h64 hP => ?_)
      exact W_E_search_J340 e he _ _ _ _ hP
