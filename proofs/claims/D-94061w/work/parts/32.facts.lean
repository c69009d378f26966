/-! facts of fields and constants (printed by tools/gen_prog.py) -/
set_option maxRecDepth 100000
theorem nmX4 : NM TX4 10 := by unfold NM; decide +kernel
theorem nmX10 : NM TX10 3 := by unfold NM; decide +kernel
theorem nmX11 : NM TX11 2 := by unfold NM; decide +kernel
theorem nmX12 : NM TX12 12 := by unfold NM; decide +kernel
theorem fp_RX1_9_X1i : FP RX1 true 9 0 0 2 (tyX1 0) := ⟨RX1, TX1, 34, "TwoHalves", tyX1, rfl, by decide, in_X1, by decide, rfl, Or.inl ⟨q502, Or.inr ⟨rfl, rfl, rfl⟩⟩, Or.inl rfl, tyX1_ok, (NM_of nmX1), tyX1_ok 0 (by decide)⟩
theorem fp_RX1_16_X1i : FP RX1 true 16 0 4 2 (tyX1 4) := ⟨RX1, TX1, 34, "TwoHalves", tyX1, rfl, by decide, in_X1, by decide, rfl, Or.inl ⟨q507, Or.inr ⟨rfl, rfl, rfl⟩⟩, Or.inl rfl, tyX1_ok, (NM_of nmX1), tyX1_ok 4 (by decide)⟩
theorem fp_RX1_30_X1i : FP RX1 true 30 0 5 2 (tyX1 5) := ⟨RX1, TX1, 34, "TwoHalves", tyX1, rfl, by decide, in_X1, by decide, rfl, Or.inl ⟨q509, Or.inr ⟨rfl, rfl, rfl⟩⟩, Or.inl rfl, tyX1_ok, (NM_of nmX1), tyX1_ok 5 (by decide)⟩
theorem fp_RX1_42_X1i : FP RX1 true 42 0 6 2 (tyX1 6) := ⟨RX1, TX1, 34, "TwoHalves", tyX1, rfl, by decide, in_X1, by decide, rfl, Or.inl ⟨q512, Or.inr ⟨rfl, rfl, rfl⟩⟩, Or.inl rfl, tyX1_ok, (NM_of nmX1), tyX1_ok 6 (by decide)⟩
theorem fp_RX1_49_X1i : FP RX1 true 49 0 7 2 (tyX1 7) := ⟨RX1, TX1, 34, "TwoHalves", tyX1, rfl, by decide, in_X1, by decide, rfl, Or.inl ⟨q515, Or.inr ⟨rfl, rfl, rfl⟩⟩, Or.inl rfl, tyX1_ok, (NM_of nmX1), tyX1_ok 7 (by decide)⟩
theorem fp_RX1_68_X1i : FP RX1 true 68 0 8 2 (tyX1 8) := ⟨RX1, TX1, 34, "TwoHalves", tyX1, rfl, by decide, in_X1, by decide, rfl, Or.inl ⟨q518, Or.inr ⟨rfl, rfl, rfl⟩⟩, Or.inl rfl, tyX1_ok, (NM_of nmX1), tyX1_ok 8 (by decide)⟩
theorem fp_RX1_79_X1i : FP RX1 true 79 0 9 2 (tyX1 9) := ⟨RX1, TX1, 34, "TwoHalves", tyX1, rfl, by decide, in_X1, by decide, rfl, Or.inl ⟨q521, Or.inr ⟨rfl, rfl, rfl⟩⟩, Or.inl rfl, tyX1_ok, (NM_of nmX1), tyX1_ok 9 (by decide)⟩
theorem fp_RX1_90_X1i : FP RX1 true 90 0 10 2 (tyX1 10) := ⟨RX1, TX1, 34, "TwoHalves", tyX1, rfl, by decide, in_X1, by decide, rfl, Or.inl ⟨q524, Or.inr ⟨rfl, rfl, rfl⟩⟩, Or.inl rfl, tyX1_ok, (NM_of nmX1), tyX1_ok 10 (by decide)⟩
theorem fp_RX1_98_X1i : FP RX1 true 98 0 11 2 (tyX1 11) := ⟨RX1, TX1, 34, "TwoHalves", tyX1, rfl, by decide, in_X1, by decide, rfl, Or.inl ⟨q526, Or.inr ⟨rfl, rfl, rfl⟩⟩, Or.inl rfl, tyX1_ok, (NM_of nmX1), tyX1_ok 11 (by decide)⟩
theorem fp_RX1_105_X1i : FP RX1 true 105 0 12 2 (tyX1 12) := ⟨RX1, TX1, 34, "TwoHalves", tyX1, rfl, by decide, in_X1, by decide, rfl, Or.inl ⟨q527, Or.inr ⟨rfl, rfl, rfl⟩⟩, Or.inl rfl, tyX1_ok, (NM_of nmX1), tyX1_ok 12 (by decide)⟩
theorem fp_RX1_109_X1i : FP RX1 true 109 0 14 2 (tyX1 14) := ⟨RX1, TX1, 34, "TwoHalves", tyX1, rfl, by decide, in_X1, by decide, rfl, Or.inl ⟨q533, Or.inr ⟨rfl, rfl, rfl⟩⟩, Or.inl rfl, tyX1_ok, (NM_of nmX1), tyX1_ok 14 (by decide)⟩
theorem fp_RX1_116_X1i : FP RX1 true 116 0 15 2 (tyX1 15) := ⟨RX1, TX1, 34, "TwoHalves", tyX1, rfl, by decide, in_X1, by decide, rfl, Or.inl ⟨q534, Or.inr ⟨rfl, rfl, rfl⟩⟩, Or.inl rfl, tyX1_ok, (NM_of nmX1), tyX1_ok 15 (by decide)⟩
theorem fp_RX1_125_X1i : FP RX1 true 125 0 16 2 (tyX1 16) := ⟨RX1, TX1, 34, "TwoHalves", tyX1, rfl, by decide, in_X1, by decide, rfl, Or.inl ⟨q535, Or.inr ⟨rfl, rfl, rfl⟩⟩, Or.inl rfl, tyX1_ok, (NM_of nmX1), tyX1_ok 16 (by decide)⟩
theorem fp_RX1_129_X1i : FP RX1 true 129 0 17 2 (tyX1 17) := ⟨RX1, TX1, 34, "TwoHalves", tyX1, rfl, by decide, in_X1, by decide, rfl, Or.inl ⟨q536, Or.inr ⟨rfl, rfl, rfl⟩⟩, Or.inl rfl, tyX1_ok, (NM_of nmX1), tyX1_ok 17 (by decide)⟩
theorem fg_RX1_125_X1 : FG RX1 125 0 16 2 := ⟨RX1, TX1, 34, "TwoHalves", rfl, by decide, in_X1, by decide, rfl, Or.inl q535, Or.inl rfl⟩
theorem fg_RX1_129_X1 : FG RX1 129 0 17 2 := ⟨RX1, TX1, 34, "TwoHalves", rfl, by decide, in_X1, by decide, rfl, Or.inl q536, Or.inl rfl⟩
theorem fp_RX1_137_X1i : FP RX1 true 137 0 18 2 (tyX1 18) := ⟨RX1, TX1, 34, "TwoHalves", tyX1, rfl, by decide, in_X1, by decide, rfl, Or.inl ⟨q537, Or.inr ⟨rfl, rfl, rfl⟩⟩, Or.inl rfl, tyX1_ok, (NM_of nmX1), tyX1_ok 18 (by decide)⟩
theorem fp_RX1_141_X1i : FP RX1 true 141 0 23 2 (tyX1 23) := ⟨RX1, TX1, 34, "TwoHalves", tyX1, rfl, by decide, in_X1, by decide, rfl, Or.inl ⟨q542, Or.inr ⟨rfl, rfl, rfl⟩⟩, Or.inl rfl, tyX1_ok, (NM_of nmX1), tyX1_ok 23 (by decide)⟩
theorem fp_RX1_144_X1i : FP RX1 true 144 0 24 2 (tyX1 24) := ⟨RX1, TX1, 34, "TwoHalves", tyX1, rfl, by decide, in_X1, by decide, rfl, Or.inl ⟨q543, Or.inr ⟨rfl, rfl, rfl⟩⟩, Or.inl rfl, tyX1_ok, (NM_of nmX1), tyX1_ok 24 (by decide)⟩
theorem fp_RX1_147_X1i : FP RX1 true 147 0 27 2 (tyX1 27) := ⟨RX1, TX1, 34, "TwoHalves", tyX1, rfl, by decide, in_X1, by decide, rfl, Or.inl ⟨q547, Or.inr ⟨rfl, rfl, rfl⟩⟩, Or.inl rfl, tyX1_ok, (NM_of nmX1), tyX1_ok 27 (by decide)⟩
theorem fp_RX1_150_X1i : FP RX1 true 150 0 28 2 (tyX1 28) := ⟨RX1, TX1, 34, "TwoHalves", tyX1, rfl, by decide, in_X1, by decide, rfl, Or.inl ⟨q548, Or.inr ⟨rfl, rfl, rfl⟩⟩, Or.inl rfl, tyX1_ok, (NM_of nmX1), tyX1_ok 28 (by decide)⟩
theorem fp_RX1_154_X1i : FP RX1 true 154 0 29 2 (tyX1 29) := ⟨RX1, TX1, 34, "TwoHalves", tyX1, rfl, by decide, in_X1, by decide, rfl, Or.inl ⟨q549, Or.inr ⟨rfl, rfl, rfl⟩⟩, Or.inl rfl, tyX1_ok, (NM_of nmX1), tyX1_ok 29 (by decide)⟩
theorem fp_RX1_158_X1i : FP RX1 true 158 0 30 2 (tyX1 30) := ⟨RX1, TX1, 34, "TwoHalves", tyX1, rfl, by decide, in_X1, by decide, rfl, Or.inl ⟨q550, Or.inr ⟨rfl, rfl, rfl⟩⟩, Or.inl rfl, tyX1_ok, (NM_of nmX1), tyX1_ok 30 (by decide)⟩
theorem fp_RX1_164_X1i : FP RX1 true 164 0 32 2 (tyX1 32) := ⟨RX1, TX1, 34, "TwoHalves", tyX1, rfl, by decide, in_X1, by decide, rfl, Or.inl ⟨q552, Or.inr ⟨rfl, rfl, rfl⟩⟩, Or.inl rfl, tyX1_ok, (NM_of nmX1), tyX1_ok 32 (by decide)⟩
theorem fp_RX1_168_X1i : FP RX1 true 168 0 33 2 (tyX1 33) := ⟨RX1, TX1, 34, "TwoHalves", tyX1, rfl, by decide, in_X1, by decide, rfl, Or.inl ⟨q553, Or.inr ⟨rfl, rfl, rfl⟩⟩, Or.inl rfl, tyX1_ok, (NM_of nmX1), tyX1_ok 33 (by decide)⟩
theorem fg_RX1_172_X1 : FG RX1 172 0 1 0 := ⟨RX1, TX1, 34, "TwoHalves", rfl, by decide, in_X1, by decide, rfl, Or.inl q504, Or.inl rfl⟩
theorem fg_RX1_9_X1 : FG RX1 9 0 0 2 := ⟨RX1, TX1, 34, "TwoHalves", rfl, by decide, in_X1, by decide, rfl, Or.inl q502, Or.inl rfl⟩
theorem fp_RX1_172_X1 : FP RX1 false 172 0 1 0 (tyX1 1) := ⟨RX1, TX1, 34, "TwoHalves", tyX1, rfl, by decide, in_X1, by decide, rfl, Or.inl ⟨q504, Or.inl rfl⟩, Or.inl rfl, tyX1_ok, (NM_of nmX1), tyX1_ok 1 (by decide)⟩
theorem fp_RX1_189_X1 : FP RX1 false 189 0 13 0 (tyX1 13) := ⟨RX1, TX1, 34, "TwoHalves", tyX1, rfl, by decide, in_X1, by decide, rfl, Or.inl ⟨q532, Or.inl rfl⟩, Or.inl rfl, tyX1_ok, (NM_of nmX1), tyX1_ok 13 (by decide)⟩
theorem fg_RX1_206_X2 : FG RX1 206 1 6 0 := ⟨RX2, TX2, 8, "TwoHalves$Fault", rfl, by decide, in_X2, by decide, rfl, Or.inl q198, Or.inl rfl⟩
theorem fg_RX1_209_X2 : FG RX1 209 1 7 0 := ⟨RX2, TX2, 8, "TwoHalves$Fault", rfl, by decide, in_X2, by decide, rfl, Or.inl q200, Or.inl rfl⟩
theorem fg_RX1_98_X1 : FG RX1 98 0 11 2 := ⟨RX1, TX1, 34, "TwoHalves", rfl, by decide, in_X1, by decide, rfl, Or.inl q526, Or.inl rfl⟩
theorem fg_RX1_105_X1 : FG RX1 105 0 12 2 := ⟨RX1, TX1, 34, "TwoHalves", rfl, by decide, in_X1, by decide, rfl, Or.inl q527, Or.inl rfl⟩
theorem fp_RX1_202_X5 : FP RX1 false 202 3 0 2 (tyX5 0) := ⟨RX5, TX5, 7, "TwoHalves$State", tyX5, rfl, by decide, in_X5, by decide, rfl, Or.inr ⟨rfl, _, List.mem_of_getElem? (i := 8) rfl⟩, Or.inl rfl, tyX5_ok, (NM_of nmX5), tyX5_ok 0 (by decide)⟩
theorem fp_RX1_180_X1 : FP RX1 false 180 0 2 0 (tyX1 2) := ⟨RX1, TX1, 34, "TwoHalves", tyX1, rfl, by decide, in_X1, by decide, rfl, Or.inl ⟨q506, Or.inl rfl⟩, Or.inl rfl, tyX1_ok, (NM_of nmX1), tyX1_ok 2 (by decide)⟩
theorem fg_RX1_189_X1 : FG RX1 189 0 13 0 := ⟨RX1, TX1, 34, "TwoHalves", rfl, by decide, in_X1, by decide, rfl, Or.inl q532, Or.inl rfl⟩
theorem fg_RX1_202_X5 : FG RX1 202 3 0 2 := ⟨RX5, TX5, 7, "TwoHalves$State", rfl, by decide, in_X5, by decide, rfl, Or.inr ⟨_, List.mem_of_getElem? (i := 8) rfl⟩, Or.inl rfl⟩
theorem fp_RX1_216_X5 : FP RX1 false 216 3 1 0 (tyX5 1) := ⟨RX5, TX5, 7, "TwoHalves$State", tyX5, rfl, by decide, in_X5, by decide, rfl, Or.inr ⟨rfl, _, List.mem_of_getElem? (i := 9) rfl⟩, Or.inl rfl, tyX5_ok, (NM_of nmX5), tyX5_ok 1 (by decide)⟩
theorem fp_RX1_223_X5 : FP RX1 false 223 3 2 0 (tyX5 2) := ⟨RX5, TX5, 7, "TwoHalves$State", tyX5, rfl, by decide, in_X5, by decide, rfl, Or.inr ⟨rfl, _, List.mem_of_getElem? (i := 10) rfl⟩, Or.inl rfl, tyX5_ok, (NM_of nmX5), tyX5_ok 2 (by decide)⟩
theorem fg_RX1_116_X1 : FG RX1 116 0 15 2 := ⟨RX1, TX1, 34, "TwoHalves", rfl, by decide, in_X1, by decide, rfl, Or.inl q534, Or.inl rfl⟩
theorem fg_RX1_223_X5 : FG RX1 223 3 2 0 := ⟨RX5, TX5, 7, "TwoHalves$State", rfl, by decide, in_X5, by decide, rfl, Or.inr ⟨_, List.mem_of_getElem? (i := 10) rfl⟩, Or.inl rfl⟩
theorem fg_RX1_109_X1 : FG RX1 109 0 14 2 := ⟨RX1, TX1, 34, "TwoHalves", rfl, by decide, in_X1, by decide, rfl, Or.inl q533, Or.inl rfl⟩
theorem fg_RX1_216_X5 : FG RX1 216 3 1 0 := ⟨RX5, TX5, 7, "TwoHalves$State", rfl, by decide, in_X5, by decide, rfl, Or.inr ⟨_, List.mem_of_getElem? (i := 9) rfl⟩, Or.inl rfl⟩
theorem fg_RX1_308_X8 : FG RX1 308 6 0 2 := ⟨RX8, TX8, 2, "TwoHalves$Mind", rfl, by decide, in_X8, by decide, rfl, Or.inr ⟨_, List.mem_of_getElem? (i := 15) rfl⟩, Or.inl rfl⟩
theorem fg_RX1_229_X6 : FG RX1 229 4 3 0 := ⟨RX6, TX6, 8, "TwoHalves$Head", rfl, by decide, in_X6, by decide, rfl, Or.inr ⟨_, List.mem_of_getElem? (i := 2) rfl⟩, Or.inl rfl⟩
theorem fg_RX1_180_X1 : FG RX1 180 0 2 0 := ⟨RX1, TX1, 34, "TwoHalves", rfl, by decide, in_X1, by decide, rfl, Or.inl q506, Or.inl rfl⟩
theorem fg_RX1_137_X1 : FG RX1 137 0 18 2 := ⟨RX1, TX1, 34, "TwoHalves", rfl, by decide, in_X1, by decide, rfl, Or.inl q537, Or.inl rfl⟩
theorem fg_RX1_301_X17 : FG RX1 301 13 5 0 := ⟨RX17, TX17, 8, "TwoHalves$Showing", rfl, by decide, in_X17, by decide, rfl, Or.inr ⟨_, List.mem_of_getElem? (i := 27) rfl⟩, Or.inl rfl⟩
theorem fp_RX1_320_X1 : FP RX1 false 320 0 19 0 (tyX1 19) := ⟨RX1, TX1, 34, "TwoHalves", tyX1, rfl, by decide, in_X1, by decide, rfl, Or.inl ⟨q538, Or.inl rfl⟩, Or.inl rfl, tyX1_ok, (NM_of nmX1), tyX1_ok 19 (by decide)⟩
theorem fp_RX1_323_X1 : FP RX1 false 323 0 21 0 (tyX1 21) := ⟨RX1, TX1, 34, "TwoHalves", tyX1, rfl, by decide, in_X1, by decide, rfl, Or.inl ⟨q540, Or.inl rfl⟩, Or.inl rfl, tyX1_ok, (NM_of nmX1), tyX1_ok 21 (by decide)⟩
theorem fp_RX1_330_X1 : FP RX1 false 330 0 22 0 (tyX1 22) := ⟨RX1, TX1, 34, "TwoHalves", tyX1, rfl, by decide, in_X1, by decide, rfl, Or.inl ⟨q541, Or.inl rfl⟩, Or.inl rfl, tyX1_ok, (NM_of nmX1), tyX1_ok 22 (by decide)⟩
theorem fg_RX1_330_X1 : FG RX1 330 0 22 0 := ⟨RX1, TX1, 34, "TwoHalves", rfl, by decide, in_X1, by decide, rfl, Or.inl q541, Or.inl rfl⟩
theorem fp_RX1_336_X1 : FP RX1 false 336 0 20 0 (tyX1 20) := ⟨RX1, TX1, 34, "TwoHalves", tyX1, rfl, by decide, in_X1, by decide, rfl, Or.inl ⟨q539, Or.inl rfl⟩, Or.inl rfl, tyX1_ok, (NM_of nmX1), tyX1_ok 20 (by decide)⟩
theorem fg_RX1_270_X6 : FG RX1 270 4 0 2 := ⟨RX6, TX6, 8, "TwoHalves$Head", rfl, by decide, in_X6, by decide, rfl, Or.inr ⟨_, List.mem_of_getElem? (i := 0) rfl⟩, Or.inl rfl⟩
theorem fg_RX1_277_X15 : FG RX1 277 11 2 0 := ⟨RX15, TX15, 3, "TwoHalves$Thing", rfl, by decide, in_X15, by decide, rfl, Or.inr ⟨_, List.mem_of_getElem? (i := 18) rfl⟩, Or.inl rfl⟩
theorem fg_RX1_320_X1 : FG RX1 320 0 19 0 := ⟨RX1, TX1, 34, "TwoHalves", rfl, by decide, in_X1, by decide, rfl, Or.inl q538, Or.inl rfl⟩
theorem fg_RX1_323_X1 : FG RX1 323 0 21 0 := ⟨RX1, TX1, 34, "TwoHalves", rfl, by decide, in_X1, by decide, rfl, Or.inl q540, Or.inl rfl⟩
theorem fg_RX1_336_X1 : FG RX1 336 0 20 0 := ⟨RX1, TX1, 34, "TwoHalves", rfl, by decide, in_X1, by decide, rfl, Or.inl q539, Or.inl rfl⟩
theorem fg_RX1_344_X6 : FG RX1 344 4 7 0 := ⟨RX6, TX6, 8, "TwoHalves$Head", rfl, by decide, in_X6, by decide, rfl, Or.inr ⟨_, List.mem_of_getElem? (i := 5) rfl⟩, Or.inl rfl⟩
theorem fg_RX1_353_X5 : FG RX1 353 3 4 2 := ⟨RX5, TX5, 7, "TwoHalves$State", rfl, by decide, in_X5, by decide, rfl, Or.inr ⟨_, List.mem_of_getElem? (i := 12) rfl⟩, Or.inl rfl⟩
theorem fg_RX1_357_X7 : FG RX1 357 5 1 0 := ⟨RX7, TX7, 2, "TwoHalves$Book", rfl, by decide, in_X7, by decide, rfl, Or.inr ⟨_, List.mem_of_getElem? (i := 7) rfl⟩, Or.inl rfl⟩
theorem fp_RX1_362_X17 : FP RX1 false 362 13 7 0 (tyX17 7) := ⟨RX17, TX17, 8, "TwoHalves$Showing", tyX17, rfl, by decide, in_X17, by decide, rfl, Or.inr ⟨rfl, _, List.mem_of_getElem? (i := 28) rfl⟩, Or.inl rfl, tyX17_ok, (NM_of nmX17), tyX17_ok 7 (by decide)⟩
theorem fg_RX1_364_X7 : FG RX1 364 5 0 2 := ⟨RX7, TX7, 2, "TwoHalves$Book", rfl, by decide, in_X7, by decide, rfl, Or.inr ⟨_, List.mem_of_getElem? (i := 6) rfl⟩, Or.inl rfl⟩
theorem fp_RX1_357_X7 : FP RX1 false 357 5 1 0 (tyX7 1) := ⟨RX7, TX7, 2, "TwoHalves$Book", tyX7, rfl, by decide, in_X7, by decide, rfl, Or.inr ⟨rfl, _, List.mem_of_getElem? (i := 7) rfl⟩, Or.inl rfl, tyX7_ok, (NM_of nmX7), tyX7_ok 1 (by decide)⟩
theorem fg_RX1_368_X1 : FG RX1 368 0 25 0 := ⟨RX1, TX1, 34, "TwoHalves", rfl, by decide, in_X1, by decide, rfl, Or.inl q545, Or.inl rfl⟩
theorem fp_RX1_381_X1 : FP RX1 false 381 0 26 0 (tyX1 26) := ⟨RX1, TX1, 34, "TwoHalves", tyX1, rfl, by decide, in_X1, by decide, rfl, Or.inl ⟨q546, Or.inl rfl⟩, Or.inl rfl, tyX1_ok, (NM_of nmX1), tyX1_ok 26 (by decide)⟩
theorem fg_RX1_141_X1 : FG RX1 141 0 23 2 := ⟨RX1, TX1, 34, "TwoHalves", rfl, by decide, in_X1, by decide, rfl, Or.inl q542, Or.inl rfl⟩
theorem fg_RX1_144_X1 : FG RX1 144 0 24 2 := ⟨RX1, TX1, 34, "TwoHalves", rfl, by decide, in_X1, by decide, rfl, Or.inl q543, Or.inl rfl⟩
theorem fp_RX1_368_X1 : FP RX1 false 368 0 25 0 (tyX1 25) := ⟨RX1, TX1, 34, "TwoHalves", tyX1, rfl, by decide, in_X1, by decide, rfl, Or.inl ⟨q545, Or.inl rfl⟩, Or.inl rfl, tyX1_ok, (NM_of nmX1), tyX1_ok 25 (by decide)⟩
theorem fg_RX1_362_X17 : FG RX1 362 13 7 0 := ⟨RX17, TX17, 8, "TwoHalves$Showing", rfl, by decide, in_X17, by decide, rfl, Or.inr ⟨_, List.mem_of_getElem? (i := 28) rfl⟩, Or.inl rfl⟩
theorem fg_RX1_381_X1 : FG RX1 381 0 26 0 := ⟨RX1, TX1, 34, "TwoHalves", rfl, by decide, in_X1, by decide, rfl, Or.inl q546, Or.inl rfl⟩
theorem fg_RX1_226_X6 : FG RX1 226 4 4 0 := ⟨RX6, TX6, 8, "TwoHalves$Head", rfl, by decide, in_X6, by decide, rfl, Or.inr ⟨_, List.mem_of_getElem? (i := 3) rfl⟩, Or.inl rfl⟩
theorem fg_RX1_240_X6 : FG RX1 240 4 1 2 := ⟨RX6, TX6, 8, "TwoHalves$Head", rfl, by decide, in_X6, by decide, rfl, Or.inr ⟨_, List.mem_of_getElem? (i := 1) rfl⟩, Or.inl rfl⟩
theorem fg_RX1_261_X16 : FG RX1 261 12 6 0 := ⟨RX16, TX16, 9, "TwoHalves$Way", rfl, by decide, in_X16, by decide, rfl, Or.inr ⟨_, List.mem_of_getElem? (i := 24) rfl⟩, Or.inl rfl⟩
theorem fg_RX1_393_X5 : FG RX1 393 3 3 0 := ⟨RX5, TX5, 7, "TwoHalves$State", rfl, by decide, in_X5, by decide, rfl, Or.inr ⟨_, List.mem_of_getElem? (i := 11) rfl⟩, Or.inl rfl⟩
theorem fg_RX1_396_X5 : FG RX1 396 3 5 2 := ⟨RX5, TX5, 7, "TwoHalves$State", rfl, by decide, in_X5, by decide, rfl, Or.inr ⟨_, List.mem_of_getElem? (i := 13) rfl⟩, Or.inl rfl⟩
theorem fp_RX1_393_X5 : FP RX1 false 393 3 3 0 (tyX5 3) := ⟨RX5, TX5, 7, "TwoHalves$State", tyX5, rfl, by decide, in_X5, by decide, rfl, Or.inr ⟨rfl, _, List.mem_of_getElem? (i := 11) rfl⟩, Or.inl rfl, tyX5_ok, (NM_of nmX5), tyX5_ok 3 (by decide)⟩
theorem fg_RX1_147_X1 : FG RX1 147 0 27 2 := ⟨RX1, TX1, 34, "TwoHalves", rfl, by decide, in_X1, by decide, rfl, Or.inl q547, Or.inl rfl⟩
theorem fp_RX1_408_X1 : FP RX1 false 408 0 31 0 (tyX1 31) := ⟨RX1, TX1, 34, "TwoHalves", tyX1, rfl, by decide, in_X1, by decide, rfl, Or.inl ⟨q551, Or.inl rfl⟩, Or.inl rfl, tyX1_ok, (NM_of nmX1), tyX1_ok 31 (by decide)⟩
theorem fg_RX1_154_X1 : FG RX1 154 0 29 2 := ⟨RX1, TX1, 34, "TwoHalves", rfl, by decide, in_X1, by decide, rfl, Or.inl q549, Or.inl rfl⟩
theorem fg_RX1_150_X1 : FG RX1 150 0 28 2 := ⟨RX1, TX1, 34, "TwoHalves", rfl, by decide, in_X1, by decide, rfl, Or.inl q548, Or.inl rfl⟩
theorem fg_RX1_158_X1 : FG RX1 158 0 30 2 := ⟨RX1, TX1, 34, "TwoHalves", rfl, by decide, in_X1, by decide, rfl, Or.inl q550, Or.inl rfl⟩
theorem fg_RX1_408_X1 : FG RX1 408 0 31 0 := ⟨RX1, TX1, 34, "TwoHalves", rfl, by decide, in_X1, by decide, rfl, Or.inl q551, Or.inl rfl⟩
theorem fg_RX1_259_X16 : FG RX1 259 12 5 0 := ⟨RX16, TX16, 9, "TwoHalves$Way", rfl, by decide, in_X16, by decide, rfl, Or.inr ⟨_, List.mem_of_getElem? (i := 23) rfl⟩, Or.inl rfl⟩
theorem fg_RX1_164_X1 : FG RX1 164 0 32 2 := ⟨RX1, TX1, 34, "TwoHalves", rfl, by decide, in_X1, by decide, rfl, Or.inl q552, Or.inl rfl⟩
theorem fp_RX1_431_X5 : FP RX1 false 431 3 6 2 (tyX5 6) := ⟨RX5, TX5, 7, "TwoHalves$State", tyX5, rfl, by decide, in_X5, by decide, rfl, Or.inr ⟨rfl, _, List.mem_of_getElem? (i := 14) rfl⟩, Or.inl rfl, tyX5_ok, (NM_of nmX5), tyX5_ok 6 (by decide)⟩
theorem fg_RX1_435_X12 : FG RX1 435 9 10 0 := ⟨RX12, TX12, 12, "TwoHalves$SentenceReader", rfl, by decide, in_X12, by decide, rfl, Or.inr ⟨_, List.mem_of_getElem? (i := 16) rfl⟩, Or.inl rfl⟩
theorem fg_RX1_431_X5 : FG RX1 431 3 6 2 := ⟨RX5, TX5, 7, "TwoHalves$State", rfl, by decide, in_X5, by decide, rfl, Or.inr ⟨_, List.mem_of_getElem? (i := 14) rfl⟩, Or.inl rfl⟩
theorem fg_RX1_168_X1 : FG RX1 168 0 33 2 := ⟨RX1, TX1, 34, "TwoHalves", rfl, by decide, in_X1, by decide, rfl, Or.inl q553, Or.inl rfl⟩
theorem fg_RX1_448_X6 : FG RX1 448 4 5 0 := ⟨RX6, TX6, 8, "TwoHalves$Head", rfl, by decide, in_X6, by decide, rfl, Or.inr ⟨_, List.mem_of_getElem? (i := 4) rfl⟩, Or.inl rfl⟩
theorem fg_RX1_264_X16 : FG RX1 264 12 7 0 := ⟨RX16, TX16, 9, "TwoHalves$Way", rfl, by decide, in_X16, by decide, rfl, Or.inr ⟨_, List.mem_of_getElem? (i := 25) rfl⟩, Or.inl rfl⟩
theorem fg_RX1_257_X16 : FG RX1 257 12 4 0 := ⟨RX16, TX16, 9, "TwoHalves$Way", rfl, by decide, in_X16, by decide, rfl, Or.inr ⟨_, List.mem_of_getElem? (i := 22) rfl⟩, Or.inl rfl⟩
theorem fg_RX1_254_X16 : FG RX1 254 12 8 0 := ⟨RX16, TX16, 9, "TwoHalves$Way", rfl, by decide, in_X16, by decide, rfl, Or.inr ⟨_, List.mem_of_getElem? (i := 26) rfl⟩, Or.inl rfl⟩
theorem fg_RX1_251_X16 : FG RX1 251 12 3 0 := ⟨RX16, TX16, 9, "TwoHalves$Way", rfl, by decide, in_X16, by decide, rfl, Or.inr ⟨_, List.mem_of_getElem? (i := 21) rfl⟩, Or.inl rfl⟩
theorem fg_RX1_249_X16 : FG RX1 249 12 2 0 := ⟨RX16, TX16, 9, "TwoHalves$Way", rfl, by decide, in_X16, by decide, rfl, Or.inr ⟨_, List.mem_of_getElem? (i := 20) rfl⟩, Or.inl rfl⟩
theorem fg_RX1_244_X16 : FG RX1 244 12 1 0 := ⟨RX16, TX16, 9, "TwoHalves$Way", rfl, by decide, in_X16, by decide, rfl, Or.inr ⟨_, List.mem_of_getElem? (i := 19) rfl⟩, Or.inl rfl⟩
theorem fg_RX1_274_X15 : FG RX1 274 11 1 0 := ⟨RX15, TX15, 3, "TwoHalves$Thing", rfl, by decide, in_X15, by decide, rfl, Or.inr ⟨_, List.mem_of_getElem? (i := 17) rfl⟩, Or.inl rfl⟩
theorem fp_RX3_3_X4i : FP RX3 true 3 2 7 2 (tyX4 7) := ⟨RX4, TX4, 10, "TwoHalves$Reader", tyX4, rfl, by decide, in_X4, by decide, rfl, Or.inl ⟨q278, Or.inr ⟨rfl, rfl, rfl⟩⟩, Or.inl rfl, tyX4_ok, nmX4, tyX4_ok 7 (by decide)⟩
theorem fp_RX3_3_X12i : FP RX3 true 3 9 7 2 (tyX12 7) := ⟨RX12, TX12, 12, "TwoHalves$Reader", tyX12, rfl, by decide, in_X12, by decide, rfl, Or.inl ⟨q278, Or.inr ⟨rfl, rfl, rfl⟩⟩, Or.inl rfl, tyX12_ok, nmX12, tyX12_ok 7 (by decide)⟩
theorem fp_RX3_15_X4i : FP RX3 true 15 2 0 0 (tyX4 0) := ⟨RX4, TX4, 10, "TwoHalves$Reader", tyX4, rfl, by decide, in_X4, by decide, rfl, Or.inl ⟨q259, Or.inr ⟨rfl, rfl, rfl⟩⟩, Or.inl rfl, tyX4_ok, nmX4, tyX4_ok 0 (by decide)⟩
theorem fp_RX3_15_X12i : FP RX3 true 15 9 0 0 (tyX12 0) := ⟨RX12, TX12, 12, "TwoHalves$Reader", tyX12, rfl, by decide, in_X12, by decide, rfl, Or.inl ⟨q259, Or.inr ⟨rfl, rfl, rfl⟩⟩, Or.inl rfl, tyX12_ok, nmX12, tyX12_ok 0 (by decide)⟩
theorem fg_RX3_19_X4 : FG RX3 19 2 1 0 := ⟨RX4, TX4, 10, "TwoHalves$Reader", rfl, by decide, in_X4, by decide, rfl, Or.inl q260, Or.inl rfl⟩
theorem fg_RX3_19_X12 : FG RX3 19 9 1 0 := ⟨RX12, TX12, 12, "TwoHalves$Reader", rfl, by decide, in_X12, by decide, rfl, Or.inl q260, Or.inl rfl⟩
theorem fp_RX3_19_X4 : FP RX3 false 19 2 1 0 (tyX4 1) := ⟨RX4, TX4, 10, "TwoHalves$Reader", tyX4, rfl, by decide, in_X4, by decide, rfl, Or.inl ⟨q260, Or.inl rfl⟩, Or.inl rfl, tyX4_ok, nmX4, tyX4_ok 1 (by decide)⟩
theorem fp_RX3_19_X12 : FP RX3 false 19 9 1 0 (tyX12 1) := ⟨RX12, TX12, 12, "TwoHalves$Reader", tyX12, rfl, by decide, in_X12, by decide, rfl, Or.inl ⟨q260, Or.inl rfl⟩, Or.inl rfl, tyX12_ok, nmX12, tyX12_ok 1 (by decide)⟩
theorem fp_RX3_37_X4 : FP RX3 false 37 2 2 0 (tyX4 2) := ⟨RX4, TX4, 10, "TwoHalves$Reader", tyX4, rfl, by decide, in_X4, by decide, rfl, Or.inl ⟨q265, Or.inl rfl⟩, Or.inl rfl, tyX4_ok, nmX4, tyX4_ok 2 (by decide)⟩
theorem fp_RX3_37_X12 : FP RX3 false 37 9 2 0 (tyX12 2) := ⟨RX12, TX12, 12, "TwoHalves$Reader", tyX12, rfl, by decide, in_X12, by decide, rfl, Or.inl ⟨q265, Or.inl rfl⟩, Or.inl rfl, tyX12_ok, nmX12, tyX12_ok 2 (by decide)⟩
theorem fg_RX3_3_X4 : FG RX3 3 2 7 2 := ⟨RX4, TX4, 10, "TwoHalves$Reader", rfl, by decide, in_X4, by decide, rfl, Or.inl q278, Or.inl rfl⟩
theorem fg_RX3_3_X12 : FG RX3 3 9 7 2 := ⟨RX12, TX12, 12, "TwoHalves$Reader", rfl, by decide, in_X12, by decide, rfl, Or.inl q278, Or.inl rfl⟩
theorem fg_RX3_22_X1 : FG RX3 22 0 2 0 := ⟨RX1, TX1, 34, "TwoHalves", rfl, by decide, in_X1, by decide, rfl, Or.inr ⟨_, List.mem_of_getElem? (i := 46) rfl⟩, Or.inl rfl⟩
theorem fg_RX3_15_X4 : FG RX3 15 2 0 0 := ⟨RX4, TX4, 10, "TwoHalves$Reader", rfl, by decide, in_X4, by decide, rfl, Or.inl q259, Or.inl rfl⟩
theorem fg_RX3_15_X12 : FG RX3 15 9 0 0 := ⟨RX12, TX12, 12, "TwoHalves$Reader", rfl, by decide, in_X12, by decide, rfl, Or.inl q259, Or.inl rfl⟩
theorem fp_RX3_40_X4 : FP RX3 false 40 2 3 0 (tyX4 3) := ⟨RX4, TX4, 10, "TwoHalves$Reader", tyX4, rfl, by decide, in_X4, by decide, rfl, Or.inl ⟨q270, Or.inl rfl⟩, Or.inl rfl, tyX4_ok, nmX4, tyX4_ok 3 (by decide)⟩
theorem fp_RX3_40_X12 : FP RX3 false 40 9 3 0 (tyX12 3) := ⟨RX12, TX12, 12, "TwoHalves$Reader", tyX12, rfl, by decide, in_X12, by decide, rfl, Or.inl ⟨q270, Or.inl rfl⟩, Or.inl rfl, tyX12_ok, nmX12, tyX12_ok 3 (by decide)⟩
theorem fp_RX3_54_X4 : FP RX3 false 54 2 4 0 (tyX4 4) := ⟨RX4, TX4, 10, "TwoHalves$Reader", tyX4, rfl, by decide, in_X4, by decide, rfl, Or.inl ⟨q271, Or.inl rfl⟩, Or.inl rfl, tyX4_ok, nmX4, tyX4_ok 4 (by decide)⟩
theorem fp_RX3_54_X12 : FP RX3 false 54 9 4 0 (tyX12 4) := ⟨RX12, TX12, 12, "TwoHalves$Reader", tyX12, rfl, by decide, in_X12, by decide, rfl, Or.inl ⟨q271, Or.inl rfl⟩, Or.inl rfl, tyX12_ok, nmX12, tyX12_ok 4 (by decide)⟩
theorem fg_RX3_25_X1 : FG RX3 25 0 0 2 := ⟨RX1, TX1, 34, "TwoHalves", rfl, by decide, in_X1, by decide, rfl, Or.inr ⟨_, List.mem_of_getElem? (i := 45) rfl⟩, Or.inl rfl⟩
theorem fp_RX3_57_X4 : FP RX3 false 57 2 6 1 (tyX4 6) := ⟨RX4, TX4, 10, "TwoHalves$Reader", tyX4, rfl, by decide, in_X4, by decide, rfl, Or.inl ⟨q277, Or.inl rfl⟩, Or.inl rfl, tyX4_ok, nmX4, tyX4_ok 6 (by decide)⟩
theorem fp_RX3_57_X12 : FP RX3 false 57 9 6 1 (tyX12 6) := ⟨RX12, TX12, 12, "TwoHalves$Reader", tyX12, rfl, by decide, in_X12, by decide, rfl, Or.inl ⟨q277, Or.inl rfl⟩, Or.inl rfl, tyX12_ok, nmX12, tyX12_ok 6 (by decide)⟩
theorem fg_RX3_37_X4 : FG RX3 37 2 2 0 := ⟨RX4, TX4, 10, "TwoHalves$Reader", rfl, by decide, in_X4, by decide, rfl, Or.inl q265, Or.inl rfl⟩
theorem fg_RX3_37_X12 : FG RX3 37 9 2 0 := ⟨RX12, TX12, 12, "TwoHalves$Reader", rfl, by decide, in_X12, by decide, rfl, Or.inl q265, Or.inl rfl⟩
theorem fg_RX3_54_X4 : FG RX3 54 2 4 0 := ⟨RX4, TX4, 10, "TwoHalves$Reader", rfl, by decide, in_X4, by decide, rfl, Or.inl q271, Or.inl rfl⟩
theorem fg_RX3_54_X12 : FG RX3 54 9 4 0 := ⟨RX12, TX12, 12, "TwoHalves$Reader", rfl, by decide, in_X12, by decide, rfl, Or.inl q271, Or.inl rfl⟩
theorem fg_RX3_57_X4 : FG RX3 57 2 6 1 := ⟨RX4, TX4, 10, "TwoHalves$Reader", rfl, by decide, in_X4, by decide, rfl, Or.inl q277, Or.inl rfl⟩
theorem fg_RX3_57_X12 : FG RX3 57 9 6 1 := ⟨RX12, TX12, 12, "TwoHalves$Reader", rfl, by decide, in_X12, by decide, rfl, Or.inl q277, Or.inl rfl⟩
theorem fp_RX3_61_X4 : FP RX3 false 61 2 5 0 (tyX4 5) := ⟨RX4, TX4, 10, "TwoHalves$Reader", tyX4, rfl, by decide, in_X4, by decide, rfl, Or.inl ⟨q274, Or.inl rfl⟩, Or.inl rfl, tyX4_ok, nmX4, tyX4_ok 5 (by decide)⟩
theorem fp_RX3_61_X12 : FP RX3 false 61 9 5 0 (tyX12 5) := ⟨RX12, TX12, 12, "TwoHalves$Reader", tyX12, rfl, by decide, in_X12, by decide, rfl, Or.inl ⟨q274, Or.inl rfl⟩, Or.inl rfl, tyX12_ok, nmX12, tyX12_ok 5 (by decide)⟩
theorem fg_RX3_61_X4 : FG RX3 61 2 5 0 := ⟨RX4, TX4, 10, "TwoHalves$Reader", rfl, by decide, in_X4, by decide, rfl, Or.inl q274, Or.inl rfl⟩
theorem fg_RX3_61_X12 : FG RX3 61 9 5 0 := ⟨RX12, TX12, 12, "TwoHalves$Reader", rfl, by decide, in_X12, by decide, rfl, Or.inl q274, Or.inl rfl⟩
theorem fg_RX3_40_X4 : FG RX3 40 2 3 0 := ⟨RX4, TX4, 10, "TwoHalves$Reader", rfl, by decide, in_X4, by decide, rfl, Or.inl q270, Or.inl rfl⟩
theorem fg_RX3_40_X12 : FG RX3 40 9 3 0 := ⟨RX12, TX12, 12, "TwoHalves$Reader", rfl, by decide, in_X12, by decide, rfl, Or.inl q270, Or.inl rfl⟩
theorem fg_RX3_77_X1 : FG RX3 77 0 4 2 := ⟨RX1, TX1, 34, "TwoHalves", rfl, by decide, in_X1, by decide, rfl, Or.inr ⟨_, List.mem_of_getElem? (i := 47) rfl⟩, Or.inl rfl⟩
theorem fp_RX3_81_X2 : FP RX3 false 81 1 6 0 (tyX2 6) := ⟨RX2, TX2, 8, "TwoHalves$Fault", tyX2, rfl, by decide, in_X2, by decide, rfl, Or.inl ⟨q199, Or.inl rfl⟩, Or.inl rfl, tyX2_ok, (NM_of nmX2), tyX2_ok 6 (by decide)⟩
theorem fp_RX3_86_X2 : FP RX3 false 86 1 7 0 (tyX2 7) := ⟨RX2, TX2, 8, "TwoHalves$Fault", tyX2, rfl, by decide, in_X2, by decide, rfl, Or.inl ⟨q201, Or.inl rfl⟩, Or.inl rfl, tyX2_ok, (NM_of nmX2), tyX2_ok 7 (by decide)⟩
theorem fg_RX3_102_X1 : FG RX3 102 0 5 2 := ⟨RX1, TX1, 34, "TwoHalves", rfl, by decide, in_X1, by decide, rfl, Or.inr ⟨_, List.mem_of_getElem? (i := 48) rfl⟩, Or.inl rfl⟩
theorem fg_RX3_110_X1 : FG RX3 110 0 6 2 := ⟨RX1, TX1, 34, "TwoHalves", rfl, by decide, in_X1, by decide, rfl, Or.inr ⟨_, List.mem_of_getElem? (i := 49) rfl⟩, Or.inl rfl⟩
theorem fg_RX3_113_X1 : FG RX3 113 0 7 2 := ⟨RX1, TX1, 34, "TwoHalves", rfl, by decide, in_X1, by decide, rfl, Or.inr ⟨_, List.mem_of_getElem? (i := 50) rfl⟩, Or.inl rfl⟩
theorem fg_RX3_116_X1 : FG RX3 116 0 8 2 := ⟨RX1, TX1, 34, "TwoHalves", rfl, by decide, in_X1, by decide, rfl, Or.inr ⟨_, List.mem_of_getElem? (i := 51) rfl⟩, Or.inl rfl⟩
theorem fg_RX3_119_X1 : FG RX3 119 0 9 2 := ⟨RX1, TX1, 34, "TwoHalves", rfl, by decide, in_X1, by decide, rfl, Or.inr ⟨_, List.mem_of_getElem? (i := 52) rfl⟩, Or.inl rfl⟩
theorem fg_RX3_122_X1 : FG RX3 122 0 10 2 := ⟨RX1, TX1, 34, "TwoHalves", rfl, by decide, in_X1, by decide, rfl, Or.inr ⟨_, List.mem_of_getElem? (i := 53) rfl⟩, Or.inl rfl⟩
theorem fg_RX3_125_X15 : FG RX3 125 11 0 1 := ⟨RX15, TX15, 3, "TwoHalves$Named", rfl, by decide, in_X15, by decide, rfl, Or.inl q788, Or.inl rfl⟩
theorem fg_RX3_125_X16 : FG RX3 125 12 0 1 := ⟨RX16, TX16, 9, "TwoHalves$Named", rfl, by decide, in_X16, by decide, rfl, Or.inl q788, Or.inl rfl⟩
theorem fp_RX4_3_X4i : FP RX4 true 3 2 9 2 (tyX4 9) := ⟨RX4, TX4, 10, "TwoHalves$HeadReader", tyX4, rfl, by decide, in_X4, by decide, rfl, Or.inl ⟨q258, Or.inr ⟨rfl, rfl, rfl⟩⟩, Or.inl rfl, tyX4_ok, nmX4, tyX4_ok 9 (by decide)⟩
theorem fp_RX4_15_X4 : FP RX4 false 15 2 8 2 (tyX4 8) := ⟨RX4, TX4, 10, "TwoHalves$HeadReader", tyX4, rfl, by decide, in_X4, by decide, rfl, Or.inl ⟨q257, Or.inl rfl⟩, Or.inl rfl, tyX4_ok, nmX4, tyX4_ok 8 (by decide)⟩
theorem fp_RX4_19_X4 : FP RX4 false 19 2 1 0 (tyX4 1) := ⟨RX4, TX4, 10, "TwoHalves$HeadReader", tyX4, rfl, by decide, in_X4, by decide, rfl, Or.inl ⟨q263, Or.inl rfl⟩, Or.inr q264, tyX4_ok, nmX4, tyX4_ok 1 (by decide)⟩
theorem fg_RX4_27_X4 : FG RX4 27 2 3 0 := ⟨RX4, TX4, 10, "TwoHalves$HeadReader", rfl, by decide, in_X4, by decide, rfl, Or.inl q266, Or.inr q267⟩
theorem fg_RX4_3_X4 : FG RX4 3 2 9 2 := ⟨RX4, TX4, 10, "TwoHalves$HeadReader", rfl, by decide, in_X4, by decide, rfl, Or.inl q258, Or.inl rfl⟩
theorem fg_RX4_30_X1 : FG RX4 30 0 5 2 := ⟨RX1, TX1, 34, "TwoHalves", rfl, by decide, in_X1, by decide, rfl, Or.inr ⟨_, List.mem_of_getElem? (i := 62) rfl⟩, Or.inl rfl⟩
theorem fg_RX4_15_X4 : FG RX4 15 2 8 2 := ⟨RX4, TX4, 10, "TwoHalves$HeadReader", rfl, by decide, in_X4, by decide, rfl, Or.inl q257, Or.inl rfl⟩
theorem fg_RX4_50_X6 : FG RX4 50 4 4 0 := ⟨RX6, TX6, 8, "TwoHalves$Head", rfl, by decide, in_X6, by decide, rfl, Or.inr ⟨_, List.mem_of_getElem? (i := 58) rfl⟩, Or.inl rfl⟩
theorem fg_RX4_47_X6 : FG RX4 47 4 5 0 := ⟨RX6, TX6, 8, "TwoHalves$Head", rfl, by decide, in_X6, by decide, rfl, Or.inr ⟨_, List.mem_of_getElem? (i := 59) rfl⟩, Or.inl rfl⟩
theorem fg_RX4_42_X6 : FG RX4 42 4 3 0 := ⟨RX6, TX6, 8, "TwoHalves$Head", rfl, by decide, in_X6, by decide, rfl, Or.inr ⟨_, List.mem_of_getElem? (i := 57) rfl⟩, Or.inl rfl⟩
theorem fg_RX4_73_X6 : FG RX4 73 4 0 2 := ⟨RX6, TX6, 8, "TwoHalves$Head", rfl, by decide, in_X6, by decide, rfl, Or.inr ⟨_, List.mem_of_getElem? (i := 54) rfl⟩, Or.inl rfl⟩
theorem fg_RX4_95_X1 : FG RX4 95 0 6 2 := ⟨RX1, TX1, 34, "TwoHalves", rfl, by decide, in_X1, by decide, rfl, Or.inr ⟨_, List.mem_of_getElem? (i := 63) rfl⟩, Or.inl rfl⟩
theorem fp_RX4_42_X6 : FP RX4 false 42 4 3 0 (tyX6 3) := ⟨RX6, TX6, 8, "TwoHalves$Head", tyX6, rfl, by decide, in_X6, by decide, rfl, Or.inr ⟨rfl, _, List.mem_of_getElem? (i := 57) rfl⟩, Or.inl rfl, tyX6_ok, (NM_of nmX6), tyX6_ok 3 (by decide)⟩
theorem fg_RX4_85_X4 : FG RX4 85 2 6 1 := ⟨RX4, TX4, 10, "TwoHalves$HeadReader", rfl, by decide, in_X4, by decide, rfl, Or.inl q275, Or.inr q276⟩
theorem fg_RX4_81_X6 : FG RX4 81 4 1 2 := ⟨RX6, TX6, 8, "TwoHalves$Head", rfl, by decide, in_X6, by decide, rfl, Or.inr ⟨_, List.mem_of_getElem? (i := 55) rfl⟩, Or.inl rfl⟩
theorem fg_RX4_107_X15 : FG RX4 107 11 2 0 := ⟨RX15, TX15, 3, "TwoHalves$Thing", rfl, by decide, in_X15, by decide, rfl, Or.inr ⟨_, List.mem_of_getElem? (i := 67) rfl⟩, Or.inl rfl⟩
theorem fp_RX4_107_X15 : FP RX4 false 107 11 2 0 (tyX15 2) := ⟨RX15, TX15, 3, "TwoHalves$Thing", tyX15, rfl, by decide, in_X15, by decide, rfl, Or.inr ⟨rfl, _, List.mem_of_getElem? (i := 67) rfl⟩, Or.inl rfl, tyX15_ok, (NM_of nmX15), tyX15_ok 2 (by decide)⟩
theorem fp_RX4_47_X6 : FP RX4 false 47 4 5 0 (tyX6 5) := ⟨RX6, TX6, 8, "TwoHalves$Head", tyX6, rfl, by decide, in_X6, by decide, rfl, Or.inr ⟨rfl, _, List.mem_of_getElem? (i := 59) rfl⟩, Or.inl rfl, tyX6_ok, (NM_of nmX6), tyX6_ok 5 (by decide)⟩
theorem fg_RX4_109_X1 : FG RX4 109 0 7 2 := ⟨RX1, TX1, 34, "TwoHalves", rfl, by decide, in_X1, by decide, rfl, Or.inr ⟨_, List.mem_of_getElem? (i := 64) rfl⟩, Or.inl rfl⟩
theorem fg_RX4_112_X6 : FG RX4 112 4 2 2 := ⟨RX6, TX6, 8, "TwoHalves$Head", rfl, by decide, in_X6, by decide, rfl, Or.inr ⟨_, List.mem_of_getElem? (i := 56) rfl⟩, Or.inl rfl⟩
theorem fp_RX4_127_X16 : FP RX4 false 127 12 2 0 (tyX16 2) := ⟨RX16, TX16, 9, "TwoHalves$Way", tyX16, rfl, by decide, in_X16, by decide, rfl, Or.inr ⟨rfl, _, List.mem_of_getElem? (i := 68) rfl⟩, Or.inl rfl, tyX16_ok, (NM_of nmX16), tyX16_ok 2 (by decide)⟩
theorem fp_RX4_138_X16 : FP RX4 false 138 12 3 0 (tyX16 3) := ⟨RX16, TX16, 9, "TwoHalves$Way", tyX16, rfl, by decide, in_X16, by decide, rfl, Or.inr ⟨rfl, _, List.mem_of_getElem? (i := 69) rfl⟩, Or.inl rfl, tyX16_ok, (NM_of nmX16), tyX16_ok 3 (by decide)⟩
theorem fp_RX4_50_X6 : FP RX4 false 50 4 4 0 (tyX6 4) := ⟨RX6, TX6, 8, "TwoHalves$Head", tyX6, rfl, by decide, in_X6, by decide, rfl, Or.inr ⟨rfl, _, List.mem_of_getElem? (i := 58) rfl⟩, Or.inl rfl, tyX6_ok, (NM_of nmX6), tyX6_ok 4 (by decide)⟩
theorem fg_RX4_152_X1 : FG RX4 152 0 8 2 := ⟨RX1, TX1, 34, "TwoHalves", rfl, by decide, in_X1, by decide, rfl, Or.inr ⟨_, List.mem_of_getElem? (i := 65) rfl⟩, Or.inl rfl⟩
theorem fg_RX4_155_X16 : FG RX4 155 12 5 0 := ⟨RX16, TX16, 9, "TwoHalves$Way", rfl, by decide, in_X16, by decide, rfl, Or.inr ⟨_, List.mem_of_getElem? (i := 71) rfl⟩, Or.inl rfl⟩
theorem fp_RX4_155_X16 : FP RX4 false 155 12 5 0 (tyX16 5) := ⟨RX16, TX16, 9, "TwoHalves$Way", tyX16, rfl, by decide, in_X16, by decide, rfl, Or.inr ⟨rfl, _, List.mem_of_getElem? (i := 71) rfl⟩, Or.inl rfl, tyX16_ok, (NM_of nmX16), tyX16_ok 5 (by decide)⟩
theorem fp_RX4_148_X16 : FP RX4 false 148 12 4 0 (tyX16 4) := ⟨RX16, TX16, 9, "TwoHalves$Way", tyX16, rfl, by decide, in_X16, by decide, rfl, Or.inr ⟨rfl, _, List.mem_of_getElem? (i := 70) rfl⟩, Or.inl rfl, tyX16_ok, (NM_of nmX16), tyX16_ok 4 (by decide)⟩
theorem fp_RX4_143_X16 : FP RX4 false 143 12 8 0 (tyX16 8) := ⟨RX16, TX16, 9, "TwoHalves$Way", tyX16, rfl, by decide, in_X16, by decide, rfl, Or.inr ⟨rfl, _, List.mem_of_getElem? (i := 74) rfl⟩, Or.inl rfl, tyX16_ok, (NM_of nmX16), tyX16_ok 8 (by decide)⟩
theorem fg_RX4_161_X1 : FG RX4 161 0 9 2 := ⟨RX1, TX1, 34, "TwoHalves", rfl, by decide, in_X1, by decide, rfl, Or.inr ⟨_, List.mem_of_getElem? (i := 66) rfl⟩, Or.inl rfl⟩
theorem fp_RX4_164_X16 : FP RX4 false 164 12 6 0 (tyX16 6) := ⟨RX16, TX16, 9, "TwoHalves$Way", tyX16, rfl, by decide, in_X16, by decide, rfl, Or.inr ⟨rfl, _, List.mem_of_getElem? (i := 72) rfl⟩, Or.inl rfl, tyX16_ok, (NM_of nmX16), tyX16_ok 6 (by decide)⟩
theorem fg_RX4_164_X16 : FG RX4 164 12 6 0 := ⟨RX16, TX16, 9, "TwoHalves$Way", rfl, by decide, in_X16, by decide, rfl, Or.inr ⟨_, List.mem_of_getElem? (i := 72) rfl⟩, Or.inl rfl⟩
theorem fg_RX4_166_X6 : FG RX4 166 4 6 0 := ⟨RX6, TX6, 8, "TwoHalves$Head", rfl, by decide, in_X6, by decide, rfl, Or.inr ⟨_, List.mem_of_getElem? (i := 60) rfl⟩, Or.inl rfl⟩
theorem fp_RX4_166_X6 : FP RX4 false 166 4 6 0 (tyX6 6) := ⟨RX6, TX6, 8, "TwoHalves$Head", tyX6, rfl, by decide, in_X6, by decide, rfl, Or.inr ⟨rfl, _, List.mem_of_getElem? (i := 60) rfl⟩, Or.inl rfl, tyX6_ok, (NM_of nmX6), tyX6_ok 6 (by decide)⟩
theorem fg_RX4_169_X6 : FG RX4 169 4 7 0 := ⟨RX6, TX6, 8, "TwoHalves$Head", rfl, by decide, in_X6, by decide, rfl, Or.inr ⟨_, List.mem_of_getElem? (i := 61) rfl⟩, Or.inl rfl⟩
theorem fp_RX4_169_X6 : FP RX4 false 169 4 7 0 (tyX6 7) := ⟨RX6, TX6, 8, "TwoHalves$Head", tyX6, rfl, by decide, in_X6, by decide, rfl, Or.inr ⟨rfl, _, List.mem_of_getElem? (i := 61) rfl⟩, Or.inl rfl, tyX6_ok, (NM_of nmX6), tyX6_ok 7 (by decide)⟩
theorem fp_RX4_172_X16 : FP RX4 false 172 12 7 0 (tyX16 7) := ⟨RX16, TX16, 9, "TwoHalves$Way", tyX16, rfl, by decide, in_X16, by decide, rfl, Or.inr ⟨rfl, _, List.mem_of_getElem? (i := 73) rfl⟩, Or.inl rfl, tyX16_ok, (NM_of nmX16), tyX16_ok 7 (by decide)⟩
theorem fp_RX5_12_X5i : FP RX5 true 12 3 0 2 (tyX5 0) := ⟨RX5, TX5, 7, "TwoHalves$State", tyX5, rfl, by decide, in_X5, by decide, rfl, Or.inl ⟨q381, Or.inl rfl⟩, Or.inl rfl, tyX5_ok, (NM_of nmX5), tyX5_ok 0 (by decide)⟩
theorem fp_RX5_20_X5i : FP RX5 true 20 3 4 2 (tyX5 4) := ⟨RX5, TX5, 7, "TwoHalves$State", tyX5, rfl, by decide, in_X5, by decide, rfl, Or.inl ⟨q392, Or.inr ⟨rfl, rfl, rfl⟩⟩, Or.inl rfl, tyX5_ok, (NM_of nmX5), tyX5_ok 4 (by decide)⟩
theorem fp_RX5_26_X5i : FP RX5 true 26 3 5 2 (tyX5 5) := ⟨RX5, TX5, 7, "TwoHalves$State", tyX5, rfl, by decide, in_X5, by decide, rfl, Or.inl ⟨q395, Or.inr ⟨rfl, rfl, rfl⟩⟩, Or.inl rfl, tyX5_ok, (NM_of nmX5), tyX5_ok 5 (by decide)⟩
theorem fg_RX5_20_X5 : FG RX5 20 3 4 2 := ⟨RX5, TX5, 7, "TwoHalves$State", rfl, by decide, in_X5, by decide, rfl, Or.inl q392, Or.inl rfl⟩
theorem fp_RX5_31_X5 : FP RX5 false 31 3 1 0 (tyX5 1) := ⟨RX5, TX5, 7, "TwoHalves$State", tyX5, rfl, by decide, in_X5, by decide, rfl, Or.inl ⟨q386, Or.inl rfl⟩, Or.inl rfl, tyX5_ok, (NM_of nmX5), tyX5_ok 1 (by decide)⟩
theorem fp_RX5_38_X5 : FP RX5 false 38 3 3 0 (tyX5 3) := ⟨RX5, TX5, 7, "TwoHalves$State", tyX5, rfl, by decide, in_X5, by decide, rfl, Or.inl ⟨q390, Or.inl rfl⟩, Or.inl rfl, tyX5_ok, (NM_of nmX5), tyX5_ok 3 (by decide)⟩
theorem fp_RX5_41_X5 : FP RX5 false 41 3 6 2 (tyX5 6) := ⟨RX5, TX5, 7, "TwoHalves$State", tyX5, rfl, by decide, in_X5, by decide, rfl, Or.inl ⟨q397, Or.inl rfl⟩, Or.inl rfl, tyX5_ok, (NM_of nmX5), tyX5_ok 6 (by decide)⟩
theorem fp_RX5_51_X7 : FP RX5 false 51 5 1 0 (tyX7 1) := ⟨RX7, TX7, 2, "TwoHalves$Book", tyX7, rfl, by decide, in_X7, by decide, rfl, Or.inr ⟨rfl, _, List.mem_of_getElem? (i := 76) rfl⟩, Or.inl rfl, tyX7_ok, (NM_of nmX7), tyX7_ok 1 (by decide)⟩
theorem fg_RX5_12_X5 : FG RX5 12 3 0 2 := ⟨RX5, TX5, 7, "TwoHalves$State", rfl, by decide, in_X5, by decide, rfl, Or.inl q381, Or.inl rfl⟩
theorem fp_RX5_12_X5 : FP RX5 false 12 3 0 2 (tyX5 0) := ⟨RX5, TX5, 7, "TwoHalves$State", tyX5, rfl, by decide, in_X5, by decide, rfl, Or.inl ⟨q381, Or.inl rfl⟩, Or.inl rfl, tyX5_ok, (NM_of nmX5), tyX5_ok 0 (by decide)⟩
theorem fg_RX5_31_X5 : FG RX5 31 3 1 0 := ⟨RX5, TX5, 7, "TwoHalves$State", rfl, by decide, in_X5, by decide, rfl, Or.inl q386, Or.inl rfl⟩
theorem fg_RX5_35_X5 : FG RX5 35 3 2 0 := ⟨RX5, TX5, 7, "TwoHalves$State", rfl, by decide, in_X5, by decide, rfl, Or.inl q388, Or.inl rfl⟩
theorem fp_RX5_35_X5 : FP RX5 false 35 3 2 0 (tyX5 2) := ⟨RX5, TX5, 7, "TwoHalves$State", tyX5, rfl, by decide, in_X5, by decide, rfl, Or.inl ⟨q388, Or.inl rfl⟩, Or.inl rfl, tyX5_ok, (NM_of nmX5), tyX5_ok 2 (by decide)⟩
theorem fg_RX5_38_X5 : FG RX5 38 3 3 0 := ⟨RX5, TX5, 7, "TwoHalves$State", rfl, by decide, in_X5, by decide, rfl, Or.inl q390, Or.inl rfl⟩
theorem fg_RX5_41_X5 : FG RX5 41 3 6 2 := ⟨RX5, TX5, 7, "TwoHalves$State", rfl, by decide, in_X5, by decide, rfl, Or.inl q397, Or.inl rfl⟩
theorem fg_RX5_26_X5 : FG RX5 26 3 5 2 := ⟨RX5, TX5, 7, "TwoHalves$State", rfl, by decide, in_X5, by decide, rfl, Or.inl q395, Or.inl rfl⟩
theorem fg_RX5_51_X7 : FG RX5 51 5 1 0 := ⟨RX7, TX7, 2, "TwoHalves$Book", rfl, by decide, in_X7, by decide, rfl, Or.inr ⟨_, List.mem_of_getElem? (i := 76) rfl⟩, Or.inl rfl⟩
theorem fg_RX5_54_X7 : FG RX5 54 5 0 2 := ⟨RX7, TX7, 2, "TwoHalves$Book", rfl, by decide, in_X7, by decide, rfl, Or.inr ⟨_, List.mem_of_getElem? (i := 75) rfl⟩, Or.inl rfl⟩
theorem fp_RX6_11_X6i : FP RX6 true 11 4 0 2 (tyX6 0) := ⟨RX6, TX6, 8, "TwoHalves$Head", tyX6, rfl, by decide, in_X6, by decide, rfl, Or.inl ⟨q316, Or.inr ⟨rfl, rfl, rfl⟩⟩, Or.inl rfl, tyX6_ok, (NM_of nmX6), tyX6_ok 0 (by decide)⟩
theorem fp_RX6_19_X6i : FP RX6 true 19 4 1 2 (tyX6 1) := ⟨RX6, TX6, 8, "TwoHalves$Head", tyX6, rfl, by decide, in_X6, by decide, rfl, Or.inl ⟨q320, Or.inr ⟨rfl, rfl, rfl⟩⟩, Or.inl rfl, tyX6_ok, (NM_of nmX6), tyX6_ok 1 (by decide)⟩
theorem fp_RX6_23_X6i : FP RX6 true 23 4 2 2 (tyX6 2) := ⟨RX6, TX6, 8, "TwoHalves$Head", tyX6, rfl, by decide, in_X6, by decide, rfl, Or.inl ⟨q325, Or.inr ⟨rfl, rfl, rfl⟩⟩, Or.inl rfl, tyX6_ok, (NM_of nmX6), tyX6_ok 2 (by decide)⟩
theorem fg_RX6_31_X6 : FG RX6 31 4 4 0 := ⟨RX6, TX6, 8, "TwoHalves$Head", rfl, by decide, in_X6, by decide, rfl, Or.inl q332, Or.inl rfl⟩
theorem fg_RX6_19_X6 : FG RX6 19 4 1 2 := ⟨RX6, TX6, 8, "TwoHalves$Head", rfl, by decide, in_X6, by decide, rfl, Or.inl q320, Or.inl rfl⟩
theorem fg_RX6_34_X16 : FG RX6 34 12 6 0 := ⟨RX16, TX16, 9, "TwoHalves$Way", rfl, by decide, in_X16, by decide, rfl, Or.inr ⟨_, List.mem_of_getElem? (i := 78) rfl⟩, Or.inl rfl⟩
theorem fg_RX6_23_X6 : FG RX6 23 4 2 2 := ⟨RX6, TX6, 8, "TwoHalves$Head", rfl, by decide, in_X6, by decide, rfl, Or.inl q325, Or.inl rfl⟩
theorem fg_RX6_11_X6 : FG RX6 11 4 0 2 := ⟨RX6, TX6, 8, "TwoHalves$Head", rfl, by decide, in_X6, by decide, rfl, Or.inl q316, Or.inl rfl⟩
theorem fg_RX6_27_X15 : FG RX6 27 11 1 0 := ⟨RX15, TX15, 3, "TwoHalves$Thing", rfl, by decide, in_X15, by decide, rfl, Or.inr ⟨_, List.mem_of_getElem? (i := 77) rfl⟩, Or.inl rfl⟩
theorem fp_RX7_11_X7i : FP RX7 true 11 5 0 2 (tyX7 0) := ⟨RX7, TX7, 2, "TwoHalves$Book", tyX7, rfl, by decide, in_X7, by decide, rfl, Or.inl ⟨q369, Or.inr ⟨rfl, rfl, rfl⟩⟩, Or.inl rfl, tyX7_ok, (NM_of nmX7), tyX7_ok 0 (by decide)⟩
theorem fp_RX8_3_X8i : FP RX8 true 3 6 1 2 (tyX8 1) := ⟨RX8, TX8, 2, "TwoHalves$Mind", tyX8, rfl, by decide, in_X8, by decide, rfl, Or.inl ⟨q425, Or.inr ⟨rfl, rfl, rfl⟩⟩, Or.inl rfl, tyX8_ok, (NM_of nmX8), tyX8_ok 1 (by decide)⟩
theorem fp_RX8_17_X8i : FP RX8 true 17 6 0 2 (tyX8 0) := ⟨RX8, TX8, 2, "TwoHalves$Mind", tyX8, rfl, by decide, in_X8, by decide, rfl, Or.inl ⟨q422, Or.inr ⟨rfl, rfl, rfl⟩⟩, Or.inl rfl, tyX8_ok, (NM_of nmX8), tyX8_ok 0 (by decide)⟩
theorem fg_RX8_3_X8 : FG RX8 3 6 1 2 := ⟨RX8, TX8, 2, "TwoHalves$Mind", rfl, by decide, in_X8, by decide, rfl, Or.inl q425, Or.inl rfl⟩
theorem fg_RX8_33_X1 : FG RX8 33 0 12 2 := ⟨RX1, TX1, 34, "TwoHalves", rfl, by decide, in_X1, by decide, rfl, Or.inr ⟨_, List.mem_of_getElem? (i := 84) rfl⟩, Or.inl rfl⟩
theorem fg_RX8_37_X5 : FG RX8 37 3 0 2 := ⟨RX5, TX5, 7, "TwoHalves$State", rfl, by decide, in_X5, by decide, rfl, Or.inr ⟨_, List.mem_of_getElem? (i := 83) rfl⟩, Or.inl rfl⟩
theorem fg_RX8_43_X6 : FG RX8 43 4 4 0 := ⟨RX6, TX6, 8, "TwoHalves$Head", rfl, by decide, in_X6, by decide, rfl, Or.inr ⟨_, List.mem_of_getElem? (i := 82) rfl⟩, Or.inl rfl⟩
theorem fg_RX8_48_X6 : FG RX8 48 4 1 2 := ⟨RX6, TX6, 8, "TwoHalves$Head", rfl, by decide, in_X6, by decide, rfl, Or.inr ⟨_, List.mem_of_getElem? (i := 80) rfl⟩, Or.inl rfl⟩
theorem fg_RX8_52_X17 : FG RX8 52 13 4 0 := ⟨RX17, TX17, 8, "TwoHalves$Showing", rfl, by decide, in_X17, by decide, rfl, Or.inr ⟨_, List.mem_of_getElem? (i := 94) rfl⟩, Or.inl rfl⟩
theorem fg_RX8_55_X17 : FG RX8 55 13 3 0 := ⟨RX17, TX17, 8, "TwoHalves$Showing", rfl, by decide, in_X17, by decide, rfl, Or.inr ⟨_, List.mem_of_getElem? (i := 93) rfl⟩, Or.inl rfl⟩
theorem fg_RX8_64_X17 : FG RX8 64 13 2 0 := ⟨RX17, TX17, 8, "TwoHalves$Showing", rfl, by decide, in_X17, by decide, rfl, Or.inr ⟨_, List.mem_of_getElem? (i := 92) rfl⟩, Or.inl rfl⟩
theorem fg_RX8_17_X8 : FG RX8 17 6 0 2 := ⟨RX8, TX8, 2, "TwoHalves$Mind", rfl, by decide, in_X8, by decide, rfl, Or.inl q422, Or.inl rfl⟩
theorem fg_RX8_20_X17 : FG RX8 20 13 1 0 := ⟨RX17, TX17, 8, "TwoHalves$Showing", rfl, by decide, in_X17, by decide, rfl, Or.inr ⟨_, List.mem_of_getElem? (i := 91) rfl⟩, Or.inl rfl⟩
theorem fg_RX8_26_X17 : FG RX8 26 13 0 0 := ⟨RX17, TX17, 8, "TwoHalves$Showing", rfl, by decide, in_X17, by decide, rfl, Or.inr ⟨_, List.mem_of_getElem? (i := 90) rfl⟩, Or.inl rfl⟩
theorem fg_RX8_71_X6 : FG RX8 71 4 3 0 := ⟨RX6, TX6, 8, "TwoHalves$Head", rfl, by decide, in_X6, by decide, rfl, Or.inr ⟨_, List.mem_of_getElem? (i := 81) rfl⟩, Or.inl rfl⟩
theorem fg_RX8_74_X16 : FG RX8 74 12 1 0 := ⟨RX16, TX16, 9, "TwoHalves$Way", rfl, by decide, in_X16, by decide, rfl, Or.inr ⟨_, List.mem_of_getElem? (i := 87) rfl⟩, Or.inl rfl⟩
theorem fg_RX8_77_X16 : FG RX8 77 12 3 0 := ⟨RX16, TX16, 9, "TwoHalves$Way", rfl, by decide, in_X16, by decide, rfl, Or.inr ⟨_, List.mem_of_getElem? (i := 89) rfl⟩, Or.inl rfl⟩
theorem fg_RX8_78_X16 : FG RX8 78 12 2 0 := ⟨RX16, TX16, 9, "TwoHalves$Way", rfl, by decide, in_X16, by decide, rfl, Or.inr ⟨_, List.mem_of_getElem? (i := 88) rfl⟩, Or.inl rfl⟩
theorem fg_RX8_81_X6 : FG RX8 81 4 0 2 := ⟨RX6, TX6, 8, "TwoHalves$Head", rfl, by decide, in_X6, by decide, rfl, Or.inr ⟨_, List.mem_of_getElem? (i := 79) rfl⟩, Or.inl rfl⟩
theorem fg_RX8_85_X15 : FG RX8 85 11 1 0 := ⟨RX15, TX15, 3, "TwoHalves$Thing", rfl, by decide, in_X15, by decide, rfl, Or.inr ⟨_, List.mem_of_getElem? (i := 85) rfl⟩, Or.inl rfl⟩
theorem fg_RX8_100_X15 : FG RX8 100 11 2 0 := ⟨RX15, TX15, 3, "TwoHalves$Thing", rfl, by decide, in_X15, by decide, rfl, Or.inr ⟨_, List.mem_of_getElem? (i := 86) rfl⟩, Or.inl rfl⟩
theorem fp_RX9_1_X10i : FP RX9 true 1 7 0 2 (tyX10 0) := ⟨RX10, TX10, 3, "TwoHalves$Asked", tyX10, rfl, by decide, in_X10, by decide, rfl, Or.inl ⟨q442, Or.inr ⟨rfl, rfl, rfl⟩⟩, Or.inl rfl, tyX10_ok, nmX10, tyX10_ok 0 (by decide)⟩
theorem fp_RX9_1_X11i : FP RX9 true 1 8 0 2 (tyX11 0) := ⟨RX11, TX11, 2, "TwoHalves$Asked", tyX11, rfl, by decide, in_X11, by decide, rfl, Or.inl ⟨q442, Or.inr ⟨rfl, rfl, rfl⟩⟩, Or.inl rfl, tyX11_ok, nmX11, tyX11_ok 0 (by decide)⟩
theorem fp_RX10_3_X10i : FP RX10 true 3 7 2 2 (tyX10 2) := ⟨RX10, TX10, 3, "TwoHalves$Hand", tyX10, rfl, by decide, in_X10, by decide, rfl, Or.inl ⟨q441, Or.inr ⟨rfl, rfl, rfl⟩⟩, Or.inl rfl, tyX10_ok, nmX10, tyX10_ok 2 (by decide)⟩
theorem fp_RX10_15_X10i : FP RX10 true 15 7 1 0 (tyX10 1) := ⟨RX10, TX10, 3, "TwoHalves$Hand", tyX10, rfl, by decide, in_X10, by decide, rfl, Or.inl ⟨q440, Or.inr ⟨rfl, rfl, rfl⟩⟩, Or.inl rfl, tyX10_ok, nmX10, tyX10_ok 1 (by decide)⟩
theorem fg_RX10_19_X17 : FG RX10 19 13 6 2 := ⟨RX17, TX17, 8, "TwoHalves$Showing", rfl, by decide, in_X17, by decide, rfl, Or.inr ⟨_, List.mem_of_getElem? (i := 30) rfl⟩, Or.inl rfl⟩
theorem fg_RX10_15_X10 : FG RX10 15 7 1 0 := ⟨RX10, TX10, 3, "TwoHalves$Hand", rfl, by decide, in_X10, by decide, rfl, Or.inl q440, Or.inl rfl⟩
theorem fg_RX10_25_X8 : FG RX10 25 6 0 2 := ⟨RX8, TX8, 2, "TwoHalves$Mind", rfl, by decide, in_X8, by decide, rfl, Or.inr ⟨_, List.mem_of_getElem? (i := 29) rfl⟩, Or.inl rfl⟩
theorem fp_RX11_3_X11i : FP RX11 true 3 8 1 2 (tyX11 1) := ⟨RX11, TX11, 2, "TwoHalves$Mouth", tyX11, rfl, by decide, in_X11, by decide, rfl, Or.inl ⟨q458, Or.inr ⟨rfl, rfl, rfl⟩⟩, Or.inl rfl, tyX11_ok, nmX11, tyX11_ok 1 (by decide)⟩
theorem fg_RX11_3_X11 : FG RX11 3 8 1 2 := ⟨RX11, TX11, 2, "TwoHalves$Mouth", rfl, by decide, in_X11, by decide, rfl, Or.inl q458, Or.inl rfl⟩
theorem fg_RX11_15_X1 : FG RX11 15 0 12 2 := ⟨RX1, TX1, 34, "TwoHalves", rfl, by decide, in_X1, by decide, rfl, Or.inr ⟨_, List.mem_of_getElem? (i := 33) rfl⟩, Or.inl rfl⟩
theorem fg_RX11_19_X5 : FG RX11 19 3 0 2 := ⟨RX5, TX5, 7, "TwoHalves$State", rfl, by decide, in_X5, by decide, rfl, Or.inr ⟨_, List.mem_of_getElem? (i := 32) rfl⟩, Or.inl rfl⟩
theorem fg_RX11_25_X6 : FG RX11 25 4 3 0 := ⟨RX6, TX6, 8, "TwoHalves$Head", rfl, by decide, in_X6, by decide, rfl, Or.inr ⟨_, List.mem_of_getElem? (i := 31) rfl⟩, Or.inl rfl⟩
theorem fp_RX12_3_X12i : FP RX12 true 3 9 11 2 (tyX12 11) := ⟨RX12, TX12, 12, "TwoHalves$SentenceReader", tyX12, rfl, by decide, in_X12, by decide, rfl, Or.inl ⟨q482, Or.inr ⟨rfl, rfl, rfl⟩⟩, Or.inl rfl, tyX12_ok, nmX12, tyX12_ok 11 (by decide)⟩
theorem fp_RX12_23_X12i : FP RX12 true 23 9 8 2 (tyX12 8) := ⟨RX12, TX12, 12, "TwoHalves$SentenceReader", tyX12, rfl, by decide, in_X12, by decide, rfl, Or.inl ⟨q478, Or.inr ⟨rfl, rfl, rfl⟩⟩, Or.inl rfl, tyX12_ok, nmX12, tyX12_ok 8 (by decide)⟩
theorem fp_RX12_35_X12i : FP RX12 true 35 9 9 2 (tyX12 9) := ⟨RX12, TX12, 12, "TwoHalves$SentenceReader", tyX12, rfl, by decide, in_X12, by decide, rfl, Or.inl ⟨q479, Or.inr ⟨rfl, rfl, rfl⟩⟩, Or.inl rfl, tyX12_ok, nmX12, tyX12_ok 9 (by decide)⟩
theorem fp_RX12_38_X12 : FP RX12 false 38 9 1 0 (tyX12 1) := ⟨RX12, TX12, 12, "TwoHalves$SentenceReader", tyX12, rfl, by decide, in_X12, by decide, rfl, Or.inl ⟨q261, Or.inl rfl⟩, Or.inr q262, tyX12_ok, nmX12, tyX12_ok 1 (by decide)⟩
theorem fp_RX12_42_X12 : FP RX12 false 42 9 10 0 (tyX12 10) := ⟨RX12, TX12, 12, "TwoHalves$SentenceReader", tyX12, rfl, by decide, in_X12, by decide, rfl, Or.inl ⟨q480, Or.inl rfl⟩, Or.inl rfl, tyX12_ok, nmX12, tyX12_ok 10 (by decide)⟩
theorem fg_RX12_53_X12 : FG RX12 53 9 3 0 := ⟨RX12, TX12, 12, "TwoHalves$SentenceReader", rfl, by decide, in_X12, by decide, rfl, Or.inl q268, Or.inr q269⟩
theorem fg_RX12_23_X12 : FG RX12 23 9 8 2 := ⟨RX12, TX12, 12, "TwoHalves$SentenceReader", rfl, by decide, in_X12, by decide, rfl, Or.inl q478, Or.inl rfl⟩
theorem fg_RX12_35_X12 : FG RX12 35 9 9 2 := ⟨RX12, TX12, 12, "TwoHalves$SentenceReader", rfl, by decide, in_X12, by decide, rfl, Or.inl q479, Or.inl rfl⟩
theorem fg_RX12_42_X12 : FG RX12 42 9 10 0 := ⟨RX12, TX12, 12, "TwoHalves$SentenceReader", rfl, by decide, in_X12, by decide, rfl, Or.inl q480, Or.inl rfl⟩
theorem fg_RX12_3_X12 : FG RX12 3 9 11 2 := ⟨RX12, TX12, 12, "TwoHalves$SentenceReader", rfl, by decide, in_X12, by decide, rfl, Or.inl q482, Or.inl rfl⟩
theorem fg_RX12_109_X1 : FG RX12 109 0 12 2 := ⟨RX1, TX1, 34, "TwoHalves", rfl, by decide, in_X1, by decide, rfl, Or.inr ⟨_, List.mem_of_getElem? (i := 37) rfl⟩, Or.inl rfl⟩
theorem fg_RX12_113_X5 : FG RX12 113 3 0 2 := ⟨RX5, TX5, 7, "TwoHalves$State", rfl, by decide, in_X5, by decide, rfl, Or.inr ⟨_, List.mem_of_getElem? (i := 36) rfl⟩, Or.inl rfl⟩
theorem fg_RX12_119_X6 : FG RX12 119 4 1 2 := ⟨RX6, TX6, 8, "TwoHalves$Head", rfl, by decide, in_X6, by decide, rfl, Or.inr ⟨_, List.mem_of_getElem? (i := 34) rfl⟩, Or.inl rfl⟩
theorem fg_RX12_124_X6 : FG RX12 124 4 4 0 := ⟨RX6, TX6, 8, "TwoHalves$Head", rfl, by decide, in_X6, by decide, rfl, Or.inr ⟨_, List.mem_of_getElem? (i := 35) rfl⟩, Or.inl rfl⟩
theorem fg_RX12_136_X12 : FG RX12 136 9 4 0 := ⟨RX12, TX12, 12, "TwoHalves$SentenceReader", rfl, by decide, in_X12, by decide, rfl, Or.inl q272, Or.inr q273⟩
theorem fp_RX13_7_X13i : FP RX13 true 7 10 1 2 (tyX13 1) := ⟨RX13, TX13, 42, "TwoHalvesModel", tyX13, rfl, by decide, in_X13, by decide, rfl, Or.inl ⟨q1387, Or.inr ⟨rfl, rfl, rfl⟩⟩, Or.inl rfl, tyX13_ok, (NM_of nmX13), tyX13_ok 1 (by decide)⟩
theorem fp_RX13_13_X13i : FP RX13 true 13 10 13 2 (tyX13 13) := ⟨RX13, TX13, 42, "TwoHalvesModel", tyX13, rfl, by decide, in_X13, by decide, rfl, Or.inl ⟨q1399, Or.inr ⟨rfl, rfl, rfl⟩⟩, Or.inl rfl, tyX13_ok, (NM_of nmX13), tyX13_ok 13 (by decide)⟩
theorem fp_RX13_16_X13i : FP RX13 true 16 10 14 2 (tyX13 14) := ⟨RX13, TX13, 42, "TwoHalvesModel", tyX13, rfl, by decide, in_X13, by decide, rfl, Or.inl ⟨q1400, Or.inr ⟨rfl, rfl, rfl⟩⟩, Or.inl rfl, tyX13_ok, (NM_of nmX13), tyX13_ok 14 (by decide)⟩
theorem fp_RX13_19_X13i : FP RX13 true 19 10 15 2 (tyX13 15) := ⟨RX13, TX13, 42, "TwoHalvesModel", tyX13, rfl, by decide, in_X13, by decide, rfl, Or.inl ⟨q1401, Or.inr ⟨rfl, rfl, rfl⟩⟩, Or.inl rfl, tyX13_ok, (NM_of nmX13), tyX13_ok 15 (by decide)⟩
theorem fp_RX13_22_X13i : FP RX13 true 22 10 16 2 (tyX13 16) := ⟨RX13, TX13, 42, "TwoHalvesModel", tyX13, rfl, by decide, in_X13, by decide, rfl, Or.inl ⟨q1402, Or.inr ⟨rfl, rfl, rfl⟩⟩, Or.inl rfl, tyX13_ok, (NM_of nmX13), tyX13_ok 16 (by decide)⟩
theorem fp_RX13_26_X13i : FP RX13 true 26 10 17 2 (tyX13 17) := ⟨RX13, TX13, 42, "TwoHalvesModel", tyX13, rfl, by decide, in_X13, by decide, rfl, Or.inl ⟨q1403, Or.inr ⟨rfl, rfl, rfl⟩⟩, Or.inl rfl, tyX13_ok, (NM_of nmX13), tyX13_ok 17 (by decide)⟩
theorem fp_RX13_29_X13i : FP RX13 true 29 10 18 2 (tyX13 18) := ⟨RX13, TX13, 42, "TwoHalvesModel", tyX13, rfl, by decide, in_X13, by decide, rfl, Or.inl ⟨q1404, Or.inr ⟨rfl, rfl, rfl⟩⟩, Or.inl rfl, tyX13_ok, (NM_of nmX13), tyX13_ok 18 (by decide)⟩
theorem fp_RX13_32_X13i : FP RX13 true 32 10 19 2 (tyX13 19) := ⟨RX13, TX13, 42, "TwoHalvesModel", tyX13, rfl, by decide, in_X13, by decide, rfl, Or.inl ⟨q1405, Or.inr ⟨rfl, rfl, rfl⟩⟩, Or.inl rfl, tyX13_ok, (NM_of nmX13), tyX13_ok 19 (by decide)⟩
theorem fp_RX13_36_X13i : FP RX13 true 36 10 23 2 (tyX13 23) := ⟨RX13, TX13, 42, "TwoHalvesModel", tyX13, rfl, by decide, in_X13, by decide, rfl, Or.inl ⟨q1409, Or.inr ⟨rfl, rfl, rfl⟩⟩, Or.inl rfl, tyX13_ok, (NM_of nmX13), tyX13_ok 23 (by decide)⟩
theorem fp_RX13_39_X13i : FP RX13 true 39 10 31 2 (tyX13 31) := ⟨RX13, TX13, 42, "TwoHalvesModel", tyX13, rfl, by decide, in_X13, by decide, rfl, Or.inl ⟨q1417, Or.inr ⟨rfl, rfl, rfl⟩⟩, Or.inl rfl, tyX13_ok, (NM_of nmX13), tyX13_ok 31 (by decide)⟩
theorem fp_RX13_42_X13i : FP RX13 true 42 10 32 2 (tyX13 32) := ⟨RX13, TX13, 42, "TwoHalvesModel", tyX13, rfl, by decide, in_X13, by decide, rfl, Or.inl ⟨q1418, Or.inr ⟨rfl, rfl, rfl⟩⟩, Or.inl rfl, tyX13_ok, (NM_of nmX13), tyX13_ok 32 (by decide)⟩
theorem fp_RX13_45_X13i : FP RX13 true 45 10 33 2 (tyX13 33) := ⟨RX13, TX13, 42, "TwoHalvesModel", tyX13, rfl, by decide, in_X13, by decide, rfl, Or.inl ⟨q1419, Or.inr ⟨rfl, rfl, rfl⟩⟩, Or.inl rfl, tyX13_ok, (NM_of nmX13), tyX13_ok 33 (by decide)⟩
theorem fp_RX13_48_X13i : FP RX13 true 48 10 35 2 (tyX13 35) := ⟨RX13, TX13, 42, "TwoHalvesModel", tyX13, rfl, by decide, in_X13, by decide, rfl, Or.inl ⟨q1421, Or.inr ⟨rfl, rfl, rfl⟩⟩, Or.inl rfl, tyX13_ok, (NM_of nmX13), tyX13_ok 35 (by decide)⟩
theorem fp_RX13_52_X13i : FP RX13 true 52 10 36 2 (tyX13 36) := ⟨RX13, TX13, 42, "TwoHalvesModel", tyX13, rfl, by decide, in_X13, by decide, rfl, Or.inl ⟨q1422, Or.inr ⟨rfl, rfl, rfl⟩⟩, Or.inl rfl, tyX13_ok, (NM_of nmX13), tyX13_ok 36 (by decide)⟩
theorem fp_RX13_55_X13i : FP RX13 true 55 10 37 2 (tyX13 37) := ⟨RX13, TX13, 42, "TwoHalvesModel", tyX13, rfl, by decide, in_X13, by decide, rfl, Or.inl ⟨q1423, Or.inr ⟨rfl, rfl, rfl⟩⟩, Or.inl rfl, tyX13_ok, (NM_of nmX13), tyX13_ok 37 (by decide)⟩
theorem fg_RX13_58_X13 : FG RX13 58 10 0 0 := ⟨RX13, TX13, 42, "TwoHalvesModel", rfl, by decide, in_X13, by decide, rfl, Or.inl q1386, Or.inl rfl⟩
theorem fp_RX13_58_X13 : FP RX13 false 58 10 0 0 (tyX13 0) := ⟨RX13, TX13, 42, "TwoHalvesModel", tyX13, rfl, by decide, in_X13, by decide, rfl, Or.inl ⟨q1386, Or.inl rfl⟩, Or.inl rfl, tyX13_ok, (NM_of nmX13), tyX13_ok 0 (by decide)⟩
theorem fg_RX13_62_X13 : FG RX13 62 10 2 0 := ⟨RX13, TX13, 42, "TwoHalvesModel", rfl, by decide, in_X13, by decide, rfl, Or.inl q1388, Or.inl rfl⟩
theorem fg_RX13_7_X13 : FG RX13 7 10 1 2 := ⟨RX13, TX13, 42, "TwoHalvesModel", rfl, by decide, in_X13, by decide, rfl, Or.inl q1387, Or.inl rfl⟩
theorem fp_RX13_62_X13 : FP RX13 false 62 10 2 0 (tyX13 2) := ⟨RX13, TX13, 42, "TwoHalvesModel", tyX13, rfl, by decide, in_X13, by decide, rfl, Or.inl ⟨q1388, Or.inl rfl⟩, Or.inl rfl, tyX13_ok, (NM_of nmX13), tyX13_ok 2 (by decide)⟩
theorem fg_RX13_16_X13 : FG RX13 16 10 14 2 := ⟨RX13, TX13, 42, "TwoHalvesModel", rfl, by decide, in_X13, by decide, rfl, Or.inl q1400, Or.inl rfl⟩
theorem fp_RX13_191_X13 : FP RX13 false 191 10 21 0 (tyX13 21) := ⟨RX13, TX13, 42, "TwoHalvesModel", tyX13, rfl, by decide, in_X13, by decide, rfl, Or.inl ⟨q1407, Or.inl rfl⟩, Or.inl rfl, tyX13_ok, (NM_of nmX13), tyX13_ok 21 (by decide)⟩
theorem fp_RX13_194_X13 : FP RX13 false 194 10 22 0 (tyX13 22) := ⟨RX13, TX13, 42, "TwoHalvesModel", tyX13, rfl, by decide, in_X13, by decide, rfl, Or.inl ⟨q1408, Or.inl rfl⟩, Or.inl rfl, tyX13_ok, (NM_of nmX13), tyX13_ok 22 (by decide)⟩
theorem fg_RX13_36_X13 : FG RX13 36 10 23 2 := ⟨RX13, TX13, 42, "TwoHalvesModel", rfl, by decide, in_X13, by decide, rfl, Or.inl q1409, Or.inl rfl⟩
theorem fg_RX13_81_X13 : FG RX13 81 10 7 0 := ⟨RX13, TX13, 42, "TwoHalvesModel", rfl, by decide, in_X13, by decide, rfl, Or.inl q1393, Or.inl rfl⟩
theorem fg_RX13_13_X13 : FG RX13 13 10 13 2 := ⟨RX13, TX13, 42, "TwoHalvesModel", rfl, by decide, in_X13, by decide, rfl, Or.inl q1399, Or.inl rfl⟩
theorem fg_RX13_22_X13 : FG RX13 22 10 16 2 := ⟨RX13, TX13, 42, "TwoHalvesModel", rfl, by decide, in_X13, by decide, rfl, Or.inl q1402, Or.inl rfl⟩
theorem fg_RX13_26_X13 : FG RX13 26 10 17 2 := ⟨RX13, TX13, 42, "TwoHalvesModel", rfl, by decide, in_X13, by decide, rfl, Or.inl q1403, Or.inl rfl⟩
theorem fg_RX13_109_X13 : FG RX13 109 10 10 0 := ⟨RX13, TX13, 42, "TwoHalvesModel", rfl, by decide, in_X13, by decide, rfl, Or.inl q1396, Or.inl rfl⟩
theorem fp_RX13_69_X13 : FP RX13 false 69 10 3 0 (tyX13 3) := ⟨RX13, TX13, 42, "TwoHalvesModel", tyX13, rfl, by decide, in_X13, by decide, rfl, Or.inl ⟨q1389, Or.inl rfl⟩, Or.inl rfl, tyX13_ok, (NM_of nmX13), tyX13_ok 3 (by decide)⟩
theorem fp_RX13_78_X13 : FP RX13 false 78 10 4 0 (tyX13 4) := ⟨RX13, TX13, 42, "TwoHalvesModel", tyX13, rfl, by decide, in_X13, by decide, rfl, Or.inl ⟨q1390, Or.inl rfl⟩, Or.inl rfl, tyX13_ok, (NM_of nmX13), tyX13_ok 4 (by decide)⟩
theorem fp_RX13_72_X13 : FP RX13 false 72 10 5 0 (tyX13 5) := ⟨RX13, TX13, 42, "TwoHalvesModel", tyX13, rfl, by decide, in_X13, by decide, rfl, Or.inl ⟨q1391, Or.inl rfl⟩, Or.inl rfl, tyX13_ok, (NM_of nmX13), tyX13_ok 5 (by decide)⟩
theorem fg_RX13_168_X13 : FG RX13 168 10 20 0 := ⟨RX13, TX13, 42, "TwoHalvesModel", rfl, by decide, in_X13, by decide, rfl, Or.inl q1406, Or.inl rfl⟩
theorem fp_RX13_168_X13 : FP RX13 false 168 10 20 0 (tyX13 20) := ⟨RX13, TX13, 42, "TwoHalvesModel", tyX13, rfl, by decide, in_X13, by decide, rfl, Or.inl ⟨q1406, Or.inl rfl⟩, Or.inl rfl, tyX13_ok, (NM_of nmX13), tyX13_ok 20 (by decide)⟩
theorem fg_RX13_72_X13 : FG RX13 72 10 5 0 := ⟨RX13, TX13, 42, "TwoHalvesModel", rfl, by decide, in_X13, by decide, rfl, Or.inl q1391, Or.inl rfl⟩
theorem fg_RX13_69_X13 : FG RX13 69 10 3 0 := ⟨RX13, TX13, 42, "TwoHalvesModel", rfl, by decide, in_X13, by decide, rfl, Or.inl q1389, Or.inl rfl⟩
theorem fp_RX13_75_X13 : FP RX13 false 75 10 6 0 (tyX13 6) := ⟨RX13, TX13, 42, "TwoHalvesModel", tyX13, rfl, by decide, in_X13, by decide, rfl, Or.inl ⟨q1392, Or.inl rfl⟩, Or.inl rfl, tyX13_ok, (NM_of nmX13), tyX13_ok 6 (by decide)⟩
theorem fg_RX13_78_X13 : FG RX13 78 10 4 0 := ⟨RX13, TX13, 42, "TwoHalvesModel", rfl, by decide, in_X13, by decide, rfl, Or.inl q1390, Or.inl rfl⟩
theorem fp_RX13_94_X13 : FP RX13 false 94 10 11 1 (tyX13 11) := ⟨RX13, TX13, 42, "TwoHalvesModel", tyX13, rfl, by decide, in_X13, by decide, rfl, Or.inl ⟨q1397, Or.inl rfl⟩, Or.inl rfl, tyX13_ok, (NM_of nmX13), tyX13_ok 11 (by decide)⟩
theorem fp_RX13_98_X13 : FP RX13 false 98 10 8 0 (tyX13 8) := ⟨RX13, TX13, 42, "TwoHalvesModel", tyX13, rfl, by decide, in_X13, by decide, rfl, Or.inl ⟨q1394, Or.inl rfl⟩, Or.inl rfl, tyX13_ok, (NM_of nmX13), tyX13_ok 8 (by decide)⟩
theorem fg_RX13_75_X13 : FG RX13 75 10 6 0 := ⟨RX13, TX13, 42, "TwoHalvesModel", rfl, by decide, in_X13, by decide, rfl, Or.inl q1392, Or.inl rfl⟩
theorem fg_RX13_98_X13 : FG RX13 98 10 8 0 := ⟨RX13, TX13, 42, "TwoHalvesModel", rfl, by decide, in_X13, by decide, rfl, Or.inl q1394, Or.inl rfl⟩
theorem fg_RX13_94_X13 : FG RX13 94 10 11 1 := ⟨RX13, TX13, 42, "TwoHalvesModel", rfl, by decide, in_X13, by decide, rfl, Or.inl q1397, Or.inl rfl⟩
theorem fp_RX13_81_X13 : FP RX13 false 81 10 7 0 (tyX13 7) := ⟨RX13, TX13, 42, "TwoHalvesModel", tyX13, rfl, by decide, in_X13, by decide, rfl, Or.inl ⟨q1393, Or.inl rfl⟩, Or.inl rfl, tyX13_ok, (NM_of nmX13), tyX13_ok 7 (by decide)⟩
theorem fp_RX13_91_X13 : FP RX13 false 91 10 9 0 (tyX13 9) := ⟨RX13, TX13, 42, "TwoHalvesModel", tyX13, rfl, by decide, in_X13, by decide, rfl, Or.inl ⟨q1395, Or.inl rfl⟩, Or.inl rfl, tyX13_ok, (NM_of nmX13), tyX13_ok 9 (by decide)⟩
theorem fp_RX13_109_X13 : FP RX13 false 109 10 10 0 (tyX13 10) := ⟨RX13, TX13, 42, "TwoHalvesModel", tyX13, rfl, by decide, in_X13, by decide, rfl, Or.inl ⟨q1396, Or.inl rfl⟩, Or.inl rfl, tyX13_ok, (NM_of nmX13), tyX13_ok 10 (by decide)⟩
theorem fg_RX13_119_X13 : FG RX13 119 10 12 0 := ⟨RX13, TX13, 42, "TwoHalvesModel", rfl, by decide, in_X13, by decide, rfl, Or.inl q1398, Or.inl rfl⟩
theorem fp_RX13_119_X13 : FP RX13 false 119 10 12 0 (tyX13 12) := ⟨RX13, TX13, 42, "TwoHalvesModel", tyX13, rfl, by decide, in_X13, by decide, rfl, Or.inl ⟨q1398, Or.inl rfl⟩, Or.inl rfl, tyX13_ok, (NM_of nmX13), tyX13_ok 12 (by decide)⟩
theorem fg_RX13_194_X13 : FG RX13 194 10 22 0 := ⟨RX13, TX13, 42, "TwoHalvesModel", rfl, by decide, in_X13, by decide, rfl, Or.inl q1408, Or.inl rfl⟩
theorem fg_RX13_191_X13 : FG RX13 191 10 21 0 := ⟨RX13, TX13, 42, "TwoHalvesModel", rfl, by decide, in_X13, by decide, rfl, Or.inl q1407, Or.inl rfl⟩
theorem fg_RX13_91_X13 : FG RX13 91 10 9 0 := ⟨RX13, TX13, 42, "TwoHalvesModel", rfl, by decide, in_X13, by decide, rfl, Or.inl q1395, Or.inl rfl⟩
theorem fp_RX13_243_X13 : FP RX13 false 243 10 24 0 (tyX13 24) := ⟨RX13, TX13, 42, "TwoHalvesModel", tyX13, rfl, by decide, in_X13, by decide, rfl, Or.inl ⟨q1410, Or.inl rfl⟩, Or.inl rfl, tyX13_ok, (NM_of nmX13), tyX13_ok 24 (by decide)⟩
theorem fp_RX13_246_X13 : FP RX13 false 246 10 25 0 (tyX13 25) := ⟨RX13, TX13, 42, "TwoHalvesModel", tyX13, rfl, by decide, in_X13, by decide, rfl, Or.inl ⟨q1411, Or.inl rfl⟩, Or.inl rfl, tyX13_ok, (NM_of nmX13), tyX13_ok 25 (by decide)⟩
theorem fp_RX13_249_X13 : FP RX13 false 249 10 26 0 (tyX13 26) := ⟨RX13, TX13, 42, "TwoHalvesModel", tyX13, rfl, by decide, in_X13, by decide, rfl, Or.inl ⟨q1412, Or.inl rfl⟩, Or.inl rfl, tyX13_ok, (NM_of nmX13), tyX13_ok 26 (by decide)⟩
theorem fp_RX13_252_X13 : FP RX13 false 252 10 27 0 (tyX13 27) := ⟨RX13, TX13, 42, "TwoHalvesModel", tyX13, rfl, by decide, in_X13, by decide, rfl, Or.inl ⟨q1413, Or.inl rfl⟩, Or.inl rfl, tyX13_ok, (NM_of nmX13), tyX13_ok 27 (by decide)⟩
theorem fp_RX13_255_X13 : FP RX13 false 255 10 28 0 (tyX13 28) := ⟨RX13, TX13, 42, "TwoHalvesModel", tyX13, rfl, by decide, in_X13, by decide, rfl, Or.inl ⟨q1414, Or.inl rfl⟩, Or.inl rfl, tyX13_ok, (NM_of nmX13), tyX13_ok 28 (by decide)⟩
theorem fp_RX13_258_X13 : FP RX13 false 258 10 29 0 (tyX13 29) := ⟨RX13, TX13, 42, "TwoHalvesModel", tyX13, rfl, by decide, in_X13, by decide, rfl, Or.inl ⟨q1415, Or.inl rfl⟩, Or.inl rfl, tyX13_ok, (NM_of nmX13), tyX13_ok 29 (by decide)⟩
theorem fg_RX13_258_X13 : FG RX13 258 10 29 0 := ⟨RX13, TX13, 42, "TwoHalvesModel", rfl, by decide, in_X13, by decide, rfl, Or.inl q1415, Or.inl rfl⟩
theorem fg_RX13_252_X13 : FG RX13 252 10 27 0 := ⟨RX13, TX13, 42, "TwoHalvesModel", rfl, by decide, in_X13, by decide, rfl, Or.inl q1413, Or.inl rfl⟩
theorem fg_RX13_42_X13 : FG RX13 42 10 32 2 := ⟨RX13, TX13, 42, "TwoHalvesModel", rfl, by decide, in_X13, by decide, rfl, Or.inl q1418, Or.inl rfl⟩
theorem fg_RX13_243_X13 : FG RX13 243 10 24 0 := ⟨RX13, TX13, 42, "TwoHalvesModel", rfl, by decide, in_X13, by decide, rfl, Or.inl q1410, Or.inl rfl⟩
theorem fg_RX13_246_X13 : FG RX13 246 10 25 0 := ⟨RX13, TX13, 42, "TwoHalvesModel", rfl, by decide, in_X13, by decide, rfl, Or.inl q1411, Or.inl rfl⟩
theorem fg_RX13_249_X13 : FG RX13 249 10 26 0 := ⟨RX13, TX13, 42, "TwoHalvesModel", rfl, by decide, in_X13, by decide, rfl, Or.inl q1412, Or.inl rfl⟩
theorem fp_RX13_261_X13 : FP RX13 false 261 10 30 0 (tyX13 30) := ⟨RX13, TX13, 42, "TwoHalvesModel", tyX13, rfl, by decide, in_X13, by decide, rfl, Or.inl ⟨q1416, Or.inl rfl⟩, Or.inl rfl, tyX13_ok, (NM_of nmX13), tyX13_ok 30 (by decide)⟩
theorem fg_RX13_39_X13 : FG RX13 39 10 31 2 := ⟨RX13, TX13, 42, "TwoHalvesModel", rfl, by decide, in_X13, by decide, rfl, Or.inl q1417, Or.inl rfl⟩
theorem fg_RX13_255_X13 : FG RX13 255 10 28 0 := ⟨RX13, TX13, 42, "TwoHalvesModel", rfl, by decide, in_X13, by decide, rfl, Or.inl q1414, Or.inl rfl⟩
theorem fg_RX13_261_X13 : FG RX13 261 10 30 0 := ⟨RX13, TX13, 42, "TwoHalvesModel", rfl, by decide, in_X13, by decide, rfl, Or.inl q1416, Or.inl rfl⟩
theorem fg_RX13_327_X13 : FG RX13 327 10 34 0 := ⟨RX13, TX13, 42, "TwoHalvesModel", rfl, by decide, in_X13, by decide, rfl, Or.inl q1420, Or.inl rfl⟩
theorem fg_RX13_45_X13 : FG RX13 45 10 33 2 := ⟨RX13, TX13, 42, "TwoHalvesModel", rfl, by decide, in_X13, by decide, rfl, Or.inl q1419, Or.inl rfl⟩
theorem fp_RX13_327_X13 : FP RX13 false 327 10 34 0 (tyX13 34) := ⟨RX13, TX13, 42, "TwoHalvesModel", tyX13, rfl, by decide, in_X13, by decide, rfl, Or.inl ⟨q1420, Or.inl rfl⟩, Or.inl rfl, tyX13_ok, (NM_of nmX13), tyX13_ok 34 (by decide)⟩
theorem fg_RX13_48_X13 : FG RX13 48 10 35 2 := ⟨RX13, TX13, 42, "TwoHalvesModel", rfl, by decide, in_X13, by decide, rfl, Or.inl q1421, Or.inl rfl⟩
theorem fg_RX13_52_X13 : FG RX13 52 10 36 2 := ⟨RX13, TX13, 42, "TwoHalvesModel", rfl, by decide, in_X13, by decide, rfl, Or.inl q1422, Or.inl rfl⟩
theorem fp_RX13_351_X13 : FP RX13 false 351 10 38 0 (tyX13 38) := ⟨RX13, TX13, 42, "TwoHalvesModel", tyX13, rfl, by decide, in_X13, by decide, rfl, Or.inl ⟨q1424, Or.inl rfl⟩, Or.inl rfl, tyX13_ok, (NM_of nmX13), tyX13_ok 38 (by decide)⟩
theorem fp_RX13_379_X13 : FP RX13 false 379 10 39 0 (tyX13 39) := ⟨RX13, TX13, 42, "TwoHalvesModel", tyX13, rfl, by decide, in_X13, by decide, rfl, Or.inl ⟨q1425, Or.inl rfl⟩, Or.inl rfl, tyX13_ok, (NM_of nmX13), tyX13_ok 39 (by decide)⟩
theorem fp_RX13_382_X13 : FP RX13 false 382 10 40 0 (tyX13 40) := ⟨RX13, TX13, 42, "TwoHalvesModel", tyX13, rfl, by decide, in_X13, by decide, rfl, Or.inl ⟨q1426, Or.inl rfl⟩, Or.inl rfl, tyX13_ok, (NM_of nmX13), tyX13_ok 40 (by decide)⟩
theorem fg_RX13_363_X13 : FG RX13 363 10 41 0 := ⟨RX13, TX13, 42, "TwoHalvesModel", rfl, by decide, in_X13, by decide, rfl, Or.inl q1427, Or.inl rfl⟩
theorem fg_RX13_379_X13 : FG RX13 379 10 39 0 := ⟨RX13, TX13, 42, "TwoHalvesModel", rfl, by decide, in_X13, by decide, rfl, Or.inl q1425, Or.inl rfl⟩
theorem fg_RX13_55_X13 : FG RX13 55 10 37 2 := ⟨RX13, TX13, 42, "TwoHalvesModel", rfl, by decide, in_X13, by decide, rfl, Or.inl q1423, Or.inl rfl⟩
theorem fp_RX13_363_X13 : FP RX13 false 363 10 41 0 (tyX13 41) := ⟨RX13, TX13, 42, "TwoHalvesModel", tyX13, rfl, by decide, in_X13, by decide, rfl, Or.inl ⟨q1427, Or.inl rfl⟩, Or.inl rfl, tyX13_ok, (NM_of nmX13), tyX13_ok 41 (by decide)⟩
theorem fg_RX13_382_X13 : FG RX13 382 10 40 0 := ⟨RX13, TX13, 42, "TwoHalvesModel", rfl, by decide, in_X13, by decide, rfl, Or.inl q1426, Or.inl rfl⟩
theorem fg_RX13_351_X13 : FG RX13 351 10 38 0 := ⟨RX13, TX13, 42, "TwoHalvesModel", rfl, by decide, in_X13, by decide, rfl, Or.inl q1424, Or.inl rfl⟩
theorem fg_RX13_32_X13 : FG RX13 32 10 19 2 := ⟨RX13, TX13, 42, "TwoHalvesModel", rfl, by decide, in_X13, by decide, rfl, Or.inl q1405, Or.inl rfl⟩
theorem fg_RX13_29_X13 : FG RX13 29 10 18 2 := ⟨RX13, TX13, 42, "TwoHalvesModel", rfl, by decide, in_X13, by decide, rfl, Or.inl q1404, Or.inl rfl⟩
theorem fg_RX13_19_X13 : FG RX13 19 10 15 2 := ⟨RX13, TX13, 42, "TwoHalvesModel", rfl, by decide, in_X13, by decide, rfl, Or.inl q1401, Or.inl rfl⟩
theorem fp_RX14_7_X15i : FP RX14 true 7 11 0 1 (tyX15 0) := ⟨RX15, TX15, 3, "TwoHalves$Named", tyX15, rfl, by decide, in_X15, by decide, rfl, Or.inl ⟨q787, Or.inr ⟨rfl, rfl, rfl⟩⟩, Or.inl rfl, tyX15_ok, (NM_of nmX15), tyX15_ok 0 (by decide)⟩
theorem fp_RX14_7_X16i : FP RX14 true 7 12 0 1 (tyX16 0) := ⟨RX16, TX16, 9, "TwoHalves$Named", tyX16, rfl, by decide, in_X16, by decide, rfl, Or.inl ⟨q787, Or.inr ⟨rfl, rfl, rfl⟩⟩, Or.inl rfl, tyX16_ok, (NM_of nmX16), tyX16_ok 0 (by decide)⟩
theorem fp_RX15_7_X15i : FP RX15 true 7 11 1 0 (tyX15 1) := ⟨RX15, TX15, 3, "TwoHalves$Thing", tyX15, rfl, by decide, in_X15, by decide, rfl, Or.inl ⟨q780, Or.inr ⟨rfl, rfl, rfl⟩⟩, Or.inl rfl, tyX15_ok, (NM_of nmX15), tyX15_ok 1 (by decide)⟩
theorem fp_RX16_9_X16i : FP RX16 true 9 12 1 0 (tyX16 1) := ⟨RX16, TX16, 9, "TwoHalves$Way", tyX16, rfl, by decide, in_X16, by decide, rfl, Or.inl ⟨q825, Or.inr ⟨rfl, rfl, rfl⟩⟩, Or.inl rfl, tyX16_ok, (NM_of nmX16), tyX16_ok 1 (by decide)⟩
theorem fg_RX16_15_X16 : FG RX16 15 12 4 0 := ⟨RX16, TX16, 9, "TwoHalves$Way", rfl, by decide, in_X16, by decide, rfl, Or.inl q834, Or.inl rfl⟩
theorem fg_RX16_18_X16 : FG RX16 18 12 5 0 := ⟨RX16, TX16, 9, "TwoHalves$Way", rfl, by decide, in_X16, by decide, rfl, Or.inl q837, Or.inl rfl⟩
theorem fg_RX16_21_X16 : FG RX16 21 12 8 0 := ⟨RX16, TX16, 9, "TwoHalves$Way", rfl, by decide, in_X16, by decide, rfl, Or.inl q846, Or.inl rfl⟩
theorem fg_RX16_25_X16 : FG RX16 25 12 6 0 := ⟨RX16, TX16, 9, "TwoHalves$Way", rfl, by decide, in_X16, by decide, rfl, Or.inl q840, Or.inl rfl⟩
theorem fp_RX17_9_X17i : FP RX17 true 9 13 7 0 (tyX17 7) := ⟨RX17, TX17, 8, "TwoHalves$Showing", tyX17, rfl, by decide, in_X17, by decide, rfl, Or.inl ⟨q957, Or.inl rfl⟩, Or.inl rfl, tyX17_ok, (NM_of nmX17), tyX17_ok 7 (by decide)⟩
theorem fp_RX17_15_X17i : FP RX17 true 15 13 0 0 (tyX17 0) := ⟨RX17, TX17, 8, "TwoHalves$Showing", tyX17, rfl, by decide, in_X17, by decide, rfl, Or.inl ⟨q942, Or.inr ⟨rfl, rfl, rfl⟩⟩, Or.inl rfl, tyX17_ok, (NM_of nmX17), tyX17_ok 0 (by decide)⟩
theorem fp_RX17_18_X17i : FP RX17 true 18 13 1 0 (tyX17 1) := ⟨RX17, TX17, 8, "TwoHalves$Showing", tyX17, rfl, by decide, in_X17, by decide, rfl, Or.inl ⟨q944, Or.inr ⟨rfl, rfl, rfl⟩⟩, Or.inl rfl, tyX17_ok, (NM_of nmX17), tyX17_ok 1 (by decide)⟩
theorem fp_RX17_21_X17i : FP RX17 true 21 13 2 0 (tyX17 2) := ⟨RX17, TX17, 8, "TwoHalves$Showing", tyX17, rfl, by decide, in_X17, by decide, rfl, Or.inl ⟨q946, Or.inr ⟨rfl, rfl, rfl⟩⟩, Or.inl rfl, tyX17_ok, (NM_of nmX17), tyX17_ok 2 (by decide)⟩
theorem fp_RX17_24_X17i : FP RX17 true 24 13 3 0 (tyX17 3) := ⟨RX17, TX17, 8, "TwoHalves$Showing", tyX17, rfl, by decide, in_X17, by decide, rfl, Or.inl ⟨q948, Or.inr ⟨rfl, rfl, rfl⟩⟩, Or.inl rfl, tyX17_ok, (NM_of nmX17), tyX17_ok 3 (by decide)⟩
theorem fp_RX17_27_X17i : FP RX17 true 27 13 4 0 (tyX17 4) := ⟨RX17, TX17, 8, "TwoHalves$Showing", tyX17, rfl, by decide, in_X17, by decide, rfl, Or.inl ⟨q950, Or.inr ⟨rfl, rfl, rfl⟩⟩, Or.inl rfl, tyX17_ok, (NM_of nmX17), tyX17_ok 4 (by decide)⟩
theorem fp_RX17_30_X17i : FP RX17 true 30 13 5 0 (tyX17 5) := ⟨RX17, TX17, 8, "TwoHalves$Showing", tyX17, rfl, by decide, in_X17, by decide, rfl, Or.inl ⟨q952, Or.inr ⟨rfl, rfl, rfl⟩⟩, Or.inl rfl, tyX17_ok, (NM_of nmX17), tyX17_ok 5 (by decide)⟩
theorem fp_RX17_33_X17i : FP RX17 true 33 13 6 2 (tyX17 6) := ⟨RX17, TX17, 8, "TwoHalves$Showing", tyX17, rfl, by decide, in_X17, by decide, rfl, Or.inl ⟨q955, Or.inr ⟨rfl, rfl, rfl⟩⟩, Or.inl rfl, tyX17_ok, (NM_of nmX17), tyX17_ok 6 (by decide)⟩
theorem fp_RX19_7_X19i : FP RX19 true 7 14 0 2 (tyX19 0) := ⟨RX19, TX19, 1, "TwoHalves$Not", tyX19, rfl, by decide, in_X19, by decide, rfl, Or.inl ⟨q1203, Or.inr ⟨rfl, rfl, rfl⟩⟩, Or.inl rfl, tyX19_ok, (NM_of nmX19), tyX19_ok 0 (by decide)⟩
theorem fg_RX19_7_X19 : FG RX19 7 14 0 2 := ⟨RX19, TX19, 1, "TwoHalves$Not", rfl, by decide, in_X19, by decide, rfl, Or.inl q1203, Or.inl rfl⟩
theorem fp_RX20_7_X20i : FP RX20 true 7 15 0 0 (tyX20 0) := ⟨RX20, TX20, 2, "TwoHalves$OfWay", tyX20, rfl, by decide, in_X20, by decide, rfl, Or.inl ⟨q1226, Or.inr ⟨rfl, rfl, rfl⟩⟩, Or.inl rfl, tyX20_ok, (NM_of nmX20), tyX20_ok 0 (by decide)⟩
theorem fp_RX20_13_X20i : FP RX20 true 13 15 1 0 (tyX20 1) := ⟨RX20, TX20, 2, "TwoHalves$OfWay", tyX20, rfl, by decide, in_X20, by decide, rfl, Or.inl ⟨q1227, Or.inr ⟨rfl, rfl, rfl⟩⟩, Or.inl rfl, tyX20_ok, (NM_of nmX20), tyX20_ok 1 (by decide)⟩
theorem fg_RX20_13_X20 : FG RX20 13 15 1 0 := ⟨RX20, TX20, 2, "TwoHalves$OfWay", rfl, by decide, in_X20, by decide, rfl, Or.inl q1227, Or.inl rfl⟩
theorem fg_RX20_7_X20 : FG RX20 7 15 0 0 := ⟨RX20, TX20, 2, "TwoHalves$OfWay", rfl, by decide, in_X20, by decide, rfl, Or.inl q1226, Or.inl rfl⟩
theorem fp_RX21_9_X21i : FP RX21 true 9 16 0 0 (tyX21 0) := ⟨RX21, TX21, 3, "TwoHalves$Counts", tyX21, rfl, by decide, in_X21, by decide, rfl, Or.inl ⟨q1246, Or.inr ⟨rfl, rfl, rfl⟩⟩, Or.inl rfl, tyX21_ok, (NM_of nmX21), tyX21_ok 0 (by decide)⟩
theorem fp_RX21_15_X21i : FP RX21 true 15 16 1 0 (tyX21 1) := ⟨RX21, TX21, 3, "TwoHalves$Counts", tyX21, rfl, by decide, in_X21, by decide, rfl, Or.inl ⟨q1247, Or.inr ⟨rfl, rfl, rfl⟩⟩, Or.inl rfl, tyX21_ok, (NM_of nmX21), tyX21_ok 1 (by decide)⟩
theorem fp_RX21_18_X21i : FP RX21 true 18 16 2 0 (tyX21 2) := ⟨RX21, TX21, 3, "TwoHalves$Counts", tyX21, rfl, by decide, in_X21, by decide, rfl, Or.inl ⟨q1248, Or.inr ⟨rfl, rfl, rfl⟩⟩, Or.inl rfl, tyX21_ok, (NM_of nmX21), tyX21_ok 2 (by decide)⟩
theorem fg_RX21_9_X21 : FG RX21 9 16 0 0 := ⟨RX21, TX21, 3, "TwoHalves$Counts", rfl, by decide, in_X21, by decide, rfl, Or.inl q1246, Or.inl rfl⟩
theorem fg_RX21_24_X1 : FG RX21 24 0 12 2 := ⟨RX1, TX1, 34, "TwoHalves", rfl, by decide, in_X1, by decide, rfl, Or.inr ⟨_, List.mem_of_getElem? (i := 41) rfl⟩, Or.inl rfl⟩
theorem fg_RX21_28_X5 : FG RX21 28 3 4 2 := ⟨RX5, TX5, 7, "TwoHalves$State", rfl, by decide, in_X5, by decide, rfl, Or.inr ⟨_, List.mem_of_getElem? (i := 40) rfl⟩, Or.inl rfl⟩
theorem fg_RX21_34_X7 : FG RX21 34 5 1 0 := ⟨RX7, TX7, 2, "TwoHalves$Book", rfl, by decide, in_X7, by decide, rfl, Or.inr ⟨_, List.mem_of_getElem? (i := 39) rfl⟩, Or.inl rfl⟩
theorem fg_RX21_15_X21 : FG RX21 15 16 1 0 := ⟨RX21, TX21, 3, "TwoHalves$Counts", rfl, by decide, in_X21, by decide, rfl, Or.inl q1247, Or.inl rfl⟩
theorem fg_RX21_18_X21 : FG RX21 18 16 2 0 := ⟨RX21, TX21, 3, "TwoHalves$Counts", rfl, by decide, in_X21, by decide, rfl, Or.inl q1248, Or.inl rfl⟩
theorem fg_RX21_37_X7 : FG RX21 37 5 0 2 := ⟨RX7, TX7, 2, "TwoHalves$Book", rfl, by decide, in_X7, by decide, rfl, Or.inr ⟨_, List.mem_of_getElem? (i := 38) rfl⟩, Or.inl rfl⟩
theorem fg_RX21_46_X17 : FG RX21 46 13 5 0 := ⟨RX17, TX17, 8, "TwoHalves$Showing", rfl, by decide, in_X17, by decide, rfl, Or.inr ⟨_, List.mem_of_getElem? (i := 43) rfl⟩, Or.inl rfl⟩
theorem fg_RX21_41_X17 : FG RX21 41 13 7 0 := ⟨RX17, TX17, 8, "TwoHalves$Showing", rfl, by decide, in_X17, by decide, rfl, Or.inr ⟨_, List.mem_of_getElem? (i := 44) rfl⟩, Or.inl rfl⟩
theorem fg_RX21_21_X1 : FG RX21 21 0 25 0 := ⟨RX1, TX1, 34, "TwoHalves", rfl, by decide, in_X1, by decide, rfl, Or.inr ⟨_, List.mem_of_getElem? (i := 42) rfl⟩, Or.inl rfl⟩
theorem fp_RX22_7_X22i : FP RX22 true 7 17 0 2 (tyX22 0) := ⟨RX22, TX22, 2, "TwoHalves$Both", tyX22, rfl, by decide, in_X22, by decide, rfl, Or.inl ⟨q1263, Or.inr ⟨rfl, rfl, rfl⟩⟩, Or.inl rfl, tyX22_ok, (NM_of nmX22), tyX22_ok 0 (by decide)⟩
theorem fp_RX22_13_X22i : FP RX22 true 13 17 1 2 (tyX22 1) := ⟨RX22, TX22, 2, "TwoHalves$Both", tyX22, rfl, by decide, in_X22, by decide, rfl, Or.inl ⟨q1264, Or.inr ⟨rfl, rfl, rfl⟩⟩, Or.inl rfl, tyX22_ok, (NM_of nmX22), tyX22_ok 1 (by decide)⟩
theorem fg_RX22_7_X22 : FG RX22 7 17 0 2 := ⟨RX22, TX22, 2, "TwoHalves$Both", rfl, by decide, in_X22, by decide, rfl, Or.inl q1263, Or.inl rfl⟩
theorem fg_RX22_13_X22 : FG RX22 13 17 1 2 := ⟨RX22, TX22, 2, "TwoHalves$Both", rfl, by decide, in_X22, by decide, rfl, Or.inl q1264, Or.inl rfl⟩
theorem fp_RX23_7_X23i : FP RX23 true 7 18 0 2 (tyX23 0) := ⟨RX23, TX23, 2, "TwoHalves$Any", tyX23, rfl, by decide, in_X23, by decide, rfl, Or.inl ⟨q1277, Or.inr ⟨rfl, rfl, rfl⟩⟩, Or.inl rfl, tyX23_ok, (NM_of nmX23), tyX23_ok 0 (by decide)⟩
theorem fp_RX23_13_X23i : FP RX23 true 13 18 1 2 (tyX23 1) := ⟨RX23, TX23, 2, "TwoHalves$Any", tyX23, rfl, by decide, in_X23, by decide, rfl, Or.inl ⟨q1278, Or.inr ⟨rfl, rfl, rfl⟩⟩, Or.inl rfl, tyX23_ok, (NM_of nmX23), tyX23_ok 1 (by decide)⟩
theorem fg_RX23_7_X23 : FG RX23 7 18 0 2 := ⟨RX23, TX23, 2, "TwoHalves$Any", rfl, by decide, in_X23, by decide, rfl, Or.inl q1277, Or.inl rfl⟩
theorem fg_RX23_13_X23 : FG RX23 13 18 1 2 := ⟨RX23, TX23, 2, "TwoHalves$Any", rfl, by decide, in_X23, by decide, rfl, Or.inl q1278, Or.inl rfl⟩
theorem fp_RJ0_7_X2i : FP RJ0 true 7 1 0 2 (tyX2 0) := ⟨RX2, TX2, 8, "java/lang/Throwable", tyX2, rfl, by decide, in_X2, by decide, rfl, Or.inl ⟨q204, Or.inl rfl⟩, Or.inl rfl, tyX2_ok, (NM_of nmX2), tyX2_ok 0 (by decide)⟩
theorem fp_RJ0_17_X2i : FP RJ0 true 17 1 1 2 (tyX2 1) := ⟨RX2, TX2, 8, "java/lang/Throwable", tyX2, rfl, by decide, in_X2, by decide, rfl, Or.inl ⟨q205, Or.inl rfl⟩, Or.inl rfl, tyX2_ok, (NM_of nmX2), tyX2_ok 1 (by decide)⟩
theorem fp_RJ0_24_X2i : FP RJ0 true 24 1 2 2 (tyX2 2) := ⟨RX2, TX2, 8, "java/lang/Throwable", tyX2, rfl, by decide, in_X2, by decide, rfl, Or.inl ⟨q206, Or.inl rfl⟩, Or.inl rfl, tyX2_ok, (NM_of nmX2), tyX2_ok 2 (by decide)⟩
theorem fp_RJ0_31_X2i : FP RJ0 true 31 1 3 2 (tyX2 3) := ⟨RX2, TX2, 8, "java/lang/Throwable", tyX2, rfl, by decide, in_X2, by decide, rfl, Or.inl ⟨q203, Or.inl rfl⟩, Or.inl rfl, tyX2_ok, (NM_of nmX2), tyX2_ok 3 (by decide)⟩
theorem k_iconst_1 : Int32.ofInt (1) = (nI 1) := by decide +kernel
theorem k_iconst_0 : Int32.ofInt (0) = (nI 0) := by decide +kernel
theorem k_sipush_940 : (Int16.ofInt (940)).toInt32 = (nI 940) := by decide +kernel
theorem k_iconst_4 : Int32.ofInt (4) = (nI 4) := by decide +kernel
theorem k_iconst_2 : Int32.ofInt (2) = (nI 2) := by decide +kernel
theorem k_iconst_3 : Int32.ofInt (3) = (nI 3) := by decide +kernel
theorem k_bipush_8 : (Int8.ofInt (8)).toInt32 = (nI 8) := by decide +kernel
theorem k_iconst_5 : Int32.ofInt (5) = (nI 5) := by decide +kernel
theorem k_bipush_6 : (Int8.ofInt (6)).toInt32 = (nI 6) := by decide +kernel
theorem k_bipush_7 : (Int8.ofInt (7)).toInt32 = (nI 7) := by decide +kernel
theorem k_sipush_256 : (Int16.ofInt (256)).toInt32 = (nI 256) := by decide +kernel
theorem k_bipush_17 : (Int8.ofInt (17)).toInt32 = (nI 17) := by decide +kernel
theorem k_sipush_4096 : (Int16.ofInt (4096)).toInt32 = (nI 4096) := by decide +kernel
theorem k_bipush_20 : (Int8.ofInt (20)).toInt32 = (nI 20) := by decide +kernel
theorem k_iconst_m1 : Int32.ofInt (-1) = (-1) := by decide +kernel
theorem k_bipush_24 : (Int8.ofInt (24)).toInt32 = (nI 24) := by decide +kernel
theorem k_iconst_m8 : Int32.ofInt (-8) = (-8) := by decide +kernel
theorem k_bipush_40 : (Int8.ofInt (40)).toInt32 = (nI 40) := by decide +kernel
theorem k_bipush_m2 : (Int8.ofInt (-2)).toInt32 = (-2) := by decide +kernel
theorem k_sipush_1000 : (Int16.ofInt (1000)).toInt32 = (nI 1000) := by decide +kernel
theorem k_bipush_60 : (Int8.ofInt (60)).toInt32 = (nI 60) := by decide +kernel
theorem k_sipush_255 : (Int16.ofInt (255)).toInt32 = (nI 255) := by decide +kernel
theorem k_bipush_59 : (Int8.ofInt (59)).toInt32 = (nI 59) := by decide +kernel
theorem k_bipush_10 : (Int8.ofInt (10)).toInt32 = (nI 10) := by decide +kernel
theorem k_bipush_16 : (Int8.ofInt (16)).toInt32 = (nI 16) := by decide +kernel
theorem k_bipush_15 : (Int8.ofInt (15)).toInt32 = (nI 15) := by decide +kernel
theorem k_bipush_32 : (Int8.ofInt (32)).toInt32 = (nI 32) := by decide +kernel
theorem k_bipush_41 : (Int8.ofInt (41)).toInt32 = (nI 41) := by decide +kernel
theorem k_bipush_62 : (Int8.ofInt (62)).toInt32 = (nI 62) := by decide +kernel
theorem k_bipush_97 : (Int8.ofInt (97)).toInt32 = (nI 97) := by decide +kernel
theorem k_bipush_122 : (Int8.ofInt (122)).toInt32 = (nI 122) := by decide +kernel
theorem k_bipush_48 : (Int8.ofInt (48)).toInt32 = (nI 48) := by decide +kernel
theorem k_bipush_57 : (Int8.ofInt (57)).toInt32 = (nI 57) := by decide +kernel
theorem k_sipush_900 : (Int16.ofInt (900)).toInt32 = (nI 900) := by decide +kernel
theorem k_bipush_12 : (Int8.ofInt (12)).toInt32 = (nI 12) := by decide +kernel
theorem k_bipush_19 : (Int8.ofInt (19)).toInt32 = (nI 19) := by decide +kernel
theorem k_sipush_200 : (Int16.ofInt (200)).toInt32 = (nI 200) := by decide +kernel
theorem k_bipush_99 : (Int8.ofInt (99)).toInt32 = (nI 99) := by decide +kernel
theorem k_bipush_61 : (Int8.ofInt (61)).toInt32 = (nI 61) := by decide +kernel
theorem k_sipush_4820 : (Int16.ofInt (4820)).toInt32 = (nI 4820) := by decide +kernel
theorem k_sipush_140 : (Int16.ofInt (140)).toInt32 = (nI 140) := by decide +kernel
theorem k_sipush_14460 : (Int16.ofInt (14460)).toInt32 = (nI 14460) := by decide +kernel
theorem k_bipush_28 : (Int8.ofInt (28)).toInt32 = (nI 28) := by decide +kernel
theorem k_bipush_84 : (Int8.ofInt (84)).toInt32 = (nI 84) := by decide +kernel
theorem k_sipush_240 : (Int16.ofInt (240)).toInt32 = (nI 240) := by decide +kernel
theorem k_sipush_128 : (Int16.ofInt (128)).toInt32 = (nI 128) := by decide +kernel
theorem k_sipush_129 : (Int16.ofInt (129)).toInt32 = (nI 129) := by decide +kernel
theorem k_sipush_130 : (Int16.ofInt (130)).toInt32 = (nI 130) := by decide +kernel
theorem k_sipush_131 : (Int16.ofInt (131)).toInt32 = (nI 131) := by decide +kernel
theorem k_sipush_132 : (Int16.ofInt (132)).toInt32 = (nI 132) := by decide +kernel
theorem k_sipush_142 : (Int16.ofInt (142)).toInt32 = (nI 142) := by decide +kernel
theorem k_sipush_150 : (Int16.ofInt (150)).toInt32 = (nI 150) := by decide +kernel
theorem k_sipush_143 : (Int16.ofInt (143)).toInt32 = (nI 143) := by decide +kernel
theorem k_sipush_149 : (Int16.ofInt (149)).toInt32 = (nI 149) := by decide +kernel
theorem k_sipush_152 : (Int16.ofInt (152)).toInt32 = (nI 152) := by decide +kernel
theorem k_sipush_155 : (Int16.ofInt (155)).toInt32 = (nI 155) := by decide +kernel
theorem k_bipush_116 : (Int8.ofInt (116)).toInt32 = (nI 116) := by decide +kernel
theorem k_bipush_104 : (Int8.ofInt (104)).toInt32 = (nI 104) := by decide +kernel
theorem k_bipush_105 : (Int8.ofInt (105)).toInt32 = (nI 105) := by decide +kernel
theorem k_bipush_110 : (Int8.ofInt (110)).toInt32 = (nI 110) := by decide +kernel
theorem k_bipush_103 : (Int8.ofInt (103)).toInt32 = (nI 103) := by decide +kernel
theorem k_bipush_115 : (Int8.ofInt (115)).toInt32 = (nI 115) := by decide +kernel
theorem k_bipush_117 : (Int8.ofInt (117)).toInt32 = (nI 117) := by decide +kernel
theorem k_bipush_121 : (Int8.ofInt (121)).toInt32 = (nI 121) := by decide +kernel
theorem k_bipush_119 : (Int8.ofInt (119)).toInt32 = (nI 119) := by decide +kernel
theorem k_bipush_112 : (Int8.ofInt (112)).toInt32 = (nI 112) := by decide +kernel
theorem k_bipush_101 : (Int8.ofInt (101)).toInt32 = (nI 101) := by decide +kernel
theorem k_bipush_111 : (Int8.ofInt (111)).toInt32 = (nI 111) := by decide +kernel
theorem k_bipush_114 : (Int8.ofInt (114)).toInt32 = (nI 114) := by decide +kernel
theorem k_bipush_100 : (Int8.ofInt (100)).toInt32 = (nI 100) := by decide +kernel
theorem k_bipush_102 : (Int8.ofInt (102)).toInt32 = (nI 102) := by decide +kernel
theorem k_bipush_108 : (Int8.ofInt (108)).toInt32 = (nI 108) := by decide +kernel
theorem k_bipush_109 : (Int8.ofInt (109)).toInt32 = (nI 109) := by decide +kernel
theorem k_bipush_107 : (Int8.ofInt (107)).toInt32 = (nI 107) := by decide +kernel
theorem k_bipush_113 : (Int8.ofInt (113)).toInt32 = (nI 113) := by decide +kernel
theorem k_bipush_120 : (Int8.ofInt (120)).toInt32 = (nI 120) := by decide +kernel
theorem k_bipush_98 : (Int8.ofInt (98)).toInt32 = (nI 98) := by decide +kernel
theorem k_sipush_141 : (Int16.ofInt (141)).toInt32 = (nI 141) := by decide +kernel
theorem k_sipush_153 : (Int16.ofInt (153)).toInt32 = (nI 153) := by decide +kernel
theorem k_sipush_154 : (Int16.ofInt (154)).toInt32 = (nI 154) := by decide +kernel
theorem k_sipush_160 : (Int16.ofInt (160)).toInt32 = (nI 160) := by decide +kernel
theorem k_sipush_4560 : (Int16.ofInt (4560)).toInt32 = (nI 4560) := by decide +kernel
theorem k_sipush_151 : (Int16.ofInt (151)).toInt32 = (nI 151) := by decide +kernel
theorem k_sipush_4300 : (Int16.ofInt (4300)).toInt32 = (nI 4300) := by decide +kernel
theorem k_bipush_118 : (Int8.ofInt (118)).toInt32 = (nI 118) := by decide +kernel
theorem k_bipush_63 : (Int8.ofInt (63)).toInt32 = (nI 63) := by decide +kernel
theorem k_bipush_31 : (Int8.ofInt (31)).toInt32 = (nI 31) := by decide +kernel
theorem k_iconst_7 : Int32.ofInt (7) = (nI 7) := by decide +kernel
