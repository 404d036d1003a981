/-! the law, decompiled (written by gen/law.py) -/
set_option maxRecDepth 100000
theorem fn_X0_8 : aFN "MazeBondsLaw" 8 0 [.null, .null, .null, .null, .null, .int 0, .int 0, .null] 8 := ⟨RX1, TX1, tyX1, rfl, in_X1, tyX1_ok, q110, q111, q72, by decide⟩
theorem ki_X0_131 : aKI "MazeBondsLaw" 131 yX1_init cX1_init 1 0 := ⟨rfl, Or.inl q112, q113, q72, q114, ⟨by decide +kernel, by decide +kernel, by decide +kernel⟩⟩
theorem fn_X0_132 : aFN "MazeBondsLaw" 132 2 [.null, .null, .null, .int 0, .null, .int 0, .int 0, .int 0, .int 0, .int 0, .null, .int 0, .int 0, .null, .null, .int 0, .int 0, .int 0, .int 0, .null, .int 0] 21 := ⟨RX3, TX3, tyX3, rfl, in_X3, tyX3_ok, q1697, q1698, q81, by decide⟩
theorem ki_X0_134 : aKI "MazeBondsLaw" 134 yX3_init cX3_init 1 0 := ⟨rfl, Or.inl q1699, q1700, q81, q1701, ⟨by decide +kernel, by decide +kernel, by decide +kernel⟩⟩
theorem ks_X0_135 : aKSW "MazeBondsLaw" 135 yX0_hedge cX0_hedge 6 (Option.some Jvm.ClassFile.FieldType.int) [((0 : Nat), (12 : Nat), (15 : Nat), (13 : Nat))] 5 := ⟨q616, q617, q71, q618, ⟨by decide +kernel, by decide +kernel, by decide +kernel⟩⟩
theorem kv_X0_140 : aKV "MazeBondsLaw" 140 2 yX3_hedge cX3_hedge 4 (Option.some Jvm.ClassFile.FieldType.int) 3 := ⟨⟨TX3, 21, rfl⟩, Or.inl q1771, q1772, q1773, q81, q1774, ⟨by decide +kernel, by decide +kernel, by decide +kernel⟩⟩
theorem kv_X0_141 : aKV "MazeBondsLaw" 141 2 yX3_thrown cX3_thrown 1 (Option.some Jvm.ClassFile.FieldType.int) 0 := ⟨⟨TX3, 21, rfl⟩, Or.inl q1767, q1768, q1769, q81, q1770, ⟨by decide +kernel, by decide +kernel, by decide +kernel⟩⟩
theorem kv_X0_144 : aKV "MazeBondsLaw" 144 0 yX1_summer cX1_summer 2 (Option.some Jvm.ClassFile.FieldType.int) 0 := ⟨⟨TX1, 8, rfl⟩, Or.inl q249, q250, q251, q72, q252, ⟨by decide +kernel, by decide +kernel, by decide +kernel⟩⟩
theorem kv_X0_147 : aKV "MazeBondsLaw" 147 2 yX3_summer cX3_summer 1 (Option.some Jvm.ClassFile.FieldType.int) 0 := ⟨⟨TX3, 21, rfl⟩, Or.inl q1812, q1813, q1814, q81, q1815, ⟨by decide +kernel, by decide +kernel, by decide +kernel⟩⟩
theorem ks_X0_148 : aKSW "MazeBondsLaw" 148 yX0_trim cX0_trim 6 (Option.some Jvm.ClassFile.FieldType.int) [((0 : Nat), (12 : Nat), (15 : Nat), (13 : Nat))] 5 := ⟨q703, q704, q71, q705, ⟨by decide +kernel, by decide +kernel, by decide +kernel⟩⟩
theorem kv_X0_150 : aKV "MazeBondsLaw" 150 2 yX3_trim cX3_trim 4 (Option.some Jvm.ClassFile.FieldType.int) 3 := ⟨⟨TX3, 21, rfl⟩, Or.inl q1828, q1829, q1830, q81, q1831, ⟨by decide +kernel, by decide +kernel, by decide +kernel⟩⟩
theorem ks_X0_151 : aKSW "MazeBondsLaw" 151 yX0_minotaur cX0_minotaur 4 (Option.some Jvm.ClassFile.FieldType.int) [((0 : Nat), (9 : Nat), (12 : Nat), (13 : Nat))] 3 := ⟨q739, q740, q71, q741, ⟨by decide +kernel, by decide +kernel, by decide +kernel⟩⟩
theorem kv_X0_154 : aKV "MazeBondsLaw" 154 2 yX3_minotaur cX3_minotaur 2 (Option.some Jvm.ClassFile.FieldType.int) 1 := ⟨⟨TX3, 21, rfl⟩, Or.inl q1843, q1844, q1845, q81, q1846, ⟨by decide +kernel, by decide +kernel, by decide +kernel⟩⟩
theorem ks_X0_155 : aKSW "MazeBondsLaw" 155 yX0_gardener cX0_gardener 4 (Option.some Jvm.ClassFile.FieldType.int) [((0 : Nat), (9 : Nat), (12 : Nat), (13 : Nat))] 3 := ⟨q762, q763, q71, q764, ⟨by decide +kernel, by decide +kernel, by decide +kernel⟩⟩
theorem kv_X0_157 : aKV "MazeBondsLaw" 157 2 yX3_gardener cX3_gardener 2 (Option.some Jvm.ClassFile.FieldType.int) 1 := ⟨⟨TX3, 21, rfl⟩, Or.inl q1859, q1860, q1861, q81, q1862, ⟨by decide +kernel, by decide +kernel, by decide +kernel⟩⟩
theorem ks_X0_158 : aKSW "MazeBondsLaw" 158 yX0_visitor cX0_visitor 4 (Option.some Jvm.ClassFile.FieldType.int) [((0 : Nat), (9 : Nat), (12 : Nat), (13 : Nat))] 3 := ⟨q774, q775, q71, q776, ⟨by decide +kernel, by decide +kernel, by decide +kernel⟩⟩
theorem kv_X0_160 : aKV "MazeBondsLaw" 160 2 yX3_visitor cX3_visitor 2 (Option.some Jvm.ClassFile.FieldType.int) 1 := ⟨⟨TX3, 21, rfl⟩, Or.inl q1868, q1869, q1870, q81, q1871, ⟨by decide +kernel, by decide +kernel, by decide +kernel⟩⟩
theorem ks_X0_161 : aKSW "MazeBondsLaw" 161 yX0_bond cX0_bond 6 (Option.some Jvm.ClassFile.FieldType.int) [((0 : Nat), (12 : Nat), (15 : Nat), (13 : Nat))] 5 := ⟨q797, q798, q71, q799, ⟨by decide +kernel, by decide +kernel, by decide +kernel⟩⟩
theorem kv_X0_163 : aKV "MazeBondsLaw" 163 2 yX3_bond cX3_bond 4 (Option.some Jvm.ClassFile.FieldType.int) 3 := ⟨⟨TX3, 21, rfl⟩, Or.inl q1895, q1896, q1897, q81, q1898, ⟨by decide +kernel, by decide +kernel, by decide +kernel⟩⟩
theorem ks_X0_164 : aKSW "MazeBondsLaw" 164 yX0_walk cX0_walk 5 (Option.some Jvm.ClassFile.FieldType.int) [((0 : Nat), (10 : Nat), (13 : Nat), (13 : Nat))] 4 := ⟨q827, q828, q71, q829, ⟨by decide +kernel, by decide +kernel, by decide +kernel⟩⟩
theorem kv_X0_167 : aKV "MazeBondsLaw" 167 2 yX3_walk cX3_walk 3 (Option.some Jvm.ClassFile.FieldType.int) 2 := ⟨⟨TX3, 21, rfl⟩, Or.inl q1908, q1909, q1910, q81, q1911, ⟨by decide +kernel, by decide +kernel, by decide +kernel⟩⟩
theorem ks_X0_168 : aKSW "MazeBondsLaw" 168 yX0_rest cX0_rest 5 (Option.some Jvm.ClassFile.FieldType.int) [((0 : Nat), (10 : Nat), (13 : Nat), (13 : Nat))] 4 := ⟨q865, q866, q71, q867, ⟨by decide +kernel, by decide +kernel, by decide +kernel⟩⟩
theorem kv_X0_170 : aKV "MazeBondsLaw" 170 2 yX3_rest cX3_rest 3 (Option.some Jvm.ClassFile.FieldType.int) 2 := ⟨⟨TX3, 21, rfl⟩, Or.inl q1924, q1925, q1926, q81, q1927, ⟨by decide +kernel, by decide +kernel, by decide +kernel⟩⟩
theorem ks_X0_171 : aKSW "MazeBondsLaw" 171 yX0_leaves cX0_leaves 5 (Option.some Jvm.ClassFile.FieldType.int) [((0 : Nat), (10 : Nat), (13 : Nat), (41 : Nat)), ((0 : Nat), (10 : Nat), (17 : Nat), (43 : Nat))] 4 := ⟨q876, q877, q71, q878, ⟨by decide +kernel, by decide +kernel, by decide +kernel⟩⟩
theorem kv_X0_173 : aKV "MazeBondsLaw" 173 2 yX3_leaves cX3_leaves 4 (Option.some Jvm.ClassFile.FieldType.int) 2 := ⟨⟨TX3, 21, rfl⟩, Or.inl q1932, q1933, q1934, q81, q1935, ⟨by decide +kernel, by decide +kernel, by decide +kernel⟩⟩
theorem ks_X0_174 : aKSW "MazeBondsLaw" 174 yX0_isGap cX0_isGap 5 (Option.some Jvm.ClassFile.FieldType.int) [((0 : Nat), (17 : Nat), (20 : Nat), (41 : Nat))] 4 := ⟨q948, q949, q71, q950, ⟨by decide +kernel, by decide +kernel, by decide +kernel⟩⟩
theorem kv_X0_176 : aKV "MazeBondsLaw" 176 2 yX3_isGap cX3_isGap 3 (Option.some Jvm.ClassFile.FieldType.boolean) 2 := ⟨⟨TX3, 21, rfl⟩, Or.inl q1940, q1941, q1942, q81, q1943, ⟨by decide +kernel, by decide +kernel, by decide +kernel⟩⟩
theorem ks_X0_177 : aKSW "MazeBondsLaw" 177 yX0_hours cX0_hours 5 (Option.some Jvm.ClassFile.FieldType.int) [((0 : Nat), (10 : Nat), (13 : Nat), (41 : Nat)), ((0 : Nat), (10 : Nat), (17 : Nat), (43 : Nat))] 4 := ⟨q956, q957, q71, q958, ⟨by decide +kernel, by decide +kernel, by decide +kernel⟩⟩
theorem kv_X0_179 : aKV "MazeBondsLaw" 179 2 yX3_hours cX3_hours 4 (Option.some Jvm.ClassFile.FieldType.int) 2 := ⟨⟨TX3, 21, rfl⟩, Or.inl q1944, q1945, q1946, q81, q1947, ⟨by decide +kernel, by decide +kernel, by decide +kernel⟩⟩
theorem ks_X0_180 : aKSW "MazeBondsLaw" 180 yX0_hoursAgain cX0_hoursAgain 5 (Option.some Jvm.ClassFile.FieldType.int) [((0 : Nat), (10 : Nat), (13 : Nat), (41 : Nat)), ((0 : Nat), (10 : Nat), (17 : Nat), (43 : Nat))] 4 := ⟨q964, q965, q71, q966, ⟨by decide +kernel, by decide +kernel, by decide +kernel⟩⟩
theorem kv_X0_182 : aKV "MazeBondsLaw" 182 2 yX3_hoursAgain cX3_hoursAgain 3 (Option.some Jvm.ClassFile.FieldType.int) 2 := ⟨⟨TX3, 21, rfl⟩, Or.inl q1948, q1949, q1950, q81, q1951, ⟨by decide +kernel, by decide +kernel, by decide +kernel⟩⟩
theorem ks_X0_183 : aKSW "MazeBondsLaw" 183 yX0_next cX0_next 4 (Option.some Jvm.ClassFile.FieldType.int) [((0 : Nat), (9 : Nat), (12 : Nat), (41 : Nat)), ((0 : Nat), (9 : Nat), (15 : Nat), (43 : Nat))] 3 := ⟨q979, q980, q71, q981, ⟨by decide +kernel, by decide +kernel, by decide +kernel⟩⟩
theorem kv_X0_185 : aKV "MazeBondsLaw" 185 2 yX3_next cX3_next 3 (Option.some Jvm.ClassFile.FieldType.int) 1 := ⟨⟨TX3, 21, rfl⟩, Or.inl q1953, q1954, q1955, q81, q1956, ⟨by decide +kernel, by decide +kernel, by decide +kernel⟩⟩
theorem ks_X0_186 : aKSW "MazeBondsLaw" 186 yX0_reached cX0_reached 4 (Option.some Jvm.ClassFile.FieldType.int) [((0 : Nat), (9 : Nat), (12 : Nat), (41 : Nat))] 3 := ⟨q987, q988, q71, q989, ⟨by decide +kernel, by decide +kernel, by decide +kernel⟩⟩
theorem kv_X0_188 : aKV "MazeBondsLaw" 188 2 yX3_reached cX3_reached 2 (Option.some Jvm.ClassFile.FieldType.int) 1 := ⟨⟨TX3, 21, rfl⟩, Or.inl q1957, q1958, q1959, q81, q1960, ⟨by decide +kernel, by decide +kernel, by decide +kernel⟩⟩
theorem ks_X0_189 : aKSW "MazeBondsLaw" 189 yX0_trims cX0_trims 4 (Option.some Jvm.ClassFile.FieldType.int) [((0 : Nat), (9 : Nat), (12 : Nat), (41 : Nat))] 3 := ⟨q995, q996, q71, q997, ⟨by decide +kernel, by decide +kernel, by decide +kernel⟩⟩
theorem kv_X0_191 : aKV "MazeBondsLaw" 191 2 yX3_trims cX3_trims 2 (Option.some Jvm.ClassFile.FieldType.int) 1 := ⟨⟨TX3, 21, rfl⟩, Or.inl q1961, q1962, q1963, q81, q1964, ⟨by decide +kernel, by decide +kernel, by decide +kernel⟩⟩
theorem ks_X0_192 : aKSW "MazeBondsLaw" 192 yX0_trimsAgain cX0_trimsAgain 4 (Option.some Jvm.ClassFile.FieldType.int) [((0 : Nat), (9 : Nat), (12 : Nat), (41 : Nat))] 3 := ⟨q1002, q1003, q71, q1004, ⟨by decide +kernel, by decide +kernel, by decide +kernel⟩⟩
theorem kv_X0_194 : aKV "MazeBondsLaw" 194 2 yX3_trimsAgain cX3_trimsAgain 2 (Option.some Jvm.ClassFile.FieldType.int) 1 := ⟨⟨TX3, 21, rfl⟩, Or.inl q1965, q1966, q1967, q81, q1968, ⟨by decide +kernel, by decide +kernel, by decide +kernel⟩⟩
theorem ks_X0_195 : aKSW "MazeBondsLaw" 195 yX0_isNeeded cX0_isNeeded 5 (Option.some Jvm.ClassFile.FieldType.int) [((0 : Nat), (17 : Nat), (20 : Nat), (41 : Nat)), ((0 : Nat), (17 : Nat), (24 : Nat), (43 : Nat))] 4 := ⟨q1009, q1010, q71, q1011, ⟨by decide +kernel, by decide +kernel, by decide +kernel⟩⟩
theorem kv_X0_197 : aKV "MazeBondsLaw" 197 2 yX3_isNeeded cX3_isNeeded 6 (Option.some Jvm.ClassFile.FieldType.boolean) 2 := ⟨⟨TX3, 21, rfl⟩, Or.inl q1970, q1971, q1972, q81, q1973, ⟨by decide +kernel, by decide +kernel, by decide +kernel⟩⟩
theorem ks_X0_198 : aKSW "MazeBondsLaw" 198 yX0_closesIn cX0_closesIn 5 (Option.some Jvm.ClassFile.FieldType.int) [((0 : Nat), (10 : Nat), (13 : Nat), (41 : Nat)), ((0 : Nat), (10 : Nat), (17 : Nat), (43 : Nat))] 4 := ⟨q1016, q1017, q71, q1018, ⟨by decide +kernel, by decide +kernel, by decide +kernel⟩⟩
theorem kv_X0_200 : aKV "MazeBondsLaw" 200 2 yX3_closesIn cX3_closesIn 4 (Option.some Jvm.ClassFile.FieldType.int) 2 := ⟨⟨TX3, 21, rfl⟩, Or.inl q1974, q1975, q1976, q81, q1977, ⟨by decide +kernel, by decide +kernel, by decide +kernel⟩⟩
theorem kv_X0_201 : aKV "MazeBondsLaw" 201 0 yX1_summersLeft cX1_summersLeft 3 (Option.some Jvm.ClassFile.FieldType.int) 0 := ⟨⟨TX1, 8, rfl⟩, Or.inl q566, q567, q568, q72, q569, ⟨by decide +kernel, by decide +kernel, by decide +kernel⟩⟩
theorem kv_X0_204 : aKV "MazeBondsLaw" 204 2 yX3_summersLeft cX3_summersLeft 3 (Option.some Jvm.ClassFile.FieldType.int) 0 := ⟨⟨TX3, 21, rfl⟩, Or.inl q1978, q1979, q1980, q81, q1981, ⟨by decide +kernel, by decide +kernel, by decide +kernel⟩⟩
theorem ks_X0_205 : aKSW "MazeBondsLaw" 205 yX0_gardenerOf cX0_gardenerOf 5 (Option.some Jvm.ClassFile.FieldType.int) [((0 : Nat), (10 : Nat), (13 : Nat), (41 : Nat)), ((0 : Nat), (10 : Nat), (17 : Nat), (76 : Nat))] 4 := ⟨q1023, q1024, q71, q1025, ⟨by decide +kernel, by decide +kernel, by decide +kernel⟩⟩
theorem kv_X0_207 : aKV "MazeBondsLaw" 207 2 yX3_gardenerOf cX3_gardenerOf 3 (Option.some Jvm.ClassFile.FieldType.int) 2 := ⟨⟨TX3, 21, rfl⟩, Or.inl q1982, q1983, q1984, q81, q1985, ⟨by decide +kernel, by decide +kernel, by decide +kernel⟩⟩
theorem ks_X0_208 : aKSW "MazeBondsLaw" 208 yX0_visitorOf cX0_visitorOf 5 (Option.some Jvm.ClassFile.FieldType.int) [((0 : Nat), (10 : Nat), (13 : Nat), (41 : Nat)), ((0 : Nat), (10 : Nat), (17 : Nat), (76 : Nat))] 4 := ⟨q1061, q1062, q71, q1063, ⟨by decide +kernel, by decide +kernel, by decide +kernel⟩⟩
theorem kv_X0_210 : aKV "MazeBondsLaw" 210 2 yX3_visitorOf cX3_visitorOf 4 (Option.some Jvm.ClassFile.FieldType.int) 2 := ⟨⟨TX3, 21, rfl⟩, Or.inl q1994, q1995, q1996, q81, q1997, ⟨by decide +kernel, by decide +kernel, by decide +kernel⟩⟩
theorem ks_X0_211 : aKSW "MazeBondsLaw" 211 yX0_wouldPay cX0_wouldPay 4 (Option.some Jvm.ClassFile.FieldType.int) [((0 : Nat), (9 : Nat), (12 : Nat), (41 : Nat)), ((0 : Nat), (9 : Nat), (15 : Nat), (43 : Nat))] 3 := ⟨q1080, q1081, q71, q1082, ⟨by decide +kernel, by decide +kernel, by decide +kernel⟩⟩
theorem kv_X0_213 : aKV "MazeBondsLaw" 213 2 yX3_wouldPay cX3_wouldPay 4 (Option.some Jvm.ClassFile.FieldType.int) 1 := ⟨⟨TX3, 21, rfl⟩, Or.inl q1998, q1999, q2000, q81, q2001, ⟨by decide +kernel, by decide +kernel, by decide +kernel⟩⟩
theorem ks_X0_214 : aKSW "MazeBondsLaw" 214 yX0_owed cX0_owed 4 (Option.some Jvm.ClassFile.FieldType.int) [((0 : Nat), (9 : Nat), (12 : Nat), (41 : Nat))] 3 := ⟨q1089, q1090, q71, q1091, ⟨by decide +kernel, by decide +kernel, by decide +kernel⟩⟩
theorem kv_X0_216 : aKV "MazeBondsLaw" 216 2 yX3_owed cX3_owed 2 (Option.some Jvm.ClassFile.FieldType.int) 1 := ⟨⟨TX3, 21, rfl⟩, Or.inl q2002, q2003, q2004, q81, q2005, ⟨by decide +kernel, by decide +kernel, by decide +kernel⟩⟩
theorem ks_X0_217 : aKSW "MazeBondsLaw" 217 yX0_ranked cX0_ranked 5 (Option.some Jvm.ClassFile.FieldType.int) [((0 : Nat), (10 : Nat), (13 : Nat), (76 : Nat)), ((0 : Nat), (10 : Nat), (17 : Nat), (43 : Nat))] 4 := ⟨q1100, q1101, q71, q1102, ⟨by decide +kernel, by decide +kernel, by decide +kernel⟩⟩
theorem kv_X0_219 : aKV "MazeBondsLaw" 219 2 yX3_ranked cX3_ranked 7 (Option.some Jvm.ClassFile.FieldType.int) 2 := ⟨⟨TX3, 21, rfl⟩, Or.inl q2010, q2011, q2012, q81, q2013, ⟨by decide +kernel, by decide +kernel, by decide +kernel⟩⟩
theorem ks_X0_220 : aKSW "MazeBondsLaw" 220 yX0_richest cX0_richest 4 (Option.some Jvm.ClassFile.FieldType.int) [((0 : Nat), (9 : Nat), (12 : Nat), (43 : Nat))] 3 := ⟨q1110, q1111, q71, q1112, ⟨by decide +kernel, by decide +kernel, by decide +kernel⟩⟩
theorem kv_X0_222 : aKV "MazeBondsLaw" 222 2 yX3_richest cX3_richest 7 (Option.some Jvm.ClassFile.FieldType.int) 1 := ⟨⟨TX3, 21, rfl⟩, Or.inl q2018, q2019, q2020, q81, q2021, ⟨by decide +kernel, by decide +kernel, by decide +kernel⟩⟩
theorem ks_X0_223 : aKSW "MazeBondsLaw" 223 yX0_append cX0_append 4 (Option.some Jvm.ClassFile.FieldType.int) [((0 : Nat), (9 : Nat), (12 : Nat), (97 : Nat))] 3 := ⟨q1121, q1122, q71, q1123, ⟨by decide +kernel, by decide +kernel, by decide +kernel⟩⟩
theorem kv_X0_226 : aKV "MazeBondsLaw" 226 2 yX3_append cX3_append 2 (Option.some Jvm.ClassFile.FieldType.int) 1 := ⟨⟨TX3, 21, rfl⟩, Or.inl q2022, q2023, q2024, q81, q2025, ⟨by decide +kernel, by decide +kernel, by decide +kernel⟩⟩
theorem ks_X0_227 : aKSW "MazeBondsLaw" 227 yX0_commands cX0_commands 3 (Option.some Jvm.ClassFile.FieldType.int) [((0 : Nat), (8 : Nat), (11 : Nat), (76 : Nat)), ((0 : Nat), (8 : Nat), (14 : Nat), (13 : Nat))] 2 := ⟨q1147, q1148, q71, q1149, ⟨by decide +kernel, by decide +kernel, by decide +kernel⟩⟩
theorem kv_X0_230 : aKV "MazeBondsLaw" 230 2 yX3_commands cX3_commands 4 (Option.some Jvm.ClassFile.FieldType.int) 0 := ⟨⟨TX3, 21, rfl⟩, Or.inl q2026, q2027, q2028, q81, q2029, ⟨by decide +kernel, by decide +kernel, by decide +kernel⟩⟩
theorem kv_X0_231 : aKV "MazeBondsLaw" 231 0 yX1_faultPosition cX1_faultPosition 1 (Option.some Jvm.ClassFile.FieldType.int) 0 := ⟨⟨TX1, 8, rfl⟩, Or.inl q602, q603, q604, q72, q605, ⟨by decide +kernel, by decide +kernel, by decide +kernel⟩⟩
theorem kv_X0_234 : aKV "MazeBondsLaw" 234 2 yX3_faultPosition cX3_faultPosition 1 (Option.some Jvm.ClassFile.FieldType.int) 0 := ⟨⟨TX3, 21, rfl⟩, Or.inl q2063, q2064, q2065, q81, q2066, ⟨by decide +kernel, by decide +kernel, by decide +kernel⟩⟩
theorem ks_X0_235 : aKSW "MazeBondsLaw" 235 yX0_reason cX0_reason 4 (Option.some Jvm.ClassFile.FieldType.int) [((0 : Nat), (9 : Nat), (12 : Nat), (76 : Nat)), ((0 : Nat), (9 : Nat), (15 : Nat), (43 : Nat))] 3 := ⟨q1331, q1332, q71, q1333, ⟨by decide +kernel, by decide +kernel, by decide +kernel⟩⟩
theorem kv_X0_237 : aKV "MazeBondsLaw" 237 2 yX3_reason cX3_reason 2 (Option.some Jvm.ClassFile.FieldType.int) 1 := ⟨⟨TX3, 21, rfl⟩, Or.inl q2067, q2068, q2069, q81, q2070, ⟨by decide +kernel, by decide +kernel, by decide +kernel⟩⟩
theorem ks_X0_238 : aKSW "MazeBondsLaw" 238 yX0_line cX0_line 4 (Option.some Jvm.ClassFile.FieldType.int) [((0 : Nat), (9 : Nat), (12 : Nat), (41 : Nat))] 3 := ⟨q1338, q1339, q71, q1340, ⟨by decide +kernel, by decide +kernel, by decide +kernel⟩⟩
theorem kv_X0_240 : aKV "MazeBondsLaw" 240 2 yX3_line cX3_line 3 (Option.some Jvm.ClassFile.FieldType.int) 1 := ⟨⟨TX3, 21, rfl⟩, Or.inl q2072, q2073, q2074, q81, q2075, ⟨by decide +kernel, by decide +kernel, by decide +kernel⟩⟩
theorem ks_X0_241 : aKSW "MazeBondsLaw" 241 yX0_row cX0_row 4 (Option.some Jvm.ClassFile.FieldType.int) [((0 : Nat), (9 : Nat), (12 : Nat), (76 : Nat))] 3 := ⟨q1583, q1584, q71, q1585, ⟨by decide +kernel, by decide +kernel, by decide +kernel⟩⟩
theorem kv_X0_243 : aKV "MazeBondsLaw" 243 2 yX3_row cX3_row 3 (Option.some Jvm.ClassFile.FieldType.int) 1 := ⟨⟨TX3, 21, rfl⟩, Or.inl q2084, q2085, q2086, q81, q2087, ⟨by decide +kernel, by decide +kernel, by decide +kernel⟩⟩
theorem ks_X0_244 : aKSW "MazeBondsLaw" 244 yX0_character cX0_character 4 (Option.some Jvm.ClassFile.FieldType.int) [((0 : Nat), (9 : Nat), (12 : Nat), (41 : Nat))] 3 := ⟨q1594, q1595, q71, q1596, ⟨by decide +kernel, by decide +kernel, by decide +kernel⟩⟩
theorem kv_X0_246 : aKV "MazeBondsLaw" 246 2 yX3_character cX3_character 2 (Option.some Jvm.ClassFile.FieldType.char) 1 := ⟨⟨TX3, 21, rfl⟩, Or.inl q2092, q2093, q2094, q81, q2095, ⟨by decide +kernel, by decide +kernel, by decide +kernel⟩⟩
theorem ks_X0_247 : aKSW "MazeBondsLaw" 247 yX0_meanLost cX0_meanLost 3 (Option.some Jvm.ClassFile.FieldType.int) [((0 : Nat), (7 : Nat), (10 : Nat), (120 : Nat))] 2 := ⟨q1611, q1612, q71, q1613, ⟨by decide +kernel, by decide +kernel, by decide +kernel⟩⟩
theorem kv_X0_250 : aKV "MazeBondsLaw" 250 2 yX3_meanLost cX3_meanLost 3 (Option.some Jvm.ClassFile.FieldType.double) 0 := ⟨⟨TX3, 21, rfl⟩, Or.inl q2096, q2097, q2098, q81, q2099, ⟨by decide +kernel, by decide +kernel, by decide +kernel⟩⟩
theorem kv_X0_251 : aKV "MazeBondsLaw" 251 0 yX1_gapShare cX1_gapShare 1 (Option.some Jvm.ClassFile.FieldType.float) 0 := ⟨⟨TX1, 8, rfl⟩, Or.inl q606, q607, q608, q72, q609, ⟨by decide +kernel, by decide +kernel, by decide +kernel⟩⟩
theorem kv_X0_255 : aKV "MazeBondsLaw" 255 2 yX3_gapShare cX3_gapShare 1 (Option.some Jvm.ClassFile.FieldType.float) 0 := ⟨⟨TX3, 21, rfl⟩, Or.inl q2100, q2101, q2102, q81, q2103, ⟨by decide +kernel, by decide +kernel, by decide +kernel⟩⟩
theorem ks_X0_256 : aKSW "MazeBondsLaw" 256 yX0_account cX0_account 4 (Option.some Jvm.ClassFile.FieldType.int) [((0 : Nat), (9 : Nat), (12 : Nat), (76 : Nat))] 3 := ⟨q1645, q1646, q71, q1647, ⟨by decide +kernel, by decide +kernel, by decide +kernel⟩⟩
theorem kv_X0_258 : aKV "MazeBondsLaw" 258 2 yX3_account cX3_account 2 (Option.some Jvm.ClassFile.FieldType.int) 1 := ⟨⟨TX3, 21, rfl⟩, Or.inl q2105, q2106, q2107, q81, q2108, ⟨by decide +kernel, by decide +kernel, by decide +kernel⟩⟩
theorem ks_X0_259 : aKSW "MazeBondsLaw" 259 yX0_undo cX0_undo 3 (Option.some Jvm.ClassFile.FieldType.int) [((0 : Nat), (8 : Nat), (11 : Nat), (97 : Nat))] 2 := ⟨q1675, q1676, q71, q1677, ⟨by decide +kernel, by decide +kernel, by decide +kernel⟩⟩
theorem kv_X0_261 : aKV "MazeBondsLaw" 261 2 yX3_undo cX3_undo 2 (Option.some Jvm.ClassFile.FieldType.int) 0 := ⟨⟨TX3, 21, rfl⟩, Or.inl q2121, q2122, q2123, q81, q2124, ⟨by decide +kernel, by decide +kernel, by decide +kernel⟩⟩
theorem kv_X0_262 : aKV "MazeBondsLaw" 262 0 yX1_save cX1_save 1 (Option.some Jvm.ClassFile.FieldType.int) 0 := ⟨⟨TX1, 8, rfl⟩, Or.inl q612, q613, q614, q72, q615, ⟨by decide +kernel, by decide +kernel, by decide +kernel⟩⟩
theorem kv_X0_265 : aKV "MazeBondsLaw" 265 2 yX3_save cX3_save 2 (Option.some Jvm.ClassFile.FieldType.int) 0 := ⟨⟨TX3, 21, rfl⟩, Or.inl q2125, q2126, q2127, q81, q2128, ⟨by decide +kernel, by decide +kernel, by decide +kernel⟩⟩
theorem ks_X0_266 : aKSW "MazeBondsLaw" 266 yX0_restore cX0_restore 3 (Option.some Jvm.ClassFile.FieldType.int) [((0 : Nat), (8 : Nat), (11 : Nat), (97 : Nat))] 2 := ⟨q1686, q1687, q71, q1688, ⟨by decide +kernel, by decide +kernel, by decide +kernel⟩⟩
theorem kv_X0_268 : aKV "MazeBondsLaw" 268 2 yX3_restore cX3_restore 2 (Option.some Jvm.ClassFile.FieldType.int) 0 := ⟨⟨TX3, 21, rfl⟩, Or.inl q2129, q2130, q2131, q81, q2132, ⟨by decide +kernel, by decide +kernel, by decide +kernel⟩⟩
abbrev M_L_law : aM := ("MazeBondsLaw", cL_law, 10, some .boolean, [], "law")
def p_L_law_b28 (G : aG) (h0 : aH) (K : aRes → aH → Prop) (x9 : (Nat × Nat × Nat × Nat × Nat × Int32 × aH)) : Prop := aW G M_L_law 8192 104096 h0 K x9.2.2.2.2.2.2 28 [some (.ref x9.1), some (.ref x9.2.1), some (.ref x9.2.2.1), some (.ref x9.2.2.2.1), some (.ref x9.2.2.2.2.1), some (.int x9.2.2.2.2.2.1), none, none, none, none] []
noncomputable def t_L_law_l2408 (Z : aZ) (T : Nat → Nat) (h : aH) (v0 : Nat) (v1 : Nat) (v2 : Nat) (v3 : Nat) (v4 : Nat) (v5 : Int32) : Option ((Nat × Nat × Nat × Nat × Nat × Int32 × aH) ⊕ (Int32 × aH)) :=
  some (.inl (v0, v1, v2, v3, v4, (v5 + 4), h))
theorem k_L_law_l2408 {G : aG} {h0 : aH} {K : aRes → aH → Prop} {T : Nat → Nat} {h : aH} {v0 : Nat} {v1 : Nat} {v2 : Nat} {v3 : Nat} {v4 : Nat} {v5 : Int32} {e : ((Nat × Nat × Nat × Nat × Nat × Int32 × aH) ⊕ (Int32 × aH))} (hT : t_L_law_l2408 (gZ G) T h v0 v1 v2 v3 v4 v5 = some e) (he : (Sum.elim (p_L_law_b28 G h0 K) (fun e => aTo (aEI e.1 e.2) K)) e) : aW G M_L_law 8192 104096 h0 K h 2408 [some (.ref v0), some (.ref v1), some (.ref v2), some (.ref v3), some (.ref v4), some (.int v5), none, none, none, none] [] := by
  unfold t_L_law_l2408 at hT
  refine a_iinc (v := (v5 + 4)) (lv' := [some (.ref v0), some (.ref v1), some (.ref v2), some (.ref v3), some (.ref v4), some (.int (v5 + 4)), none, none, none, none]) dL_law_2408 rfl (by rfl) rfl (by decide) rfl ?_
  refine a_goto 28 dL_law_2411 rfl ?_
  obtain rfl := Option.some.inj hT
  exact he
noncomputable def t_L_law_l293 (Z : aZ) (T : Nat → Nat) (h : aH) (v0 : Nat) (v1 : Nat) (v2 : Nat) (v3 : Nat) (v4 : Nat) (v5 : Int32) : Option ((Nat × Nat × Nat × Nat × Nat × Int32 × aH) ⊕ (Int32 × aH)) :=
  t_L_law_l2408 Z T h v0 v1 v2 v3 v4 v5
theorem k_L_law_l293 {G : aG} {h0 : aH} {K : aRes → aH → Prop} {T : Nat → Nat} {h : aH} {v0 : Nat} {v1 : Nat} {v2 : Nat} {v3 : Nat} {v4 : Nat} {v5 : Int32} {e : ((Nat × Nat × Nat × Nat × Nat × Int32 × aH) ⊕ (Int32 × aH))} (hT : t_L_law_l293 (gZ G) T h v0 v1 v2 v3 v4 v5 = some e) (he : (Sum.elim (p_L_law_b28 G h0 K) (fun e => aTo (aEI e.1 e.2) K)) e) : aW G M_L_law 8192 104096 h0 K h 293 [some (.ref v0), some (.ref v1), some (.ref v2), some (.ref v3), some (.ref v4), some (.int v5), none, none, none, none] [] := by
  unfold t_L_law_l293 at hT
  refine a_goto 2408 dL_law_293 rfl ?_
  exact k_L_law_l2408 hT he
noncomputable def t_L_law_l216 (Z : aZ) (T : Nat → Nat) (h : aH) (v0 : Nat) (v1 : Nat) (v2 : Nat) (v3 : Nat) (v4 : Nat) (v5 : Int32) : Option ((Nat × Nat × Nat × Nat × Nat × Int32 × aH) ⊕ (Int32 × aH)) :=
  (oldLd .int Z v0 (v5 + 1)).bind fun z24 =>
  (oldLd .int Z v0 (v5 + 2)).bind fun z26 =>
  (oldLd .int Z v0 (v5 + 3)).bind fun z28 =>
  (t_X0_hedge Z h v1 z24 z26 z28 v3).bind fun r31 =>
  (oldLd .int Z v0 (v5 + 1)).bind fun z34 =>
  (oldLd .int Z v0 (v5 + 2)).bind fun z36 =>
  (oldLd .int Z v0 (v5 + 3)).bind fun z38 =>
  if isC 2 r31.2 v2 = true then
  (twc Z T r31.2 v2 (fun s9 => t_X3_hedge s9 z34 z36 z38)).bind fun r42 =>
  if isC 2 r42.2 v2 = true then
  (twc Z T r42.2 v2 (fun s9 => t_X3_thrown s9)).bind fun r47 =>
  if r47.1 = r31.1 then
    if r31.1 = 0 then
      (ldJ Z r47.2 v3 0).bind fun z52 =>
      if (lg_cmp z52 ((r42.1 : Int32).toInt64)) = 0 then
        t_L_law_l293 Z T r47.2 v0 v1 v2 v3 v4 v5
      else
        some (.inr ((0, r47.2)))
    else
      t_L_law_l293 Z T r47.2 v0 v1 v2 v3 v4 v5
  else
    some (.inr ((0, r47.2)))
  else none
  else none
theorem k_L_law_l216 {G : aG} {h0 : aH} {K : aRes → aH → Prop} {T : Nat → Nat} {h : aH} {v0 : Nat} {v1 : Nat} {v2 : Nat} {v3 : Nat} {v4 : Nat} {v5 : Int32} {e : ((Nat × Nat × Nat × Nat × Nat × Int32 × aH) ⊕ (Int32 × aH))} (hT : t_L_law_l216 (gZ G) T h v0 v1 v2 v3 v4 v5 = some e) (he : (Sum.elim (p_L_law_b28 G h0 K) (fun e => aTo (aEI e.1 e.2) K)) e) : aW G M_L_law 8192 104096 h0 K h 216 [some (.ref v0), some (.ref v1), some (.ref v2), some (.ref v3), some (.ref v4), some (.int v5), none, none, none, none] [] := by
  unfold t_L_law_l216 at hT
  refine a_aload_n dL_law_216 rfl ?_
  refine a_aload_n dL_law_217 rfl ?_
  refine a_iload dL_law_218 rfl ?_
  refine a_iconst (v := 1) dL_law_220 (by decide) ?_
  refine a_iadd dL_law_221 ?_
  obtain ⟨z24, e23, hT⟩ := obnd hT
  refine a_oldI e23 dL_law_222 ?_
  refine a_aload_n dL_law_223 rfl ?_
  refine a_iload dL_law_224 rfl ?_
  refine a_iconst (v := 2) dL_law_226 (by decide) ?_
  refine a_iadd dL_law_227 ?_
  obtain ⟨z26, e25, hT⟩ := obnd hT
  refine a_oldI e25 dL_law_228 ?_
  refine a_aload_n dL_law_229 rfl ?_
  refine a_iload dL_law_230 rfl ?_
  refine a_iconst (v := 3) dL_law_232 (by decide) ?_
  refine a_iadd dL_law_233 ?_
  obtain ⟨z28, e27, hT⟩ := obnd hT
  refine a_oldI e27 dL_law_234 ?_
  refine a_aload_n dL_law_235 rfl ?_
  obtain ⟨r31, e32, hT⟩ := obnd hT
  refine a_callSW ks_X0_135 (k_X0_hedge e32) ⟨Nat.le_of_ble_eq_true rfl, Nat.le_of_ble_eq_true rfl⟩ (As := [.ref v1, .int z24, .int z26, .int z28, .ref v3]) (rest := []) rfl rfl (Nat.le_of_ble_eq_true rfl) dL_law_236 (kI ?_) xI
  refine a_istore (lv' := [some (.ref v0), some (.ref v1), some (.ref v2), some (.ref v3), some (.ref v4), some (.int v5), some (.int r31.1), none, none, none]) dL_law_239 rfl (by decide) rfl ?_
  refine a_aload_n dL_law_241 rfl ?_
  refine a_aload_n dL_law_242 rfl ?_
  refine a_iload dL_law_243 rfl ?_
  refine a_iconst (v := 1) dL_law_245 (by decide) ?_
  refine a_iadd dL_law_246 ?_
  obtain ⟨z34, e33, hT⟩ := obnd hT
  refine a_oldI e33 dL_law_247 ?_
  refine a_aload_n dL_law_248 rfl ?_
  refine a_iload dL_law_249 rfl ?_
  refine a_iconst (v := 2) dL_law_251 (by decide) ?_
  refine a_iadd dL_law_252 ?_
  obtain ⟨z36, e35, hT⟩ := obnd hT
  refine a_oldI e35 dL_law_253 ?_
  refine a_aload_n dL_law_254 rfl ?_
  refine a_iload dL_law_255 rfl ?_
  refine a_iconst (v := 3) dL_law_257 (by decide) ?_
  refine a_iadd dL_law_258 ?_
  obtain ⟨z38, e37, hT⟩ := obnd hT
  refine a_oldI e37 dL_law_259 ?_
  obtain ⟨g41, hT⟩ := oifg hT
  obtain ⟨r42, e43, hT⟩ := obnd hT
  refine a_callV kv_X0_140 g41 (twM (E := aEI) (fun s9 B9 r9 ht9 e9 => k_X3_hedge ht9 e9) e43) ⟨Nat.le_of_ble_eq_true rfl, Nat.le_of_ble_eq_true rfl⟩ (As := [.int z34, .int z36, .int z38]) (rest := []) rfl rfl (Nat.le_of_ble_eq_true rfl) dL_law_260 (kI ?_) xI
  refine a_istore (lv' := [some (.ref v0), some (.ref v1), some (.ref v2), some (.ref v3), some (.ref v4), some (.int v5), some (.int r31.1), some (.int r42.1), none, none]) dL_law_263 rfl (by decide) rfl ?_
  refine a_aload_n dL_law_265 rfl ?_
  obtain ⟨g46, hT⟩ := oifg hT
  obtain ⟨r47, e48, hT⟩ := obnd hT
  refine a_callV kv_X0_141 g46 (twM (E := aEI) (fun s9 B9 r9 ht9 e9 => k_X3_thrown ht9 e9) e48) ⟨Nat.le_of_ble_eq_true rfl, Nat.le_of_ble_eq_true rfl⟩ (As := []) (rest := []) rfl rfl (Nat.le_of_ble_eq_true rfl) dL_law_266 (kI ?_) xI
  refine a_iload dL_law_269 rfl ?_
  refine a_icmp_eq 276 dL_law_271 rfl (fun c49 => ?_) (fun c49 => ?_)
  · have hT := oifp c49 hT
    refine a_iload dL_law_276 rfl ?_
    refine a_if_ne 293 dL_law_278 rfl (fun c50 => ?_) (fun c50 => ?_)
    · have hT := oifn c50 hT
      refine a_mask [true, true, true, true, true, true, false, false, true, true] ?_
      exact k_L_law_l293 hT he
    · have hT := oifp c50 hT
      refine a_aload_n dL_law_281 rfl ?_
      refine a_iconst (v := 0) dL_law_282 (by decide) ?_
      obtain ⟨z52, e51, hT⟩ := obnd hT
      refine a_ldJ e51 dL_law_283 ?_
      refine a_iload dL_law_284 rfl ?_
      refine a_i2l dL_law_286 ?_
      refine a_lcmp dL_law_287 ?_
      refine a_if_eq 293 dL_law_288 rfl (fun c53 => ?_) (fun c53 => ?_)
      · have hT := oifp c53 hT
        refine a_mask [true, true, true, true, true, true, false, false, true, true] ?_
        exact k_L_law_l293 hT he
      · have hT := oifn c53 hT
        refine a_iconst (v := 0) dL_law_291 (by decide) ?_
        obtain rfl := Option.some.inj hT
        exact a_iret rfl (by decide) dL_law_292 (he _ _ ⟨rfl, rfl⟩)
  · have hT := oifn c49 hT
    refine a_iconst (v := 0) dL_law_274 (by decide) ?_
    obtain rfl := Option.some.inj hT
    exact a_iret rfl (by decide) dL_law_275 (he _ _ ⟨rfl, rfl⟩)
noncomputable def t_L_law_l296 (Z : aZ) (T : Nat → Nat) (h : aH) (v0 : Nat) (v1 : Nat) (v2 : Nat) (v3 : Nat) (v4 : Nat) (v5 : Int32) : Option ((Nat × Nat × Nat × Nat × Nat × Int32 × aH) ⊕ (Int32 × aH)) :=
  if isC 0 h v1 = true then
  (t_X1_summer Z h v1).bind fun r58 =>
  if isC 2 r58.2 v2 = true then
  (twc Z T r58.2 v2 (fun s9 => t_X3_summer s9)).bind fun r63 =>
  if r58.1 = r63.1 then
    t_L_law_l2408 Z T r63.2 v0 v1 v2 v3 v4 v5
  else
    some (.inr ((0, r63.2)))
  else none
  else none
theorem k_L_law_l296 {G : aG} {h0 : aH} {K : aRes → aH → Prop} {T : Nat → Nat} {h : aH} {v0 : Nat} {v1 : Nat} {v2 : Nat} {v3 : Nat} {v4 : Nat} {v5 : Int32} {e : ((Nat × Nat × Nat × Nat × Nat × Int32 × aH) ⊕ (Int32 × aH))} (hT : t_L_law_l296 (gZ G) T h v0 v1 v2 v3 v4 v5 = some e) (he : (Sum.elim (p_L_law_b28 G h0 K) (fun e => aTo (aEI e.1 e.2) K)) e) : aW G M_L_law 8192 104096 h0 K h 296 [some (.ref v0), some (.ref v1), some (.ref v2), some (.ref v3), some (.ref v4), some (.int v5), none, none, none, none] [] := by
  unfold t_L_law_l296 at hT
  refine a_aload_n dL_law_296 rfl ?_
  obtain ⟨g57, hT⟩ := oifg hT
  obtain ⟨r58, e59, hT⟩ := obnd hT
  refine a_callV kv_X0_144 g57 (k_X1_summer e59) ⟨Nat.le_of_ble_eq_true rfl, Nat.le_of_ble_eq_true rfl⟩ (As := []) (rest := []) rfl rfl (Nat.le_of_ble_eq_true rfl) dL_law_297 (kI ?_) xI
  refine a_aload_n dL_law_300 rfl ?_
  obtain ⟨g62, hT⟩ := oifg hT
  obtain ⟨r63, e64, hT⟩ := obnd hT
  refine a_callV kv_X0_147 g62 (twM (E := aEI) (fun s9 B9 r9 ht9 e9 => k_X3_summer ht9 e9) e64) ⟨Nat.le_of_ble_eq_true rfl, Nat.le_of_ble_eq_true rfl⟩ (As := []) (rest := [.int r58.1]) rfl rfl (Nat.le_of_ble_eq_true rfl) dL_law_301 (kI ?_) xI
  refine a_icmp_eq 2408 dL_law_304 rfl (fun c65 => ?_) (fun c65 => ?_)
  · have hT := oifp c65 hT
    exact k_L_law_l2408 hT he
  · have hT := oifn c65 hT
    refine a_iconst (v := 0) dL_law_307 (by decide) ?_
    obtain rfl := Option.some.inj hT
    exact a_iret rfl (by decide) dL_law_308 (he _ _ ⟨rfl, rfl⟩)
noncomputable def t_L_law_l386 (Z : aZ) (T : Nat → Nat) (h : aH) (v0 : Nat) (v1 : Nat) (v2 : Nat) (v3 : Nat) (v4 : Nat) (v5 : Int32) : Option ((Nat × Nat × Nat × Nat × Nat × Int32 × aH) ⊕ (Int32 × aH)) :=
  t_L_law_l2408 Z T h v0 v1 v2 v3 v4 v5
theorem k_L_law_l386 {G : aG} {h0 : aH} {K : aRes → aH → Prop} {T : Nat → Nat} {h : aH} {v0 : Nat} {v1 : Nat} {v2 : Nat} {v3 : Nat} {v4 : Nat} {v5 : Int32} {e : ((Nat × Nat × Nat × Nat × Nat × Int32 × aH) ⊕ (Int32 × aH))} (hT : t_L_law_l386 (gZ G) T h v0 v1 v2 v3 v4 v5 = some e) (he : (Sum.elim (p_L_law_b28 G h0 K) (fun e => aTo (aEI e.1 e.2) K)) e) : aW G M_L_law 8192 104096 h0 K h 386 [some (.ref v0), some (.ref v1), some (.ref v2), some (.ref v3), some (.ref v4), some (.int v5), none, none, none, none] [] := by
  unfold t_L_law_l386 at hT
  refine a_goto 2408 dL_law_386 rfl ?_
  exact k_L_law_l2408 hT he
noncomputable def t_L_law_l309 (Z : aZ) (T : Nat → Nat) (h : aH) (v0 : Nat) (v1 : Nat) (v2 : Nat) (v3 : Nat) (v4 : Nat) (v5 : Int32) : Option ((Nat × Nat × Nat × Nat × Nat × Int32 × aH) ⊕ (Int32 × aH)) :=
  (oldLd .int Z v0 (v5 + 1)).bind fun z68 =>
  (oldLd .int Z v0 (v5 + 2)).bind fun z70 =>
  (oldLd .int Z v0 (v5 + 3)).bind fun z72 =>
  (t_X0_trim Z h v1 z68 z70 z72 v3).bind fun r75 =>
  (oldLd .int Z v0 (v5 + 1)).bind fun z78 =>
  (oldLd .int Z v0 (v5 + 2)).bind fun z80 =>
  (oldLd .int Z v0 (v5 + 3)).bind fun z82 =>
  if isC 2 r75.2 v2 = true then
  (twc Z T r75.2 v2 (fun s9 => t_X3_trim s9 z78 z80 z82)).bind fun r86 =>
  if isC 2 r86.2 v2 = true then
  (twc Z T r86.2 v2 (fun s9 => t_X3_thrown s9)).bind fun r91 =>
  if r91.1 = r75.1 then
    if r75.1 = 0 then
      (ldJ Z r91.2 v3 0).bind fun z96 =>
      if (lg_cmp z96 ((r86.1 : Int32).toInt64)) = 0 then
        t_L_law_l386 Z T r91.2 v0 v1 v2 v3 v4 v5
      else
        some (.inr ((0, r91.2)))
    else
      t_L_law_l386 Z T r91.2 v0 v1 v2 v3 v4 v5
  else
    some (.inr ((0, r91.2)))
  else none
  else none
theorem k_L_law_l309 {G : aG} {h0 : aH} {K : aRes → aH → Prop} {T : Nat → Nat} {h : aH} {v0 : Nat} {v1 : Nat} {v2 : Nat} {v3 : Nat} {v4 : Nat} {v5 : Int32} {e : ((Nat × Nat × Nat × Nat × Nat × Int32 × aH) ⊕ (Int32 × aH))} (hT : t_L_law_l309 (gZ G) T h v0 v1 v2 v3 v4 v5 = some e) (he : (Sum.elim (p_L_law_b28 G h0 K) (fun e => aTo (aEI e.1 e.2) K)) e) : aW G M_L_law 8192 104096 h0 K h 309 [some (.ref v0), some (.ref v1), some (.ref v2), some (.ref v3), some (.ref v4), some (.int v5), none, none, none, none] [] := by
  unfold t_L_law_l309 at hT
  refine a_aload_n dL_law_309 rfl ?_
  refine a_aload_n dL_law_310 rfl ?_
  refine a_iload dL_law_311 rfl ?_
  refine a_iconst (v := 1) dL_law_313 (by decide) ?_
  refine a_iadd dL_law_314 ?_
  obtain ⟨z68, e67, hT⟩ := obnd hT
  refine a_oldI e67 dL_law_315 ?_
  refine a_aload_n dL_law_316 rfl ?_
  refine a_iload dL_law_317 rfl ?_
  refine a_iconst (v := 2) dL_law_319 (by decide) ?_
  refine a_iadd dL_law_320 ?_
  obtain ⟨z70, e69, hT⟩ := obnd hT
  refine a_oldI e69 dL_law_321 ?_
  refine a_aload_n dL_law_322 rfl ?_
  refine a_iload dL_law_323 rfl ?_
  refine a_iconst (v := 3) dL_law_325 (by decide) ?_
  refine a_iadd dL_law_326 ?_
  obtain ⟨z72, e71, hT⟩ := obnd hT
  refine a_oldI e71 dL_law_327 ?_
  refine a_aload_n dL_law_328 rfl ?_
  obtain ⟨r75, e76, hT⟩ := obnd hT
  refine a_callSW ks_X0_148 (k_X0_trim e76) ⟨Nat.le_of_ble_eq_true rfl, Nat.le_of_ble_eq_true rfl⟩ (As := [.ref v1, .int z68, .int z70, .int z72, .ref v3]) (rest := []) rfl rfl (Nat.le_of_ble_eq_true rfl) dL_law_329 (kI ?_) xI
  refine a_istore (lv' := [some (.ref v0), some (.ref v1), some (.ref v2), some (.ref v3), some (.ref v4), some (.int v5), some (.int r75.1), none, none, none]) dL_law_332 rfl (by decide) rfl ?_
  refine a_aload_n dL_law_334 rfl ?_
  refine a_aload_n dL_law_335 rfl ?_
  refine a_iload dL_law_336 rfl ?_
  refine a_iconst (v := 1) dL_law_338 (by decide) ?_
  refine a_iadd dL_law_339 ?_
  obtain ⟨z78, e77, hT⟩ := obnd hT
  refine a_oldI e77 dL_law_340 ?_
  refine a_aload_n dL_law_341 rfl ?_
  refine a_iload dL_law_342 rfl ?_
  refine a_iconst (v := 2) dL_law_344 (by decide) ?_
  refine a_iadd dL_law_345 ?_
  obtain ⟨z80, e79, hT⟩ := obnd hT
  refine a_oldI e79 dL_law_346 ?_
  refine a_aload_n dL_law_347 rfl ?_
  refine a_iload dL_law_348 rfl ?_
  refine a_iconst (v := 3) dL_law_350 (by decide) ?_
  refine a_iadd dL_law_351 ?_
  obtain ⟨z82, e81, hT⟩ := obnd hT
  refine a_oldI e81 dL_law_352 ?_
  obtain ⟨g85, hT⟩ := oifg hT
  obtain ⟨r86, e87, hT⟩ := obnd hT
  refine a_callV kv_X0_150 g85 (twM (E := aEI) (fun s9 B9 r9 ht9 e9 => k_X3_trim ht9 e9) e87) ⟨Nat.le_of_ble_eq_true rfl, Nat.le_of_ble_eq_true rfl⟩ (As := [.int z78, .int z80, .int z82]) (rest := []) rfl rfl (Nat.le_of_ble_eq_true rfl) dL_law_353 (kI ?_) xI
  refine a_istore (lv' := [some (.ref v0), some (.ref v1), some (.ref v2), some (.ref v3), some (.ref v4), some (.int v5), some (.int r75.1), some (.int r86.1), none, none]) dL_law_356 rfl (by decide) rfl ?_
  refine a_aload_n dL_law_358 rfl ?_
  obtain ⟨g90, hT⟩ := oifg hT
  obtain ⟨r91, e92, hT⟩ := obnd hT
  refine a_callV kv_X0_141 g90 (twM (E := aEI) (fun s9 B9 r9 ht9 e9 => k_X3_thrown ht9 e9) e92) ⟨Nat.le_of_ble_eq_true rfl, Nat.le_of_ble_eq_true rfl⟩ (As := []) (rest := []) rfl rfl (Nat.le_of_ble_eq_true rfl) dL_law_359 (kI ?_) xI
  refine a_iload dL_law_362 rfl ?_
  refine a_icmp_eq 369 dL_law_364 rfl (fun c93 => ?_) (fun c93 => ?_)
  · have hT := oifp c93 hT
    refine a_iload dL_law_369 rfl ?_
    refine a_if_ne 386 dL_law_371 rfl (fun c94 => ?_) (fun c94 => ?_)
    · have hT := oifn c94 hT
      refine a_mask [true, true, true, true, true, true, false, false, true, true] ?_
      exact k_L_law_l386 hT he
    · have hT := oifp c94 hT
      refine a_aload_n dL_law_374 rfl ?_
      refine a_iconst (v := 0) dL_law_375 (by decide) ?_
      obtain ⟨z96, e95, hT⟩ := obnd hT
      refine a_ldJ e95 dL_law_376 ?_
      refine a_iload dL_law_377 rfl ?_
      refine a_i2l dL_law_379 ?_
      refine a_lcmp dL_law_380 ?_
      refine a_if_eq 386 dL_law_381 rfl (fun c97 => ?_) (fun c97 => ?_)
      · have hT := oifp c97 hT
        refine a_mask [true, true, true, true, true, true, false, false, true, true] ?_
        exact k_L_law_l386 hT he
      · have hT := oifn c97 hT
        refine a_iconst (v := 0) dL_law_384 (by decide) ?_
        obtain rfl := Option.some.inj hT
        exact a_iret rfl (by decide) dL_law_385 (he _ _ ⟨rfl, rfl⟩)
  · have hT := oifn c93 hT
    refine a_iconst (v := 0) dL_law_367 (by decide) ?_
    obtain rfl := Option.some.inj hT
    exact a_iret rfl (by decide) dL_law_368 (he _ _ ⟨rfl, rfl⟩)
noncomputable def t_L_law_l442 (Z : aZ) (T : Nat → Nat) (h : aH) (v0 : Nat) (v1 : Nat) (v2 : Nat) (v3 : Nat) (v4 : Nat) (v5 : Int32) : Option ((Nat × Nat × Nat × Nat × Nat × Int32 × aH) ⊕ (Int32 × aH)) :=
  t_L_law_l2408 Z T h v0 v1 v2 v3 v4 v5
theorem k_L_law_l442 {G : aG} {h0 : aH} {K : aRes → aH → Prop} {T : Nat → Nat} {h : aH} {v0 : Nat} {v1 : Nat} {v2 : Nat} {v3 : Nat} {v4 : Nat} {v5 : Int32} {e : ((Nat × Nat × Nat × Nat × Nat × Int32 × aH) ⊕ (Int32 × aH))} (hT : t_L_law_l442 (gZ G) T h v0 v1 v2 v3 v4 v5 = some e) (he : (Sum.elim (p_L_law_b28 G h0 K) (fun e => aTo (aEI e.1 e.2) K)) e) : aW G M_L_law 8192 104096 h0 K h 442 [some (.ref v0), some (.ref v1), some (.ref v2), some (.ref v3), some (.ref v4), some (.int v5), none, none, none, none] [] := by
  unfold t_L_law_l442 at hT
  refine a_goto 2408 dL_law_442 rfl ?_
  exact k_L_law_l2408 hT he
noncomputable def t_L_law_l389 (Z : aZ) (T : Nat → Nat) (h : aH) (v0 : Nat) (v1 : Nat) (v2 : Nat) (v3 : Nat) (v4 : Nat) (v5 : Int32) : Option ((Nat × Nat × Nat × Nat × Nat × Int32 × aH) ⊕ (Int32 × aH)) :=
  (oldLd .int Z v0 (v5 + 1)).bind fun z100 =>
  (t_X0_minotaur Z h v1 z100 v3).bind fun r103 =>
  (oldLd .int Z v0 (v5 + 1)).bind fun z106 =>
  if isC 2 r103.2 v2 = true then
  (twc Z T r103.2 v2 (fun s9 => t_X3_minotaur s9 z106)).bind fun r110 =>
  if isC 2 r110.2 v2 = true then
  (twc Z T r110.2 v2 (fun s9 => t_X3_thrown s9)).bind fun r115 =>
  if r115.1 = r103.1 then
    if r103.1 = 0 then
      (ldJ Z r115.2 v3 0).bind fun z120 =>
      if (lg_cmp z120 ((r110.1 : Int32).toInt64)) = 0 then
        t_L_law_l442 Z T r115.2 v0 v1 v2 v3 v4 v5
      else
        some (.inr ((0, r115.2)))
    else
      t_L_law_l442 Z T r115.2 v0 v1 v2 v3 v4 v5
  else
    some (.inr ((0, r115.2)))
  else none
  else none
theorem k_L_law_l389 {G : aG} {h0 : aH} {K : aRes → aH → Prop} {T : Nat → Nat} {h : aH} {v0 : Nat} {v1 : Nat} {v2 : Nat} {v3 : Nat} {v4 : Nat} {v5 : Int32} {e : ((Nat × Nat × Nat × Nat × Nat × Int32 × aH) ⊕ (Int32 × aH))} (hT : t_L_law_l389 (gZ G) T h v0 v1 v2 v3 v4 v5 = some e) (he : (Sum.elim (p_L_law_b28 G h0 K) (fun e => aTo (aEI e.1 e.2) K)) e) : aW G M_L_law 8192 104096 h0 K h 389 [some (.ref v0), some (.ref v1), some (.ref v2), some (.ref v3), some (.ref v4), some (.int v5), none, none, none, none] [] := by
  unfold t_L_law_l389 at hT
  refine a_aload_n dL_law_389 rfl ?_
  refine a_aload_n dL_law_390 rfl ?_
  refine a_iload dL_law_391 rfl ?_
  refine a_iconst (v := 1) dL_law_393 (by decide) ?_
  refine a_iadd dL_law_394 ?_
  obtain ⟨z100, e99, hT⟩ := obnd hT
  refine a_oldI e99 dL_law_395 ?_
  refine a_aload_n dL_law_396 rfl ?_
  obtain ⟨r103, e104, hT⟩ := obnd hT
  refine a_callSW ks_X0_151 (k_X0_minotaur e104) ⟨Nat.le_of_ble_eq_true rfl, Nat.le_of_ble_eq_true rfl⟩ (As := [.ref v1, .int z100, .ref v3]) (rest := []) rfl rfl (Nat.le_of_ble_eq_true rfl) dL_law_397 (kI ?_) xI
  refine a_istore (lv' := [some (.ref v0), some (.ref v1), some (.ref v2), some (.ref v3), some (.ref v4), some (.int v5), some (.int r103.1), none, none, none]) dL_law_400 rfl (by decide) rfl ?_
  refine a_aload_n dL_law_402 rfl ?_
  refine a_aload_n dL_law_403 rfl ?_
  refine a_iload dL_law_404 rfl ?_
  refine a_iconst (v := 1) dL_law_406 (by decide) ?_
  refine a_iadd dL_law_407 ?_
  obtain ⟨z106, e105, hT⟩ := obnd hT
  refine a_oldI e105 dL_law_408 ?_
  obtain ⟨g109, hT⟩ := oifg hT
  obtain ⟨r110, e111, hT⟩ := obnd hT
  refine a_callV kv_X0_154 g109 (twM (E := aEI) (fun s9 B9 r9 ht9 e9 => k_X3_minotaur ht9 e9) e111) ⟨Nat.le_of_ble_eq_true rfl, Nat.le_of_ble_eq_true rfl⟩ (As := [.int z106]) (rest := []) rfl rfl (Nat.le_of_ble_eq_true rfl) dL_law_409 (kI ?_) xI
  refine a_istore (lv' := [some (.ref v0), some (.ref v1), some (.ref v2), some (.ref v3), some (.ref v4), some (.int v5), some (.int r103.1), some (.int r110.1), none, none]) dL_law_412 rfl (by decide) rfl ?_
  refine a_aload_n dL_law_414 rfl ?_
  obtain ⟨g114, hT⟩ := oifg hT
  obtain ⟨r115, e116, hT⟩ := obnd hT
  refine a_callV kv_X0_141 g114 (twM (E := aEI) (fun s9 B9 r9 ht9 e9 => k_X3_thrown ht9 e9) e116) ⟨Nat.le_of_ble_eq_true rfl, Nat.le_of_ble_eq_true rfl⟩ (As := []) (rest := []) rfl rfl (Nat.le_of_ble_eq_true rfl) dL_law_415 (kI ?_) xI
  refine a_iload dL_law_418 rfl ?_
  refine a_icmp_eq 425 dL_law_420 rfl (fun c117 => ?_) (fun c117 => ?_)
  · have hT := oifp c117 hT
    refine a_iload dL_law_425 rfl ?_
    refine a_if_ne 442 dL_law_427 rfl (fun c118 => ?_) (fun c118 => ?_)
    · have hT := oifn c118 hT
      refine a_mask [true, true, true, true, true, true, false, false, true, true] ?_
      exact k_L_law_l442 hT he
    · have hT := oifp c118 hT
      refine a_aload_n dL_law_430 rfl ?_
      refine a_iconst (v := 0) dL_law_431 (by decide) ?_
      obtain ⟨z120, e119, hT⟩ := obnd hT
      refine a_ldJ e119 dL_law_432 ?_
      refine a_iload dL_law_433 rfl ?_
      refine a_i2l dL_law_435 ?_
      refine a_lcmp dL_law_436 ?_
      refine a_if_eq 442 dL_law_437 rfl (fun c121 => ?_) (fun c121 => ?_)
      · have hT := oifp c121 hT
        refine a_mask [true, true, true, true, true, true, false, false, true, true] ?_
        exact k_L_law_l442 hT he
      · have hT := oifn c121 hT
        refine a_iconst (v := 0) dL_law_440 (by decide) ?_
        obtain rfl := Option.some.inj hT
        exact a_iret rfl (by decide) dL_law_441 (he _ _ ⟨rfl, rfl⟩)
  · have hT := oifn c117 hT
    refine a_iconst (v := 0) dL_law_423 (by decide) ?_
    obtain rfl := Option.some.inj hT
    exact a_iret rfl (by decide) dL_law_424 (he _ _ ⟨rfl, rfl⟩)
noncomputable def t_L_law_l498 (Z : aZ) (T : Nat → Nat) (h : aH) (v0 : Nat) (v1 : Nat) (v2 : Nat) (v3 : Nat) (v4 : Nat) (v5 : Int32) : Option ((Nat × Nat × Nat × Nat × Nat × Int32 × aH) ⊕ (Int32 × aH)) :=
  t_L_law_l2408 Z T h v0 v1 v2 v3 v4 v5
theorem k_L_law_l498 {G : aG} {h0 : aH} {K : aRes → aH → Prop} {T : Nat → Nat} {h : aH} {v0 : Nat} {v1 : Nat} {v2 : Nat} {v3 : Nat} {v4 : Nat} {v5 : Int32} {e : ((Nat × Nat × Nat × Nat × Nat × Int32 × aH) ⊕ (Int32 × aH))} (hT : t_L_law_l498 (gZ G) T h v0 v1 v2 v3 v4 v5 = some e) (he : (Sum.elim (p_L_law_b28 G h0 K) (fun e => aTo (aEI e.1 e.2) K)) e) : aW G M_L_law 8192 104096 h0 K h 498 [some (.ref v0), some (.ref v1), some (.ref v2), some (.ref v3), some (.ref v4), some (.int v5), none, none, none, none] [] := by
  unfold t_L_law_l498 at hT
  refine a_goto 2408 dL_law_498 rfl ?_
  exact k_L_law_l2408 hT he
noncomputable def t_L_law_l445 (Z : aZ) (T : Nat → Nat) (h : aH) (v0 : Nat) (v1 : Nat) (v2 : Nat) (v3 : Nat) (v4 : Nat) (v5 : Int32) : Option ((Nat × Nat × Nat × Nat × Nat × Int32 × aH) ⊕ (Int32 × aH)) :=
  (oldLd .int Z v0 (v5 + 1)).bind fun z124 =>
  (t_X0_gardener Z h v1 z124 v3).bind fun r127 =>
  (oldLd .int Z v0 (v5 + 1)).bind fun z130 =>
  if isC 2 r127.2 v2 = true then
  (twc Z T r127.2 v2 (fun s9 => t_X3_gardener s9 z130)).bind fun r134 =>
  if isC 2 r134.2 v2 = true then
  (twc Z T r134.2 v2 (fun s9 => t_X3_thrown s9)).bind fun r139 =>
  if r139.1 = r127.1 then
    if r127.1 = 0 then
      (ldJ Z r139.2 v3 0).bind fun z144 =>
      if (lg_cmp z144 ((r134.1 : Int32).toInt64)) = 0 then
        t_L_law_l498 Z T r139.2 v0 v1 v2 v3 v4 v5
      else
        some (.inr ((0, r139.2)))
    else
      t_L_law_l498 Z T r139.2 v0 v1 v2 v3 v4 v5
  else
    some (.inr ((0, r139.2)))
  else none
  else none
theorem k_L_law_l445 {G : aG} {h0 : aH} {K : aRes → aH → Prop} {T : Nat → Nat} {h : aH} {v0 : Nat} {v1 : Nat} {v2 : Nat} {v3 : Nat} {v4 : Nat} {v5 : Int32} {e : ((Nat × Nat × Nat × Nat × Nat × Int32 × aH) ⊕ (Int32 × aH))} (hT : t_L_law_l445 (gZ G) T h v0 v1 v2 v3 v4 v5 = some e) (he : (Sum.elim (p_L_law_b28 G h0 K) (fun e => aTo (aEI e.1 e.2) K)) e) : aW G M_L_law 8192 104096 h0 K h 445 [some (.ref v0), some (.ref v1), some (.ref v2), some (.ref v3), some (.ref v4), some (.int v5), none, none, none, none] [] := by
  unfold t_L_law_l445 at hT
  refine a_aload_n dL_law_445 rfl ?_
  refine a_aload_n dL_law_446 rfl ?_
  refine a_iload dL_law_447 rfl ?_
  refine a_iconst (v := 1) dL_law_449 (by decide) ?_
  refine a_iadd dL_law_450 ?_
  obtain ⟨z124, e123, hT⟩ := obnd hT
  refine a_oldI e123 dL_law_451 ?_
  refine a_aload_n dL_law_452 rfl ?_
  obtain ⟨r127, e128, hT⟩ := obnd hT
  refine a_callSW ks_X0_155 (k_X0_gardener e128) ⟨Nat.le_of_ble_eq_true rfl, Nat.le_of_ble_eq_true rfl⟩ (As := [.ref v1, .int z124, .ref v3]) (rest := []) rfl rfl (Nat.le_of_ble_eq_true rfl) dL_law_453 (kI ?_) xI
  refine a_istore (lv' := [some (.ref v0), some (.ref v1), some (.ref v2), some (.ref v3), some (.ref v4), some (.int v5), some (.int r127.1), none, none, none]) dL_law_456 rfl (by decide) rfl ?_
  refine a_aload_n dL_law_458 rfl ?_
  refine a_aload_n dL_law_459 rfl ?_
  refine a_iload dL_law_460 rfl ?_
  refine a_iconst (v := 1) dL_law_462 (by decide) ?_
  refine a_iadd dL_law_463 ?_
  obtain ⟨z130, e129, hT⟩ := obnd hT
  refine a_oldI e129 dL_law_464 ?_
  obtain ⟨g133, hT⟩ := oifg hT
  obtain ⟨r134, e135, hT⟩ := obnd hT
  refine a_callV kv_X0_157 g133 (twM (E := aEI) (fun s9 B9 r9 ht9 e9 => k_X3_gardener ht9 e9) e135) ⟨Nat.le_of_ble_eq_true rfl, Nat.le_of_ble_eq_true rfl⟩ (As := [.int z130]) (rest := []) rfl rfl (Nat.le_of_ble_eq_true rfl) dL_law_465 (kI ?_) xI
  refine a_istore (lv' := [some (.ref v0), some (.ref v1), some (.ref v2), some (.ref v3), some (.ref v4), some (.int v5), some (.int r127.1), some (.int r134.1), none, none]) dL_law_468 rfl (by decide) rfl ?_
  refine a_aload_n dL_law_470 rfl ?_
  obtain ⟨g138, hT⟩ := oifg hT
  obtain ⟨r139, e140, hT⟩ := obnd hT
  refine a_callV kv_X0_141 g138 (twM (E := aEI) (fun s9 B9 r9 ht9 e9 => k_X3_thrown ht9 e9) e140) ⟨Nat.le_of_ble_eq_true rfl, Nat.le_of_ble_eq_true rfl⟩ (As := []) (rest := []) rfl rfl (Nat.le_of_ble_eq_true rfl) dL_law_471 (kI ?_) xI
  refine a_iload dL_law_474 rfl ?_
  refine a_icmp_eq 481 dL_law_476 rfl (fun c141 => ?_) (fun c141 => ?_)
  · have hT := oifp c141 hT
    refine a_iload dL_law_481 rfl ?_
    refine a_if_ne 498 dL_law_483 rfl (fun c142 => ?_) (fun c142 => ?_)
    · have hT := oifn c142 hT
      refine a_mask [true, true, true, true, true, true, false, false, true, true] ?_
      exact k_L_law_l498 hT he
    · have hT := oifp c142 hT
      refine a_aload_n dL_law_486 rfl ?_
      refine a_iconst (v := 0) dL_law_487 (by decide) ?_
      obtain ⟨z144, e143, hT⟩ := obnd hT
      refine a_ldJ e143 dL_law_488 ?_
      refine a_iload dL_law_489 rfl ?_
      refine a_i2l dL_law_491 ?_
      refine a_lcmp dL_law_492 ?_
      refine a_if_eq 498 dL_law_493 rfl (fun c145 => ?_) (fun c145 => ?_)
      · have hT := oifp c145 hT
        refine a_mask [true, true, true, true, true, true, false, false, true, true] ?_
        exact k_L_law_l498 hT he
      · have hT := oifn c145 hT
        refine a_iconst (v := 0) dL_law_496 (by decide) ?_
        obtain rfl := Option.some.inj hT
        exact a_iret rfl (by decide) dL_law_497 (he _ _ ⟨rfl, rfl⟩)
  · have hT := oifn c141 hT
    refine a_iconst (v := 0) dL_law_479 (by decide) ?_
    obtain rfl := Option.some.inj hT
    exact a_iret rfl (by decide) dL_law_480 (he _ _ ⟨rfl, rfl⟩)
noncomputable def t_L_law_l554 (Z : aZ) (T : Nat → Nat) (h : aH) (v0 : Nat) (v1 : Nat) (v2 : Nat) (v3 : Nat) (v4 : Nat) (v5 : Int32) : Option ((Nat × Nat × Nat × Nat × Nat × Int32 × aH) ⊕ (Int32 × aH)) :=
  t_L_law_l2408 Z T h v0 v1 v2 v3 v4 v5
theorem k_L_law_l554 {G : aG} {h0 : aH} {K : aRes → aH → Prop} {T : Nat → Nat} {h : aH} {v0 : Nat} {v1 : Nat} {v2 : Nat} {v3 : Nat} {v4 : Nat} {v5 : Int32} {e : ((Nat × Nat × Nat × Nat × Nat × Int32 × aH) ⊕ (Int32 × aH))} (hT : t_L_law_l554 (gZ G) T h v0 v1 v2 v3 v4 v5 = some e) (he : (Sum.elim (p_L_law_b28 G h0 K) (fun e => aTo (aEI e.1 e.2) K)) e) : aW G M_L_law 8192 104096 h0 K h 554 [some (.ref v0), some (.ref v1), some (.ref v2), some (.ref v3), some (.ref v4), some (.int v5), none, none, none, none] [] := by
  unfold t_L_law_l554 at hT
  refine a_goto 2408 dL_law_554 rfl ?_
  exact k_L_law_l2408 hT he
noncomputable def t_L_law_l501 (Z : aZ) (T : Nat → Nat) (h : aH) (v0 : Nat) (v1 : Nat) (v2 : Nat) (v3 : Nat) (v4 : Nat) (v5 : Int32) : Option ((Nat × Nat × Nat × Nat × Nat × Int32 × aH) ⊕ (Int32 × aH)) :=
  (oldLd .int Z v0 (v5 + 1)).bind fun z148 =>
  (t_X0_visitor Z h v1 z148 v3).bind fun r151 =>
  (oldLd .int Z v0 (v5 + 1)).bind fun z154 =>
  if isC 2 r151.2 v2 = true then
  (twc Z T r151.2 v2 (fun s9 => t_X3_visitor s9 z154)).bind fun r158 =>
  if isC 2 r158.2 v2 = true then
  (twc Z T r158.2 v2 (fun s9 => t_X3_thrown s9)).bind fun r163 =>
  if r163.1 = r151.1 then
    if r151.1 = 0 then
      (ldJ Z r163.2 v3 0).bind fun z168 =>
      if (lg_cmp z168 ((r158.1 : Int32).toInt64)) = 0 then
        t_L_law_l554 Z T r163.2 v0 v1 v2 v3 v4 v5
      else
        some (.inr ((0, r163.2)))
    else
      t_L_law_l554 Z T r163.2 v0 v1 v2 v3 v4 v5
  else
    some (.inr ((0, r163.2)))
  else none
  else none
theorem k_L_law_l501 {G : aG} {h0 : aH} {K : aRes → aH → Prop} {T : Nat → Nat} {h : aH} {v0 : Nat} {v1 : Nat} {v2 : Nat} {v3 : Nat} {v4 : Nat} {v5 : Int32} {e : ((Nat × Nat × Nat × Nat × Nat × Int32 × aH) ⊕ (Int32 × aH))} (hT : t_L_law_l501 (gZ G) T h v0 v1 v2 v3 v4 v5 = some e) (he : (Sum.elim (p_L_law_b28 G h0 K) (fun e => aTo (aEI e.1 e.2) K)) e) : aW G M_L_law 8192 104096 h0 K h 501 [some (.ref v0), some (.ref v1), some (.ref v2), some (.ref v3), some (.ref v4), some (.int v5), none, none, none, none] [] := by
  unfold t_L_law_l501 at hT
  refine a_aload_n dL_law_501 rfl ?_
  refine a_aload_n dL_law_502 rfl ?_
  refine a_iload dL_law_503 rfl ?_
  refine a_iconst (v := 1) dL_law_505 (by decide) ?_
  refine a_iadd dL_law_506 ?_
  obtain ⟨z148, e147, hT⟩ := obnd hT
  refine a_oldI e147 dL_law_507 ?_
  refine a_aload_n dL_law_508 rfl ?_
  obtain ⟨r151, e152, hT⟩ := obnd hT
  refine a_callSW ks_X0_158 (k_X0_visitor e152) ⟨Nat.le_of_ble_eq_true rfl, Nat.le_of_ble_eq_true rfl⟩ (As := [.ref v1, .int z148, .ref v3]) (rest := []) rfl rfl (Nat.le_of_ble_eq_true rfl) dL_law_509 (kI ?_) xI
  refine a_istore (lv' := [some (.ref v0), some (.ref v1), some (.ref v2), some (.ref v3), some (.ref v4), some (.int v5), some (.int r151.1), none, none, none]) dL_law_512 rfl (by decide) rfl ?_
  refine a_aload_n dL_law_514 rfl ?_
  refine a_aload_n dL_law_515 rfl ?_
  refine a_iload dL_law_516 rfl ?_
  refine a_iconst (v := 1) dL_law_518 (by decide) ?_
  refine a_iadd dL_law_519 ?_
  obtain ⟨z154, e153, hT⟩ := obnd hT
  refine a_oldI e153 dL_law_520 ?_
  obtain ⟨g157, hT⟩ := oifg hT
  obtain ⟨r158, e159, hT⟩ := obnd hT
  refine a_callV kv_X0_160 g157 (twM (E := aEI) (fun s9 B9 r9 ht9 e9 => k_X3_visitor ht9 e9) e159) ⟨Nat.le_of_ble_eq_true rfl, Nat.le_of_ble_eq_true rfl⟩ (As := [.int z154]) (rest := []) rfl rfl (Nat.le_of_ble_eq_true rfl) dL_law_521 (kI ?_) xI
  refine a_istore (lv' := [some (.ref v0), some (.ref v1), some (.ref v2), some (.ref v3), some (.ref v4), some (.int v5), some (.int r151.1), some (.int r158.1), none, none]) dL_law_524 rfl (by decide) rfl ?_
  refine a_aload_n dL_law_526 rfl ?_
  obtain ⟨g162, hT⟩ := oifg hT
  obtain ⟨r163, e164, hT⟩ := obnd hT
  refine a_callV kv_X0_141 g162 (twM (E := aEI) (fun s9 B9 r9 ht9 e9 => k_X3_thrown ht9 e9) e164) ⟨Nat.le_of_ble_eq_true rfl, Nat.le_of_ble_eq_true rfl⟩ (As := []) (rest := []) rfl rfl (Nat.le_of_ble_eq_true rfl) dL_law_527 (kI ?_) xI
  refine a_iload dL_law_530 rfl ?_
  refine a_icmp_eq 537 dL_law_532 rfl (fun c165 => ?_) (fun c165 => ?_)
  · have hT := oifp c165 hT
    refine a_iload dL_law_537 rfl ?_
    refine a_if_ne 554 dL_law_539 rfl (fun c166 => ?_) (fun c166 => ?_)
    · have hT := oifn c166 hT
      refine a_mask [true, true, true, true, true, true, false, false, true, true] ?_
      exact k_L_law_l554 hT he
    · have hT := oifp c166 hT
      refine a_aload_n dL_law_542 rfl ?_
      refine a_iconst (v := 0) dL_law_543 (by decide) ?_
      obtain ⟨z168, e167, hT⟩ := obnd hT
      refine a_ldJ e167 dL_law_544 ?_
      refine a_iload dL_law_545 rfl ?_
      refine a_i2l dL_law_547 ?_
      refine a_lcmp dL_law_548 ?_
      refine a_if_eq 554 dL_law_549 rfl (fun c169 => ?_) (fun c169 => ?_)
      · have hT := oifp c169 hT
        refine a_mask [true, true, true, true, true, true, false, false, true, true] ?_
        exact k_L_law_l554 hT he
      · have hT := oifn c169 hT
        refine a_iconst (v := 0) dL_law_552 (by decide) ?_
        obtain rfl := Option.some.inj hT
        exact a_iret rfl (by decide) dL_law_553 (he _ _ ⟨rfl, rfl⟩)
  · have hT := oifn c165 hT
    refine a_iconst (v := 0) dL_law_535 (by decide) ?_
    obtain rfl := Option.some.inj hT
    exact a_iret rfl (by decide) dL_law_536 (he _ _ ⟨rfl, rfl⟩)
noncomputable def t_L_law_l634 (Z : aZ) (T : Nat → Nat) (h : aH) (v0 : Nat) (v1 : Nat) (v2 : Nat) (v3 : Nat) (v4 : Nat) (v5 : Int32) : Option ((Nat × Nat × Nat × Nat × Nat × Int32 × aH) ⊕ (Int32 × aH)) :=
  t_L_law_l2408 Z T h v0 v1 v2 v3 v4 v5
theorem k_L_law_l634 {G : aG} {h0 : aH} {K : aRes → aH → Prop} {T : Nat → Nat} {h : aH} {v0 : Nat} {v1 : Nat} {v2 : Nat} {v3 : Nat} {v4 : Nat} {v5 : Int32} {e : ((Nat × Nat × Nat × Nat × Nat × Int32 × aH) ⊕ (Int32 × aH))} (hT : t_L_law_l634 (gZ G) T h v0 v1 v2 v3 v4 v5 = some e) (he : (Sum.elim (p_L_law_b28 G h0 K) (fun e => aTo (aEI e.1 e.2) K)) e) : aW G M_L_law 8192 104096 h0 K h 634 [some (.ref v0), some (.ref v1), some (.ref v2), some (.ref v3), some (.ref v4), some (.int v5), none, none, none, none] [] := by
  unfold t_L_law_l634 at hT
  refine a_goto 2408 dL_law_634 rfl ?_
  exact k_L_law_l2408 hT he
noncomputable def t_L_law_l557 (Z : aZ) (T : Nat → Nat) (h : aH) (v0 : Nat) (v1 : Nat) (v2 : Nat) (v3 : Nat) (v4 : Nat) (v5 : Int32) : Option ((Nat × Nat × Nat × Nat × Nat × Int32 × aH) ⊕ (Int32 × aH)) :=
  (oldLd .int Z v0 (v5 + 1)).bind fun z172 =>
  (oldLd .int Z v0 (v5 + 2)).bind fun z174 =>
  (oldLd .int Z v0 (v5 + 3)).bind fun z176 =>
  (t_X0_bond Z h v1 z172 z174 z176 v3).bind fun r179 =>
  (oldLd .int Z v0 (v5 + 1)).bind fun z182 =>
  (oldLd .int Z v0 (v5 + 2)).bind fun z184 =>
  (oldLd .int Z v0 (v5 + 3)).bind fun z186 =>
  if isC 2 r179.2 v2 = true then
  (twc Z T r179.2 v2 (fun s9 => t_X3_bond s9 z182 z184 z186)).bind fun r190 =>
  if isC 2 r190.2 v2 = true then
  (twc Z T r190.2 v2 (fun s9 => t_X3_thrown s9)).bind fun r195 =>
  if r195.1 = r179.1 then
    if r179.1 = 0 then
      (ldJ Z r195.2 v3 0).bind fun z200 =>
      if (lg_cmp z200 ((r190.1 : Int32).toInt64)) = 0 then
        t_L_law_l634 Z T r195.2 v0 v1 v2 v3 v4 v5
      else
        some (.inr ((0, r195.2)))
    else
      t_L_law_l634 Z T r195.2 v0 v1 v2 v3 v4 v5
  else
    some (.inr ((0, r195.2)))
  else none
  else none
theorem k_L_law_l557 {G : aG} {h0 : aH} {K : aRes → aH → Prop} {T : Nat → Nat} {h : aH} {v0 : Nat} {v1 : Nat} {v2 : Nat} {v3 : Nat} {v4 : Nat} {v5 : Int32} {e : ((Nat × Nat × Nat × Nat × Nat × Int32 × aH) ⊕ (Int32 × aH))} (hT : t_L_law_l557 (gZ G) T h v0 v1 v2 v3 v4 v5 = some e) (he : (Sum.elim (p_L_law_b28 G h0 K) (fun e => aTo (aEI e.1 e.2) K)) e) : aW G M_L_law 8192 104096 h0 K h 557 [some (.ref v0), some (.ref v1), some (.ref v2), some (.ref v3), some (.ref v4), some (.int v5), none, none, none, none] [] := by
  unfold t_L_law_l557 at hT
  refine a_aload_n dL_law_557 rfl ?_
  refine a_aload_n dL_law_558 rfl ?_
  refine a_iload dL_law_559 rfl ?_
  refine a_iconst (v := 1) dL_law_561 (by decide) ?_
  refine a_iadd dL_law_562 ?_
  obtain ⟨z172, e171, hT⟩ := obnd hT
  refine a_oldI e171 dL_law_563 ?_
  refine a_aload_n dL_law_564 rfl ?_
  refine a_iload dL_law_565 rfl ?_
  refine a_iconst (v := 2) dL_law_567 (by decide) ?_
  refine a_iadd dL_law_568 ?_
  obtain ⟨z174, e173, hT⟩ := obnd hT
  refine a_oldI e173 dL_law_569 ?_
  refine a_aload_n dL_law_570 rfl ?_
  refine a_iload dL_law_571 rfl ?_
  refine a_iconst (v := 3) dL_law_573 (by decide) ?_
  refine a_iadd dL_law_574 ?_
  obtain ⟨z176, e175, hT⟩ := obnd hT
  refine a_oldI e175 dL_law_575 ?_
  refine a_aload_n dL_law_576 rfl ?_
  obtain ⟨r179, e180, hT⟩ := obnd hT
  refine a_callSW ks_X0_161 (k_X0_bond e180) ⟨Nat.le_of_ble_eq_true rfl, Nat.le_of_ble_eq_true rfl⟩ (As := [.ref v1, .int z172, .int z174, .int z176, .ref v3]) (rest := []) rfl rfl (Nat.le_of_ble_eq_true rfl) dL_law_577 (kI ?_) xI
  refine a_istore (lv' := [some (.ref v0), some (.ref v1), some (.ref v2), some (.ref v3), some (.ref v4), some (.int v5), some (.int r179.1), none, none, none]) dL_law_580 rfl (by decide) rfl ?_
  refine a_aload_n dL_law_582 rfl ?_
  refine a_aload_n dL_law_583 rfl ?_
  refine a_iload dL_law_584 rfl ?_
  refine a_iconst (v := 1) dL_law_586 (by decide) ?_
  refine a_iadd dL_law_587 ?_
  obtain ⟨z182, e181, hT⟩ := obnd hT
  refine a_oldI e181 dL_law_588 ?_
  refine a_aload_n dL_law_589 rfl ?_
  refine a_iload dL_law_590 rfl ?_
  refine a_iconst (v := 2) dL_law_592 (by decide) ?_
  refine a_iadd dL_law_593 ?_
  obtain ⟨z184, e183, hT⟩ := obnd hT
  refine a_oldI e183 dL_law_594 ?_
  refine a_aload_n dL_law_595 rfl ?_
  refine a_iload dL_law_596 rfl ?_
  refine a_iconst (v := 3) dL_law_598 (by decide) ?_
  refine a_iadd dL_law_599 ?_
  obtain ⟨z186, e185, hT⟩ := obnd hT
  refine a_oldI e185 dL_law_600 ?_
  obtain ⟨g189, hT⟩ := oifg hT
  obtain ⟨r190, e191, hT⟩ := obnd hT
  refine a_callV kv_X0_163 g189 (twM (E := aEI) (fun s9 B9 r9 ht9 e9 => k_X3_bond ht9 e9) e191) ⟨Nat.le_of_ble_eq_true rfl, Nat.le_of_ble_eq_true rfl⟩ (As := [.int z182, .int z184, .int z186]) (rest := []) rfl rfl (Nat.le_of_ble_eq_true rfl) dL_law_601 (kI ?_) xI
  refine a_istore (lv' := [some (.ref v0), some (.ref v1), some (.ref v2), some (.ref v3), some (.ref v4), some (.int v5), some (.int r179.1), some (.int r190.1), none, none]) dL_law_604 rfl (by decide) rfl ?_
  refine a_aload_n dL_law_606 rfl ?_
  obtain ⟨g194, hT⟩ := oifg hT
  obtain ⟨r195, e196, hT⟩ := obnd hT
  refine a_callV kv_X0_141 g194 (twM (E := aEI) (fun s9 B9 r9 ht9 e9 => k_X3_thrown ht9 e9) e196) ⟨Nat.le_of_ble_eq_true rfl, Nat.le_of_ble_eq_true rfl⟩ (As := []) (rest := []) rfl rfl (Nat.le_of_ble_eq_true rfl) dL_law_607 (kI ?_) xI
  refine a_iload dL_law_610 rfl ?_
  refine a_icmp_eq 617 dL_law_612 rfl (fun c197 => ?_) (fun c197 => ?_)
  · have hT := oifp c197 hT
    refine a_iload dL_law_617 rfl ?_
    refine a_if_ne 634 dL_law_619 rfl (fun c198 => ?_) (fun c198 => ?_)
    · have hT := oifn c198 hT
      refine a_mask [true, true, true, true, true, true, false, false, true, true] ?_
      exact k_L_law_l634 hT he
    · have hT := oifp c198 hT
      refine a_aload_n dL_law_622 rfl ?_
      refine a_iconst (v := 0) dL_law_623 (by decide) ?_
      obtain ⟨z200, e199, hT⟩ := obnd hT
      refine a_ldJ e199 dL_law_624 ?_
      refine a_iload dL_law_625 rfl ?_
      refine a_i2l dL_law_627 ?_
      refine a_lcmp dL_law_628 ?_
      refine a_if_eq 634 dL_law_629 rfl (fun c201 => ?_) (fun c201 => ?_)
      · have hT := oifp c201 hT
        refine a_mask [true, true, true, true, true, true, false, false, true, true] ?_
        exact k_L_law_l634 hT he
      · have hT := oifn c201 hT
        refine a_iconst (v := 0) dL_law_632 (by decide) ?_
        obtain rfl := Option.some.inj hT
        exact a_iret rfl (by decide) dL_law_633 (he _ _ ⟨rfl, rfl⟩)
  · have hT := oifn c197 hT
    refine a_iconst (v := 0) dL_law_615 (by decide) ?_
    obtain rfl := Option.some.inj hT
    exact a_iret rfl (by decide) dL_law_616 (he _ _ ⟨rfl, rfl⟩)
noncomputable def t_L_law_l702 (Z : aZ) (T : Nat → Nat) (h : aH) (v0 : Nat) (v1 : Nat) (v2 : Nat) (v3 : Nat) (v4 : Nat) (v5 : Int32) : Option ((Nat × Nat × Nat × Nat × Nat × Int32 × aH) ⊕ (Int32 × aH)) :=
  t_L_law_l2408 Z T h v0 v1 v2 v3 v4 v5
theorem k_L_law_l702 {G : aG} {h0 : aH} {K : aRes → aH → Prop} {T : Nat → Nat} {h : aH} {v0 : Nat} {v1 : Nat} {v2 : Nat} {v3 : Nat} {v4 : Nat} {v5 : Int32} {e : ((Nat × Nat × Nat × Nat × Nat × Int32 × aH) ⊕ (Int32 × aH))} (hT : t_L_law_l702 (gZ G) T h v0 v1 v2 v3 v4 v5 = some e) (he : (Sum.elim (p_L_law_b28 G h0 K) (fun e => aTo (aEI e.1 e.2) K)) e) : aW G M_L_law 8192 104096 h0 K h 702 [some (.ref v0), some (.ref v1), some (.ref v2), some (.ref v3), some (.ref v4), some (.int v5), none, none, none, none] [] := by
  unfold t_L_law_l702 at hT
  refine a_goto 2408 dL_law_702 rfl ?_
  exact k_L_law_l2408 hT he
noncomputable def t_L_law_l637 (Z : aZ) (T : Nat → Nat) (h : aH) (v0 : Nat) (v1 : Nat) (v2 : Nat) (v3 : Nat) (v4 : Nat) (v5 : Int32) : Option ((Nat × Nat × Nat × Nat × Nat × Int32 × aH) ⊕ (Int32 × aH)) :=
  (oldLd .int Z v0 (v5 + 1)).bind fun z204 =>
  (oldLd .int Z v0 (v5 + 2)).bind fun z206 =>
  (t_X0_walk Z h v1 z204 z206 v3).bind fun r209 =>
  (oldLd .int Z v0 (v5 + 1)).bind fun z212 =>
  (oldLd .int Z v0 (v5 + 2)).bind fun z214 =>
  if isC 2 r209.2 v2 = true then
  (twc Z T r209.2 v2 (fun s9 => t_X3_walk s9 z212 z214)).bind fun r218 =>
  if isC 2 r218.2 v2 = true then
  (twc Z T r218.2 v2 (fun s9 => t_X3_thrown s9)).bind fun r223 =>
  if r223.1 = r209.1 then
    if r209.1 = 0 then
      (ldJ Z r223.2 v3 0).bind fun z228 =>
      if (lg_cmp z228 ((r218.1 : Int32).toInt64)) = 0 then
        t_L_law_l702 Z T r223.2 v0 v1 v2 v3 v4 v5
      else
        some (.inr ((0, r223.2)))
    else
      t_L_law_l702 Z T r223.2 v0 v1 v2 v3 v4 v5
  else
    some (.inr ((0, r223.2)))
  else none
  else none
theorem k_L_law_l637 {G : aG} {h0 : aH} {K : aRes → aH → Prop} {T : Nat → Nat} {h : aH} {v0 : Nat} {v1 : Nat} {v2 : Nat} {v3 : Nat} {v4 : Nat} {v5 : Int32} {e : ((Nat × Nat × Nat × Nat × Nat × Int32 × aH) ⊕ (Int32 × aH))} (hT : t_L_law_l637 (gZ G) T h v0 v1 v2 v3 v4 v5 = some e) (he : (Sum.elim (p_L_law_b28 G h0 K) (fun e => aTo (aEI e.1 e.2) K)) e) : aW G M_L_law 8192 104096 h0 K h 637 [some (.ref v0), some (.ref v1), some (.ref v2), some (.ref v3), some (.ref v4), some (.int v5), none, none, none, none] [] := by
  unfold t_L_law_l637 at hT
  refine a_aload_n dL_law_637 rfl ?_
  refine a_aload_n dL_law_638 rfl ?_
  refine a_iload dL_law_639 rfl ?_
  refine a_iconst (v := 1) dL_law_641 (by decide) ?_
  refine a_iadd dL_law_642 ?_
  obtain ⟨z204, e203, hT⟩ := obnd hT
  refine a_oldI e203 dL_law_643 ?_
  refine a_aload_n dL_law_644 rfl ?_
  refine a_iload dL_law_645 rfl ?_
  refine a_iconst (v := 2) dL_law_647 (by decide) ?_
  refine a_iadd dL_law_648 ?_
  obtain ⟨z206, e205, hT⟩ := obnd hT
  refine a_oldI e205 dL_law_649 ?_
  refine a_aload_n dL_law_650 rfl ?_
  obtain ⟨r209, e210, hT⟩ := obnd hT
  refine a_callSW ks_X0_164 (k_X0_walk e210) ⟨Nat.le_of_ble_eq_true rfl, Nat.le_of_ble_eq_true rfl⟩ (As := [.ref v1, .int z204, .int z206, .ref v3]) (rest := []) rfl rfl (Nat.le_of_ble_eq_true rfl) dL_law_651 (kI ?_) xI
  refine a_istore (lv' := [some (.ref v0), some (.ref v1), some (.ref v2), some (.ref v3), some (.ref v4), some (.int v5), some (.int r209.1), none, none, none]) dL_law_654 rfl (by decide) rfl ?_
  refine a_aload_n dL_law_656 rfl ?_
  refine a_aload_n dL_law_657 rfl ?_
  refine a_iload dL_law_658 rfl ?_
  refine a_iconst (v := 1) dL_law_660 (by decide) ?_
  refine a_iadd dL_law_661 ?_
  obtain ⟨z212, e211, hT⟩ := obnd hT
  refine a_oldI e211 dL_law_662 ?_
  refine a_aload_n dL_law_663 rfl ?_
  refine a_iload dL_law_664 rfl ?_
  refine a_iconst (v := 2) dL_law_666 (by decide) ?_
  refine a_iadd dL_law_667 ?_
  obtain ⟨z214, e213, hT⟩ := obnd hT
  refine a_oldI e213 dL_law_668 ?_
  obtain ⟨g217, hT⟩ := oifg hT
  obtain ⟨r218, e219, hT⟩ := obnd hT
  refine a_callV kv_X0_167 g217 (twM (E := aEI) (fun s9 B9 r9 ht9 e9 => k_X3_walk ht9 e9) e219) ⟨Nat.le_of_ble_eq_true rfl, Nat.le_of_ble_eq_true rfl⟩ (As := [.int z212, .int z214]) (rest := []) rfl rfl (Nat.le_of_ble_eq_true rfl) dL_law_669 (kI ?_) xI
  refine a_istore (lv' := [some (.ref v0), some (.ref v1), some (.ref v2), some (.ref v3), some (.ref v4), some (.int v5), some (.int r209.1), some (.int r218.1), none, none]) dL_law_672 rfl (by decide) rfl ?_
  refine a_aload_n dL_law_674 rfl ?_
  obtain ⟨g222, hT⟩ := oifg hT
  obtain ⟨r223, e224, hT⟩ := obnd hT
  refine a_callV kv_X0_141 g222 (twM (E := aEI) (fun s9 B9 r9 ht9 e9 => k_X3_thrown ht9 e9) e224) ⟨Nat.le_of_ble_eq_true rfl, Nat.le_of_ble_eq_true rfl⟩ (As := []) (rest := []) rfl rfl (Nat.le_of_ble_eq_true rfl) dL_law_675 (kI ?_) xI
  refine a_iload dL_law_678 rfl ?_
  refine a_icmp_eq 685 dL_law_680 rfl (fun c225 => ?_) (fun c225 => ?_)
  · have hT := oifp c225 hT
    refine a_iload dL_law_685 rfl ?_
    refine a_if_ne 702 dL_law_687 rfl (fun c226 => ?_) (fun c226 => ?_)
    · have hT := oifn c226 hT
      refine a_mask [true, true, true, true, true, true, false, false, true, true] ?_
      exact k_L_law_l702 hT he
    · have hT := oifp c226 hT
      refine a_aload_n dL_law_690 rfl ?_
      refine a_iconst (v := 0) dL_law_691 (by decide) ?_
      obtain ⟨z228, e227, hT⟩ := obnd hT
      refine a_ldJ e227 dL_law_692 ?_
      refine a_iload dL_law_693 rfl ?_
      refine a_i2l dL_law_695 ?_
      refine a_lcmp dL_law_696 ?_
      refine a_if_eq 702 dL_law_697 rfl (fun c229 => ?_) (fun c229 => ?_)
      · have hT := oifp c229 hT
        refine a_mask [true, true, true, true, true, true, false, false, true, true] ?_
        exact k_L_law_l702 hT he
      · have hT := oifn c229 hT
        refine a_iconst (v := 0) dL_law_700 (by decide) ?_
        obtain rfl := Option.some.inj hT
        exact a_iret rfl (by decide) dL_law_701 (he _ _ ⟨rfl, rfl⟩)
  · have hT := oifn c225 hT
    refine a_iconst (v := 0) dL_law_683 (by decide) ?_
    obtain rfl := Option.some.inj hT
    exact a_iret rfl (by decide) dL_law_684 (he _ _ ⟨rfl, rfl⟩)
noncomputable def t_L_law_l770 (Z : aZ) (T : Nat → Nat) (h : aH) (v0 : Nat) (v1 : Nat) (v2 : Nat) (v3 : Nat) (v4 : Nat) (v5 : Int32) : Option ((Nat × Nat × Nat × Nat × Nat × Int32 × aH) ⊕ (Int32 × aH)) :=
  t_L_law_l2408 Z T h v0 v1 v2 v3 v4 v5
theorem k_L_law_l770 {G : aG} {h0 : aH} {K : aRes → aH → Prop} {T : Nat → Nat} {h : aH} {v0 : Nat} {v1 : Nat} {v2 : Nat} {v3 : Nat} {v4 : Nat} {v5 : Int32} {e : ((Nat × Nat × Nat × Nat × Nat × Int32 × aH) ⊕ (Int32 × aH))} (hT : t_L_law_l770 (gZ G) T h v0 v1 v2 v3 v4 v5 = some e) (he : (Sum.elim (p_L_law_b28 G h0 K) (fun e => aTo (aEI e.1 e.2) K)) e) : aW G M_L_law 8192 104096 h0 K h 770 [some (.ref v0), some (.ref v1), some (.ref v2), some (.ref v3), some (.ref v4), some (.int v5), none, none, none, none] [] := by
  unfold t_L_law_l770 at hT
  refine a_goto 2408 dL_law_770 rfl ?_
  exact k_L_law_l2408 hT he
noncomputable def t_L_law_l705 (Z : aZ) (T : Nat → Nat) (h : aH) (v0 : Nat) (v1 : Nat) (v2 : Nat) (v3 : Nat) (v4 : Nat) (v5 : Int32) : Option ((Nat × Nat × Nat × Nat × Nat × Int32 × aH) ⊕ (Int32 × aH)) :=
  (oldLd .int Z v0 (v5 + 1)).bind fun z232 =>
  (oldLd .int Z v0 (v5 + 2)).bind fun z234 =>
  (t_X0_rest Z h v1 z232 z234 v3).bind fun r237 =>
  (oldLd .int Z v0 (v5 + 1)).bind fun z240 =>
  (oldLd .int Z v0 (v5 + 2)).bind fun z242 =>
  if isC 2 r237.2 v2 = true then
  (twc Z T r237.2 v2 (fun s9 => t_X3_rest s9 z240 z242)).bind fun r246 =>
  if isC 2 r246.2 v2 = true then
  (twc Z T r246.2 v2 (fun s9 => t_X3_thrown s9)).bind fun r251 =>
  if r251.1 = r237.1 then
    if r237.1 = 0 then
      (ldJ Z r251.2 v3 0).bind fun z256 =>
      if (lg_cmp z256 ((r246.1 : Int32).toInt64)) = 0 then
        t_L_law_l770 Z T r251.2 v0 v1 v2 v3 v4 v5
      else
        some (.inr ((0, r251.2)))
    else
      t_L_law_l770 Z T r251.2 v0 v1 v2 v3 v4 v5
  else
    some (.inr ((0, r251.2)))
  else none
  else none
theorem k_L_law_l705 {G : aG} {h0 : aH} {K : aRes → aH → Prop} {T : Nat → Nat} {h : aH} {v0 : Nat} {v1 : Nat} {v2 : Nat} {v3 : Nat} {v4 : Nat} {v5 : Int32} {e : ((Nat × Nat × Nat × Nat × Nat × Int32 × aH) ⊕ (Int32 × aH))} (hT : t_L_law_l705 (gZ G) T h v0 v1 v2 v3 v4 v5 = some e) (he : (Sum.elim (p_L_law_b28 G h0 K) (fun e => aTo (aEI e.1 e.2) K)) e) : aW G M_L_law 8192 104096 h0 K h 705 [some (.ref v0), some (.ref v1), some (.ref v2), some (.ref v3), some (.ref v4), some (.int v5), none, none, none, none] [] := by
  unfold t_L_law_l705 at hT
  refine a_aload_n dL_law_705 rfl ?_
  refine a_aload_n dL_law_706 rfl ?_
  refine a_iload dL_law_707 rfl ?_
  refine a_iconst (v := 1) dL_law_709 (by decide) ?_
  refine a_iadd dL_law_710 ?_
  obtain ⟨z232, e231, hT⟩ := obnd hT
  refine a_oldI e231 dL_law_711 ?_
  refine a_aload_n dL_law_712 rfl ?_
  refine a_iload dL_law_713 rfl ?_
  refine a_iconst (v := 2) dL_law_715 (by decide) ?_
  refine a_iadd dL_law_716 ?_
  obtain ⟨z234, e233, hT⟩ := obnd hT
  refine a_oldI e233 dL_law_717 ?_
  refine a_aload_n dL_law_718 rfl ?_
  obtain ⟨r237, e238, hT⟩ := obnd hT
  refine a_callSW ks_X0_168 (k_X0_rest e238) ⟨Nat.le_of_ble_eq_true rfl, Nat.le_of_ble_eq_true rfl⟩ (As := [.ref v1, .int z232, .int z234, .ref v3]) (rest := []) rfl rfl (Nat.le_of_ble_eq_true rfl) dL_law_719 (kI ?_) xI
  refine a_istore (lv' := [some (.ref v0), some (.ref v1), some (.ref v2), some (.ref v3), some (.ref v4), some (.int v5), some (.int r237.1), none, none, none]) dL_law_722 rfl (by decide) rfl ?_
  refine a_aload_n dL_law_724 rfl ?_
  refine a_aload_n dL_law_725 rfl ?_
  refine a_iload dL_law_726 rfl ?_
  refine a_iconst (v := 1) dL_law_728 (by decide) ?_
  refine a_iadd dL_law_729 ?_
  obtain ⟨z240, e239, hT⟩ := obnd hT
  refine a_oldI e239 dL_law_730 ?_
  refine a_aload_n dL_law_731 rfl ?_
  refine a_iload dL_law_732 rfl ?_
  refine a_iconst (v := 2) dL_law_734 (by decide) ?_
  refine a_iadd dL_law_735 ?_
  obtain ⟨z242, e241, hT⟩ := obnd hT
  refine a_oldI e241 dL_law_736 ?_
  obtain ⟨g245, hT⟩ := oifg hT
  obtain ⟨r246, e247, hT⟩ := obnd hT
  refine a_callV kv_X0_170 g245 (twM (E := aEI) (fun s9 B9 r9 ht9 e9 => k_X3_rest ht9 e9) e247) ⟨Nat.le_of_ble_eq_true rfl, Nat.le_of_ble_eq_true rfl⟩ (As := [.int z240, .int z242]) (rest := []) rfl rfl (Nat.le_of_ble_eq_true rfl) dL_law_737 (kI ?_) xI
  refine a_istore (lv' := [some (.ref v0), some (.ref v1), some (.ref v2), some (.ref v3), some (.ref v4), some (.int v5), some (.int r237.1), some (.int r246.1), none, none]) dL_law_740 rfl (by decide) rfl ?_
  refine a_aload_n dL_law_742 rfl ?_
  obtain ⟨g250, hT⟩ := oifg hT
  obtain ⟨r251, e252, hT⟩ := obnd hT
  refine a_callV kv_X0_141 g250 (twM (E := aEI) (fun s9 B9 r9 ht9 e9 => k_X3_thrown ht9 e9) e252) ⟨Nat.le_of_ble_eq_true rfl, Nat.le_of_ble_eq_true rfl⟩ (As := []) (rest := []) rfl rfl (Nat.le_of_ble_eq_true rfl) dL_law_743 (kI ?_) xI
  refine a_iload dL_law_746 rfl ?_
  refine a_icmp_eq 753 dL_law_748 rfl (fun c253 => ?_) (fun c253 => ?_)
  · have hT := oifp c253 hT
    refine a_iload dL_law_753 rfl ?_
    refine a_if_ne 770 dL_law_755 rfl (fun c254 => ?_) (fun c254 => ?_)
    · have hT := oifn c254 hT
      refine a_mask [true, true, true, true, true, true, false, false, true, true] ?_
      exact k_L_law_l770 hT he
    · have hT := oifp c254 hT
      refine a_aload_n dL_law_758 rfl ?_
      refine a_iconst (v := 0) dL_law_759 (by decide) ?_
      obtain ⟨z256, e255, hT⟩ := obnd hT
      refine a_ldJ e255 dL_law_760 ?_
      refine a_iload dL_law_761 rfl ?_
      refine a_i2l dL_law_763 ?_
      refine a_lcmp dL_law_764 ?_
      refine a_if_eq 770 dL_law_765 rfl (fun c257 => ?_) (fun c257 => ?_)
      · have hT := oifp c257 hT
        refine a_mask [true, true, true, true, true, true, false, false, true, true] ?_
        exact k_L_law_l770 hT he
      · have hT := oifn c257 hT
        refine a_iconst (v := 0) dL_law_768 (by decide) ?_
        obtain rfl := Option.some.inj hT
        exact a_iret rfl (by decide) dL_law_769 (he _ _ ⟨rfl, rfl⟩)
  · have hT := oifn c253 hT
    refine a_iconst (v := 0) dL_law_751 (by decide) ?_
    obtain rfl := Option.some.inj hT
    exact a_iret rfl (by decide) dL_law_752 (he _ _ ⟨rfl, rfl⟩)
noncomputable def t_L_law_l838 (Z : aZ) (T : Nat → Nat) (h : aH) (v0 : Nat) (v1 : Nat) (v2 : Nat) (v3 : Nat) (v4 : Nat) (v5 : Int32) : Option ((Nat × Nat × Nat × Nat × Nat × Int32 × aH) ⊕ (Int32 × aH)) :=
  t_L_law_l2408 Z T h v0 v1 v2 v3 v4 v5
theorem k_L_law_l838 {G : aG} {h0 : aH} {K : aRes → aH → Prop} {T : Nat → Nat} {h : aH} {v0 : Nat} {v1 : Nat} {v2 : Nat} {v3 : Nat} {v4 : Nat} {v5 : Int32} {e : ((Nat × Nat × Nat × Nat × Nat × Int32 × aH) ⊕ (Int32 × aH))} (hT : t_L_law_l838 (gZ G) T h v0 v1 v2 v3 v4 v5 = some e) (he : (Sum.elim (p_L_law_b28 G h0 K) (fun e => aTo (aEI e.1 e.2) K)) e) : aW G M_L_law 8192 104096 h0 K h 838 [some (.ref v0), some (.ref v1), some (.ref v2), some (.ref v3), some (.ref v4), some (.int v5), none, none, none, none] [] := by
  unfold t_L_law_l838 at hT
  refine a_goto 2408 dL_law_838 rfl ?_
  exact k_L_law_l2408 hT he
noncomputable def t_L_law_l773 (Z : aZ) (T : Nat → Nat) (h : aH) (v0 : Nat) (v1 : Nat) (v2 : Nat) (v3 : Nat) (v4 : Nat) (v5 : Int32) : Option ((Nat × Nat × Nat × Nat × Nat × Int32 × aH) ⊕ (Int32 × aH)) :=
  (oldLd .int Z v0 (v5 + 1)).bind fun z260 =>
  (oldLd .int Z v0 (v5 + 2)).bind fun z262 =>
  (t_X0_leaves Z h v1 z260 z262 v3).bind fun r265 =>
  (oldLd .int Z v0 (v5 + 1)).bind fun z268 =>
  (oldLd .int Z v0 (v5 + 2)).bind fun z270 =>
  if isC 2 r265.2 v2 = true then
  (twc Z T r265.2 v2 (fun s9 => t_X3_leaves s9 z268 z270)).bind fun r274 =>
  if isC 2 r274.2 v2 = true then
  (twc Z T r274.2 v2 (fun s9 => t_X3_thrown s9)).bind fun r279 =>
  if r279.1 = r265.1 then
    if r265.1 = 0 then
      (ldJ Z r279.2 v3 0).bind fun z284 =>
      if (lg_cmp z284 ((r274.1 : Int32).toInt64)) = 0 then
        t_L_law_l838 Z T r279.2 v0 v1 v2 v3 v4 v5
      else
        some (.inr ((0, r279.2)))
    else
      t_L_law_l838 Z T r279.2 v0 v1 v2 v3 v4 v5
  else
    some (.inr ((0, r279.2)))
  else none
  else none
theorem k_L_law_l773 {G : aG} {h0 : aH} {K : aRes → aH → Prop} {T : Nat → Nat} {h : aH} {v0 : Nat} {v1 : Nat} {v2 : Nat} {v3 : Nat} {v4 : Nat} {v5 : Int32} {e : ((Nat × Nat × Nat × Nat × Nat × Int32 × aH) ⊕ (Int32 × aH))} (hT : t_L_law_l773 (gZ G) T h v0 v1 v2 v3 v4 v5 = some e) (he : (Sum.elim (p_L_law_b28 G h0 K) (fun e => aTo (aEI e.1 e.2) K)) e) : aW G M_L_law 8192 104096 h0 K h 773 [some (.ref v0), some (.ref v1), some (.ref v2), some (.ref v3), some (.ref v4), some (.int v5), none, none, none, none] [] := by
  unfold t_L_law_l773 at hT
  refine a_aload_n dL_law_773 rfl ?_
  refine a_aload_n dL_law_774 rfl ?_
  refine a_iload dL_law_775 rfl ?_
  refine a_iconst (v := 1) dL_law_777 (by decide) ?_
  refine a_iadd dL_law_778 ?_
  obtain ⟨z260, e259, hT⟩ := obnd hT
  refine a_oldI e259 dL_law_779 ?_
  refine a_aload_n dL_law_780 rfl ?_
  refine a_iload dL_law_781 rfl ?_
  refine a_iconst (v := 2) dL_law_783 (by decide) ?_
  refine a_iadd dL_law_784 ?_
  obtain ⟨z262, e261, hT⟩ := obnd hT
  refine a_oldI e261 dL_law_785 ?_
  refine a_aload_n dL_law_786 rfl ?_
  obtain ⟨r265, e266, hT⟩ := obnd hT
  refine a_callSW ks_X0_171 (k_X0_leaves e266) ⟨Nat.le_of_ble_eq_true rfl, Nat.le_of_ble_eq_true rfl⟩ (As := [.ref v1, .int z260, .int z262, .ref v3]) (rest := []) rfl rfl (Nat.le_of_ble_eq_true rfl) dL_law_787 (kI ?_) xI
  refine a_istore (lv' := [some (.ref v0), some (.ref v1), some (.ref v2), some (.ref v3), some (.ref v4), some (.int v5), some (.int r265.1), none, none, none]) dL_law_790 rfl (by decide) rfl ?_
  refine a_aload_n dL_law_792 rfl ?_
  refine a_aload_n dL_law_793 rfl ?_
  refine a_iload dL_law_794 rfl ?_
  refine a_iconst (v := 1) dL_law_796 (by decide) ?_
  refine a_iadd dL_law_797 ?_
  obtain ⟨z268, e267, hT⟩ := obnd hT
  refine a_oldI e267 dL_law_798 ?_
  refine a_aload_n dL_law_799 rfl ?_
  refine a_iload dL_law_800 rfl ?_
  refine a_iconst (v := 2) dL_law_802 (by decide) ?_
  refine a_iadd dL_law_803 ?_
  obtain ⟨z270, e269, hT⟩ := obnd hT
  refine a_oldI e269 dL_law_804 ?_
  obtain ⟨g273, hT⟩ := oifg hT
  obtain ⟨r274, e275, hT⟩ := obnd hT
  refine a_callV kv_X0_173 g273 (twM (E := aEI) (fun s9 B9 r9 ht9 e9 => k_X3_leaves ht9 e9) e275) ⟨Nat.le_of_ble_eq_true rfl, Nat.le_of_ble_eq_true rfl⟩ (As := [.int z268, .int z270]) (rest := []) rfl rfl (Nat.le_of_ble_eq_true rfl) dL_law_805 (kI ?_) xI
  refine a_istore (lv' := [some (.ref v0), some (.ref v1), some (.ref v2), some (.ref v3), some (.ref v4), some (.int v5), some (.int r265.1), some (.int r274.1), none, none]) dL_law_808 rfl (by decide) rfl ?_
  refine a_aload_n dL_law_810 rfl ?_
  obtain ⟨g278, hT⟩ := oifg hT
  obtain ⟨r279, e280, hT⟩ := obnd hT
  refine a_callV kv_X0_141 g278 (twM (E := aEI) (fun s9 B9 r9 ht9 e9 => k_X3_thrown ht9 e9) e280) ⟨Nat.le_of_ble_eq_true rfl, Nat.le_of_ble_eq_true rfl⟩ (As := []) (rest := []) rfl rfl (Nat.le_of_ble_eq_true rfl) dL_law_811 (kI ?_) xI
  refine a_iload dL_law_814 rfl ?_
  refine a_icmp_eq 821 dL_law_816 rfl (fun c281 => ?_) (fun c281 => ?_)
  · have hT := oifp c281 hT
    refine a_iload dL_law_821 rfl ?_
    refine a_if_ne 838 dL_law_823 rfl (fun c282 => ?_) (fun c282 => ?_)
    · have hT := oifn c282 hT
      refine a_mask [true, true, true, true, true, true, false, false, true, true] ?_
      exact k_L_law_l838 hT he
    · have hT := oifp c282 hT
      refine a_aload_n dL_law_826 rfl ?_
      refine a_iconst (v := 0) dL_law_827 (by decide) ?_
      obtain ⟨z284, e283, hT⟩ := obnd hT
      refine a_ldJ e283 dL_law_828 ?_
      refine a_iload dL_law_829 rfl ?_
      refine a_i2l dL_law_831 ?_
      refine a_lcmp dL_law_832 ?_
      refine a_if_eq 838 dL_law_833 rfl (fun c285 => ?_) (fun c285 => ?_)
      · have hT := oifp c285 hT
        refine a_mask [true, true, true, true, true, true, false, false, true, true] ?_
        exact k_L_law_l838 hT he
      · have hT := oifn c285 hT
        refine a_iconst (v := 0) dL_law_836 (by decide) ?_
        obtain rfl := Option.some.inj hT
        exact a_iret rfl (by decide) dL_law_837 (he _ _ ⟨rfl, rfl⟩)
  · have hT := oifn c281 hT
    refine a_iconst (v := 0) dL_law_819 (by decide) ?_
    obtain rfl := Option.some.inj hT
    exact a_iret rfl (by decide) dL_law_820 (he _ _ ⟨rfl, rfl⟩)
noncomputable def t_L_law_l913 (Z : aZ) (T : Nat → Nat) (h : aH) (v0 : Nat) (v1 : Nat) (v2 : Nat) (v3 : Nat) (v4 : Nat) (v5 : Int32) : Option ((Nat × Nat × Nat × Nat × Nat × Int32 × aH) ⊕ (Int32 × aH)) :=
  t_L_law_l2408 Z T h v0 v1 v2 v3 v4 v5
theorem k_L_law_l913 {G : aG} {h0 : aH} {K : aRes → aH → Prop} {T : Nat → Nat} {h : aH} {v0 : Nat} {v1 : Nat} {v2 : Nat} {v3 : Nat} {v4 : Nat} {v5 : Int32} {e : ((Nat × Nat × Nat × Nat × Nat × Int32 × aH) ⊕ (Int32 × aH))} (hT : t_L_law_l913 (gZ G) T h v0 v1 v2 v3 v4 v5 = some e) (he : (Sum.elim (p_L_law_b28 G h0 K) (fun e => aTo (aEI e.1 e.2) K)) e) : aW G M_L_law 8192 104096 h0 K h 913 [some (.ref v0), some (.ref v1), some (.ref v2), some (.ref v3), some (.ref v4), some (.int v5), none, none, none, none] [] := by
  unfold t_L_law_l913 at hT
  refine a_goto 2408 dL_law_913 rfl ?_
  exact k_L_law_l2408 hT he
noncomputable def t_L_law_l907 (Z : aZ) (T : Nat → Nat) (h : aH) (v0 : Nat) (v1 : Nat) (v2 : Nat) (v3 : Nat) (v4 : Nat) (v5 : Int32) (u0 : Int64) (u1 : Int64) : Option ((Nat × Nat × Nat × Nat × Nat × Int32 × aH) ⊕ (Int32 × aH)) :=
  if (lg_cmp u1 u0) = 0 then
    t_L_law_l913 Z T h v0 v1 v2 v3 v4 v5
  else
    some (.inr ((0, h)))
theorem k_L_law_l907 {G : aG} {h0 : aH} {K : aRes → aH → Prop} {T : Nat → Nat} {h : aH} {v0 : Nat} {v1 : Nat} {v2 : Nat} {v3 : Nat} {v4 : Nat} {v5 : Int32} {u0 : Int64} {u1 : Int64} {e : ((Nat × Nat × Nat × Nat × Nat × Int32 × aH) ⊕ (Int32 × aH))} (hT : t_L_law_l907 (gZ G) T h v0 v1 v2 v3 v4 v5 u0 u1 = some e) (he : (Sum.elim (p_L_law_b28 G h0 K) (fun e => aTo (aEI e.1 e.2) K)) e) : aW G M_L_law 8192 104096 h0 K h 907 [some (.ref v0), some (.ref v1), some (.ref v2), some (.ref v3), some (.ref v4), some (.int v5), none, none, none, none] [.long u0, .long u1] := by
  unfold t_L_law_l907 at hT
  refine a_lcmp dL_law_907 ?_
  refine a_if_eq 913 dL_law_908 rfl (fun c314 => ?_) (fun c314 => ?_)
  · have hT := oifp c314 hT
    exact k_L_law_l913 hT he
  · have hT := oifn c314 hT
    refine a_iconst (v := 0) dL_law_911 (by decide) ?_
    obtain rfl := Option.some.inj hT
    exact a_iret rfl (by decide) dL_law_912 (he _ _ ⟨rfl, rfl⟩)
noncomputable def t_L_law_l841 (Z : aZ) (T : Nat → Nat) (h : aH) (v0 : Nat) (v1 : Nat) (v2 : Nat) (v3 : Nat) (v4 : Nat) (v5 : Int32) : Option ((Nat × Nat × Nat × Nat × Nat × Int32 × aH) ⊕ (Int32 × aH)) :=
  (oldLd .int Z v0 (v5 + 1)).bind fun z288 =>
  (oldLd .int Z v0 (v5 + 2)).bind fun z290 =>
  (t_X0_isGap Z h v1 z288 z290 v3).bind fun r293 =>
  (oldLd .int Z v0 (v5 + 1)).bind fun z296 =>
  (oldLd .int Z v0 (v5 + 2)).bind fun z298 =>
  if isC 2 r293.2 v2 = true then
  (twc Z T r293.2 v2 (fun s9 => t_X3_isGap s9 z296 z298)).bind fun r302 =>
  if isC 2 r302.2 v2 = true then
  (twc Z T r302.2 v2 (fun s9 => t_X3_thrown s9)).bind fun r307 =>
  if r307.1 = r293.1 then
    if r293.1 = 0 then
      (ldJ Z r307.2 v3 0).bind fun z312 =>
      if r302.1 = 0 then
        t_L_law_l907 Z T r307.2 v0 v1 v2 v3 v4 v5 0 z312
      else
        t_L_law_l907 Z T r307.2 v0 v1 v2 v3 v4 v5 1 z312
    else
      t_L_law_l913 Z T r307.2 v0 v1 v2 v3 v4 v5
  else
    some (.inr ((0, r307.2)))
  else none
  else none
theorem k_L_law_l841 {G : aG} {h0 : aH} {K : aRes → aH → Prop} {T : Nat → Nat} {h : aH} {v0 : Nat} {v1 : Nat} {v2 : Nat} {v3 : Nat} {v4 : Nat} {v5 : Int32} {e : ((Nat × Nat × Nat × Nat × Nat × Int32 × aH) ⊕ (Int32 × aH))} (hT : t_L_law_l841 (gZ G) T h v0 v1 v2 v3 v4 v5 = some e) (he : (Sum.elim (p_L_law_b28 G h0 K) (fun e => aTo (aEI e.1 e.2) K)) e) : aW G M_L_law 8192 104096 h0 K h 841 [some (.ref v0), some (.ref v1), some (.ref v2), some (.ref v3), some (.ref v4), some (.int v5), none, none, none, none] [] := by
  unfold t_L_law_l841 at hT
  refine a_aload_n dL_law_841 rfl ?_
  refine a_aload_n dL_law_842 rfl ?_
  refine a_iload dL_law_843 rfl ?_
  refine a_iconst (v := 1) dL_law_845 (by decide) ?_
  refine a_iadd dL_law_846 ?_
  obtain ⟨z288, e287, hT⟩ := obnd hT
  refine a_oldI e287 dL_law_847 ?_
  refine a_aload_n dL_law_848 rfl ?_
  refine a_iload dL_law_849 rfl ?_
  refine a_iconst (v := 2) dL_law_851 (by decide) ?_
  refine a_iadd dL_law_852 ?_
  obtain ⟨z290, e289, hT⟩ := obnd hT
  refine a_oldI e289 dL_law_853 ?_
  refine a_aload_n dL_law_854 rfl ?_
  obtain ⟨r293, e294, hT⟩ := obnd hT
  refine a_callSW ks_X0_174 (k_X0_isGap e294) ⟨Nat.le_of_ble_eq_true rfl, Nat.le_of_ble_eq_true rfl⟩ (As := [.ref v1, .int z288, .int z290, .ref v3]) (rest := []) rfl rfl (Nat.le_of_ble_eq_true rfl) dL_law_855 (kI ?_) xI
  refine a_istore (lv' := [some (.ref v0), some (.ref v1), some (.ref v2), some (.ref v3), some (.ref v4), some (.int v5), some (.int r293.1), none, none, none]) dL_law_858 rfl (by decide) rfl ?_
  refine a_aload_n dL_law_860 rfl ?_
  refine a_aload_n dL_law_861 rfl ?_
  refine a_iload dL_law_862 rfl ?_
  refine a_iconst (v := 1) dL_law_864 (by decide) ?_
  refine a_iadd dL_law_865 ?_
  obtain ⟨z296, e295, hT⟩ := obnd hT
  refine a_oldI e295 dL_law_866 ?_
  refine a_aload_n dL_law_867 rfl ?_
  refine a_iload dL_law_868 rfl ?_
  refine a_iconst (v := 2) dL_law_870 (by decide) ?_
  refine a_iadd dL_law_871 ?_
  obtain ⟨z298, e297, hT⟩ := obnd hT
  refine a_oldI e297 dL_law_872 ?_
  obtain ⟨g301, hT⟩ := oifg hT
  obtain ⟨r302, e303, hT⟩ := obnd hT
  refine a_callV kv_X0_176 g301 (twM (E := aEI) (fun s9 B9 r9 ht9 e9 => k_X3_isGap ht9 e9) e303) ⟨Nat.le_of_ble_eq_true rfl, Nat.le_of_ble_eq_true rfl⟩ (As := [.int z296, .int z298]) (rest := []) rfl rfl (Nat.le_of_ble_eq_true rfl) dL_law_873 (kI ?_) xI
  refine a_istore (lv' := [some (.ref v0), some (.ref v1), some (.ref v2), some (.ref v3), some (.ref v4), some (.int v5), some (.int r293.1), some (.int r302.1), none, none]) dL_law_876 rfl (by decide) rfl ?_
  refine a_aload_n dL_law_878 rfl ?_
  obtain ⟨g306, hT⟩ := oifg hT
  obtain ⟨r307, e308, hT⟩ := obnd hT
  refine a_callV kv_X0_141 g306 (twM (E := aEI) (fun s9 B9 r9 ht9 e9 => k_X3_thrown ht9 e9) e308) ⟨Nat.le_of_ble_eq_true rfl, Nat.le_of_ble_eq_true rfl⟩ (As := []) (rest := []) rfl rfl (Nat.le_of_ble_eq_true rfl) dL_law_879 (kI ?_) xI
  refine a_iload dL_law_882 rfl ?_
  refine a_icmp_eq 889 dL_law_884 rfl (fun c309 => ?_) (fun c309 => ?_)
  · have hT := oifp c309 hT
    refine a_iload dL_law_889 rfl ?_
    refine a_if_ne 913 dL_law_891 rfl (fun c310 => ?_) (fun c310 => ?_)
    · have hT := oifn c310 hT
      refine a_mask [true, true, true, true, true, true, false, false, true, true] ?_
      exact k_L_law_l913 hT he
    · have hT := oifp c310 hT
      refine a_aload_n dL_law_894 rfl ?_
      refine a_iconst (v := 0) dL_law_895 (by decide) ?_
      obtain ⟨z312, e311, hT⟩ := obnd hT
      refine a_ldJ e311 dL_law_896 ?_
      refine a_iload dL_law_897 rfl ?_
      refine a_if_eq 906 dL_law_899 rfl (fun c313 => ?_) (fun c313 => ?_)
      · have hT := oifp c313 hT
        refine a_lconst (v := 0) dL_law_906 (by decide) ?_
        refine a_mask [true, true, true, true, true, true, false, false, true, true] ?_
        exact k_L_law_l907 hT he
      · have hT := oifn c313 hT
        refine a_lconst (v := 1) dL_law_902 (by decide) ?_
        refine a_goto 907 dL_law_903 rfl ?_
        refine a_mask [true, true, true, true, true, true, false, false, true, true] ?_
        exact k_L_law_l907 hT he
  · have hT := oifn c309 hT
    refine a_iconst (v := 0) dL_law_887 (by decide) ?_
    obtain rfl := Option.some.inj hT
    exact a_iret rfl (by decide) dL_law_888 (he _ _ ⟨rfl, rfl⟩)
noncomputable def t_L_law_l981 (Z : aZ) (T : Nat → Nat) (h : aH) (v0 : Nat) (v1 : Nat) (v2 : Nat) (v3 : Nat) (v4 : Nat) (v5 : Int32) : Option ((Nat × Nat × Nat × Nat × Nat × Int32 × aH) ⊕ (Int32 × aH)) :=
  t_L_law_l2408 Z T h v0 v1 v2 v3 v4 v5
theorem k_L_law_l981 {G : aG} {h0 : aH} {K : aRes → aH → Prop} {T : Nat → Nat} {h : aH} {v0 : Nat} {v1 : Nat} {v2 : Nat} {v3 : Nat} {v4 : Nat} {v5 : Int32} {e : ((Nat × Nat × Nat × Nat × Nat × Int32 × aH) ⊕ (Int32 × aH))} (hT : t_L_law_l981 (gZ G) T h v0 v1 v2 v3 v4 v5 = some e) (he : (Sum.elim (p_L_law_b28 G h0 K) (fun e => aTo (aEI e.1 e.2) K)) e) : aW G M_L_law 8192 104096 h0 K h 981 [some (.ref v0), some (.ref v1), some (.ref v2), some (.ref v3), some (.ref v4), some (.int v5), none, none, none, none] [] := by
  unfold t_L_law_l981 at hT
  refine a_goto 2408 dL_law_981 rfl ?_
  exact k_L_law_l2408 hT he
noncomputable def t_L_law_l916 (Z : aZ) (T : Nat → Nat) (h : aH) (v0 : Nat) (v1 : Nat) (v2 : Nat) (v3 : Nat) (v4 : Nat) (v5 : Int32) : Option ((Nat × Nat × Nat × Nat × Nat × Int32 × aH) ⊕ (Int32 × aH)) :=
  (oldLd .int Z v0 (v5 + 1)).bind fun z317 =>
  (oldLd .int Z v0 (v5 + 2)).bind fun z319 =>
  (t_X0_hours Z h v1 z317 z319 v3).bind fun r322 =>
  (oldLd .int Z v0 (v5 + 1)).bind fun z325 =>
  (oldLd .int Z v0 (v5 + 2)).bind fun z327 =>
  if isC 2 r322.2 v2 = true then
  (twc Z T r322.2 v2 (fun s9 => t_X3_hours s9 z325 z327)).bind fun r331 =>
  if isC 2 r331.2 v2 = true then
  (twc Z T r331.2 v2 (fun s9 => t_X3_thrown s9)).bind fun r336 =>
  if r336.1 = r322.1 then
    if r322.1 = 0 then
      (ldJ Z r336.2 v3 0).bind fun z341 =>
      if (lg_cmp z341 ((r331.1 : Int32).toInt64)) = 0 then
        t_L_law_l981 Z T r336.2 v0 v1 v2 v3 v4 v5
      else
        some (.inr ((0, r336.2)))
    else
      t_L_law_l981 Z T r336.2 v0 v1 v2 v3 v4 v5
  else
    some (.inr ((0, r336.2)))
  else none
  else none
theorem k_L_law_l916 {G : aG} {h0 : aH} {K : aRes → aH → Prop} {T : Nat → Nat} {h : aH} {v0 : Nat} {v1 : Nat} {v2 : Nat} {v3 : Nat} {v4 : Nat} {v5 : Int32} {e : ((Nat × Nat × Nat × Nat × Nat × Int32 × aH) ⊕ (Int32 × aH))} (hT : t_L_law_l916 (gZ G) T h v0 v1 v2 v3 v4 v5 = some e) (he : (Sum.elim (p_L_law_b28 G h0 K) (fun e => aTo (aEI e.1 e.2) K)) e) : aW G M_L_law 8192 104096 h0 K h 916 [some (.ref v0), some (.ref v1), some (.ref v2), some (.ref v3), some (.ref v4), some (.int v5), none, none, none, none] [] := by
  unfold t_L_law_l916 at hT
  refine a_aload_n dL_law_916 rfl ?_
  refine a_aload_n dL_law_917 rfl ?_
  refine a_iload dL_law_918 rfl ?_
  refine a_iconst (v := 1) dL_law_920 (by decide) ?_
  refine a_iadd dL_law_921 ?_
  obtain ⟨z317, e316, hT⟩ := obnd hT
  refine a_oldI e316 dL_law_922 ?_
  refine a_aload_n dL_law_923 rfl ?_
  refine a_iload dL_law_924 rfl ?_
  refine a_iconst (v := 2) dL_law_926 (by decide) ?_
  refine a_iadd dL_law_927 ?_
  obtain ⟨z319, e318, hT⟩ := obnd hT
  refine a_oldI e318 dL_law_928 ?_
  refine a_aload_n dL_law_929 rfl ?_
  obtain ⟨r322, e323, hT⟩ := obnd hT
  refine a_callSW ks_X0_177 (k_X0_hours e323) ⟨Nat.le_of_ble_eq_true rfl, Nat.le_of_ble_eq_true rfl⟩ (As := [.ref v1, .int z317, .int z319, .ref v3]) (rest := []) rfl rfl (Nat.le_of_ble_eq_true rfl) dL_law_930 (kI ?_) xI
  refine a_istore (lv' := [some (.ref v0), some (.ref v1), some (.ref v2), some (.ref v3), some (.ref v4), some (.int v5), some (.int r322.1), none, none, none]) dL_law_933 rfl (by decide) rfl ?_
  refine a_aload_n dL_law_935 rfl ?_
  refine a_aload_n dL_law_936 rfl ?_
  refine a_iload dL_law_937 rfl ?_
  refine a_iconst (v := 1) dL_law_939 (by decide) ?_
  refine a_iadd dL_law_940 ?_
  obtain ⟨z325, e324, hT⟩ := obnd hT
  refine a_oldI e324 dL_law_941 ?_
  refine a_aload_n dL_law_942 rfl ?_
  refine a_iload dL_law_943 rfl ?_
  refine a_iconst (v := 2) dL_law_945 (by decide) ?_
  refine a_iadd dL_law_946 ?_
  obtain ⟨z327, e326, hT⟩ := obnd hT
  refine a_oldI e326 dL_law_947 ?_
  obtain ⟨g330, hT⟩ := oifg hT
  obtain ⟨r331, e332, hT⟩ := obnd hT
  refine a_callV kv_X0_179 g330 (twM (E := aEI) (fun s9 B9 r9 ht9 e9 => k_X3_hours ht9 e9) e332) ⟨Nat.le_of_ble_eq_true rfl, Nat.le_of_ble_eq_true rfl⟩ (As := [.int z325, .int z327]) (rest := []) rfl rfl (Nat.le_of_ble_eq_true rfl) dL_law_948 (kI ?_) xI
  refine a_istore (lv' := [some (.ref v0), some (.ref v1), some (.ref v2), some (.ref v3), some (.ref v4), some (.int v5), some (.int r322.1), some (.int r331.1), none, none]) dL_law_951 rfl (by decide) rfl ?_
  refine a_aload_n dL_law_953 rfl ?_
  obtain ⟨g335, hT⟩ := oifg hT
  obtain ⟨r336, e337, hT⟩ := obnd hT
  refine a_callV kv_X0_141 g335 (twM (E := aEI) (fun s9 B9 r9 ht9 e9 => k_X3_thrown ht9 e9) e337) ⟨Nat.le_of_ble_eq_true rfl, Nat.le_of_ble_eq_true rfl⟩ (As := []) (rest := []) rfl rfl (Nat.le_of_ble_eq_true rfl) dL_law_954 (kI ?_) xI
  refine a_iload dL_law_957 rfl ?_
  refine a_icmp_eq 964 dL_law_959 rfl (fun c338 => ?_) (fun c338 => ?_)
  · have hT := oifp c338 hT
    refine a_iload dL_law_964 rfl ?_
    refine a_if_ne 981 dL_law_966 rfl (fun c339 => ?_) (fun c339 => ?_)
    · have hT := oifn c339 hT
      refine a_mask [true, true, true, true, true, true, false, false, true, true] ?_
      exact k_L_law_l981 hT he
    · have hT := oifp c339 hT
      refine a_aload_n dL_law_969 rfl ?_
      refine a_iconst (v := 0) dL_law_970 (by decide) ?_
      obtain ⟨z341, e340, hT⟩ := obnd hT
      refine a_ldJ e340 dL_law_971 ?_
      refine a_iload dL_law_972 rfl ?_
      refine a_i2l dL_law_974 ?_
      refine a_lcmp dL_law_975 ?_
      refine a_if_eq 981 dL_law_976 rfl (fun c342 => ?_) (fun c342 => ?_)
      · have hT := oifp c342 hT
        refine a_mask [true, true, true, true, true, true, false, false, true, true] ?_
        exact k_L_law_l981 hT he
      · have hT := oifn c342 hT
        refine a_iconst (v := 0) dL_law_979 (by decide) ?_
        obtain rfl := Option.some.inj hT
        exact a_iret rfl (by decide) dL_law_980 (he _ _ ⟨rfl, rfl⟩)
  · have hT := oifn c338 hT
    refine a_iconst (v := 0) dL_law_962 (by decide) ?_
    obtain rfl := Option.some.inj hT
    exact a_iret rfl (by decide) dL_law_963 (he _ _ ⟨rfl, rfl⟩)
noncomputable def t_L_law_l1049 (Z : aZ) (T : Nat → Nat) (h : aH) (v0 : Nat) (v1 : Nat) (v2 : Nat) (v3 : Nat) (v4 : Nat) (v5 : Int32) : Option ((Nat × Nat × Nat × Nat × Nat × Int32 × aH) ⊕ (Int32 × aH)) :=
  t_L_law_l2408 Z T h v0 v1 v2 v3 v4 v5
theorem k_L_law_l1049 {G : aG} {h0 : aH} {K : aRes → aH → Prop} {T : Nat → Nat} {h : aH} {v0 : Nat} {v1 : Nat} {v2 : Nat} {v3 : Nat} {v4 : Nat} {v5 : Int32} {e : ((Nat × Nat × Nat × Nat × Nat × Int32 × aH) ⊕ (Int32 × aH))} (hT : t_L_law_l1049 (gZ G) T h v0 v1 v2 v3 v4 v5 = some e) (he : (Sum.elim (p_L_law_b28 G h0 K) (fun e => aTo (aEI e.1 e.2) K)) e) : aW G M_L_law 8192 104096 h0 K h 1049 [some (.ref v0), some (.ref v1), some (.ref v2), some (.ref v3), some (.ref v4), some (.int v5), none, none, none, none] [] := by
  unfold t_L_law_l1049 at hT
  refine a_goto 2408 dL_law_1049 rfl ?_
  exact k_L_law_l2408 hT he
noncomputable def t_L_law_l984 (Z : aZ) (T : Nat → Nat) (h : aH) (v0 : Nat) (v1 : Nat) (v2 : Nat) (v3 : Nat) (v4 : Nat) (v5 : Int32) : Option ((Nat × Nat × Nat × Nat × Nat × Int32 × aH) ⊕ (Int32 × aH)) :=
  (oldLd .int Z v0 (v5 + 1)).bind fun z345 =>
  (oldLd .int Z v0 (v5 + 2)).bind fun z347 =>
  (t_X0_hoursAgain Z h v1 z345 z347 v3).bind fun r350 =>
  (oldLd .int Z v0 (v5 + 1)).bind fun z353 =>
  (oldLd .int Z v0 (v5 + 2)).bind fun z355 =>
  if isC 2 r350.2 v2 = true then
  (twc Z T r350.2 v2 (fun s9 => t_X3_hoursAgain s9 z353 z355)).bind fun r359 =>
  if isC 2 r359.2 v2 = true then
  (twc Z T r359.2 v2 (fun s9 => t_X3_thrown s9)).bind fun r364 =>
  if r364.1 = r350.1 then
    if r350.1 = 0 then
      (ldJ Z r364.2 v3 0).bind fun z369 =>
      if (lg_cmp z369 ((r359.1 : Int32).toInt64)) = 0 then
        t_L_law_l1049 Z T r364.2 v0 v1 v2 v3 v4 v5
      else
        some (.inr ((0, r364.2)))
    else
      t_L_law_l1049 Z T r364.2 v0 v1 v2 v3 v4 v5
  else
    some (.inr ((0, r364.2)))
  else none
  else none
theorem k_L_law_l984 {G : aG} {h0 : aH} {K : aRes → aH → Prop} {T : Nat → Nat} {h : aH} {v0 : Nat} {v1 : Nat} {v2 : Nat} {v3 : Nat} {v4 : Nat} {v5 : Int32} {e : ((Nat × Nat × Nat × Nat × Nat × Int32 × aH) ⊕ (Int32 × aH))} (hT : t_L_law_l984 (gZ G) T h v0 v1 v2 v3 v4 v5 = some e) (he : (Sum.elim (p_L_law_b28 G h0 K) (fun e => aTo (aEI e.1 e.2) K)) e) : aW G M_L_law 8192 104096 h0 K h 984 [some (.ref v0), some (.ref v1), some (.ref v2), some (.ref v3), some (.ref v4), some (.int v5), none, none, none, none] [] := by
  unfold t_L_law_l984 at hT
  refine a_aload_n dL_law_984 rfl ?_
  refine a_aload_n dL_law_985 rfl ?_
  refine a_iload dL_law_986 rfl ?_
  refine a_iconst (v := 1) dL_law_988 (by decide) ?_
  refine a_iadd dL_law_989 ?_
  obtain ⟨z345, e344, hT⟩ := obnd hT
  refine a_oldI e344 dL_law_990 ?_
  refine a_aload_n dL_law_991 rfl ?_
  refine a_iload dL_law_992 rfl ?_
  refine a_iconst (v := 2) dL_law_994 (by decide) ?_
  refine a_iadd dL_law_995 ?_
  obtain ⟨z347, e346, hT⟩ := obnd hT
  refine a_oldI e346 dL_law_996 ?_
  refine a_aload_n dL_law_997 rfl ?_
  obtain ⟨r350, e351, hT⟩ := obnd hT
  refine a_callSW ks_X0_180 (k_X0_hoursAgain e351) ⟨Nat.le_of_ble_eq_true rfl, Nat.le_of_ble_eq_true rfl⟩ (As := [.ref v1, .int z345, .int z347, .ref v3]) (rest := []) rfl rfl (Nat.le_of_ble_eq_true rfl) dL_law_998 (kI ?_) xI
  refine a_istore (lv' := [some (.ref v0), some (.ref v1), some (.ref v2), some (.ref v3), some (.ref v4), some (.int v5), some (.int r350.1), none, none, none]) dL_law_1001 rfl (by decide) rfl ?_
  refine a_aload_n dL_law_1003 rfl ?_
  refine a_aload_n dL_law_1004 rfl ?_
  refine a_iload dL_law_1005 rfl ?_
  refine a_iconst (v := 1) dL_law_1007 (by decide) ?_
  refine a_iadd dL_law_1008 ?_
  obtain ⟨z353, e352, hT⟩ := obnd hT
  refine a_oldI e352 dL_law_1009 ?_
  refine a_aload_n dL_law_1010 rfl ?_
  refine a_iload dL_law_1011 rfl ?_
  refine a_iconst (v := 2) dL_law_1013 (by decide) ?_
  refine a_iadd dL_law_1014 ?_
  obtain ⟨z355, e354, hT⟩ := obnd hT
  refine a_oldI e354 dL_law_1015 ?_
  obtain ⟨g358, hT⟩ := oifg hT
  obtain ⟨r359, e360, hT⟩ := obnd hT
  refine a_callV kv_X0_182 g358 (twM (E := aEI) (fun s9 B9 r9 ht9 e9 => k_X3_hoursAgain ht9 e9) e360) ⟨Nat.le_of_ble_eq_true rfl, Nat.le_of_ble_eq_true rfl⟩ (As := [.int z353, .int z355]) (rest := []) rfl rfl (Nat.le_of_ble_eq_true rfl) dL_law_1016 (kI ?_) xI
  refine a_istore (lv' := [some (.ref v0), some (.ref v1), some (.ref v2), some (.ref v3), some (.ref v4), some (.int v5), some (.int r350.1), some (.int r359.1), none, none]) dL_law_1019 rfl (by decide) rfl ?_
  refine a_aload_n dL_law_1021 rfl ?_
  obtain ⟨g363, hT⟩ := oifg hT
  obtain ⟨r364, e365, hT⟩ := obnd hT
  refine a_callV kv_X0_141 g363 (twM (E := aEI) (fun s9 B9 r9 ht9 e9 => k_X3_thrown ht9 e9) e365) ⟨Nat.le_of_ble_eq_true rfl, Nat.le_of_ble_eq_true rfl⟩ (As := []) (rest := []) rfl rfl (Nat.le_of_ble_eq_true rfl) dL_law_1022 (kI ?_) xI
  refine a_iload dL_law_1025 rfl ?_
  refine a_icmp_eq 1032 dL_law_1027 rfl (fun c366 => ?_) (fun c366 => ?_)
  · have hT := oifp c366 hT
    refine a_iload dL_law_1032 rfl ?_
    refine a_if_ne 1049 dL_law_1034 rfl (fun c367 => ?_) (fun c367 => ?_)
    · have hT := oifn c367 hT
      refine a_mask [true, true, true, true, true, true, false, false, true, true] ?_
      exact k_L_law_l1049 hT he
    · have hT := oifp c367 hT
      refine a_aload_n dL_law_1037 rfl ?_
      refine a_iconst (v := 0) dL_law_1038 (by decide) ?_
      obtain ⟨z369, e368, hT⟩ := obnd hT
      refine a_ldJ e368 dL_law_1039 ?_
      refine a_iload dL_law_1040 rfl ?_
      refine a_i2l dL_law_1042 ?_
      refine a_lcmp dL_law_1043 ?_
      refine a_if_eq 1049 dL_law_1044 rfl (fun c370 => ?_) (fun c370 => ?_)
      · have hT := oifp c370 hT
        refine a_mask [true, true, true, true, true, true, false, false, true, true] ?_
        exact k_L_law_l1049 hT he
      · have hT := oifn c370 hT
        refine a_iconst (v := 0) dL_law_1047 (by decide) ?_
        obtain rfl := Option.some.inj hT
        exact a_iret rfl (by decide) dL_law_1048 (he _ _ ⟨rfl, rfl⟩)
  · have hT := oifn c366 hT
    refine a_iconst (v := 0) dL_law_1030 (by decide) ?_
    obtain rfl := Option.some.inj hT
    exact a_iret rfl (by decide) dL_law_1031 (he _ _ ⟨rfl, rfl⟩)
noncomputable def t_L_law_l1105 (Z : aZ) (T : Nat → Nat) (h : aH) (v0 : Nat) (v1 : Nat) (v2 : Nat) (v3 : Nat) (v4 : Nat) (v5 : Int32) : Option ((Nat × Nat × Nat × Nat × Nat × Int32 × aH) ⊕ (Int32 × aH)) :=
  t_L_law_l2408 Z T h v0 v1 v2 v3 v4 v5
theorem k_L_law_l1105 {G : aG} {h0 : aH} {K : aRes → aH → Prop} {T : Nat → Nat} {h : aH} {v0 : Nat} {v1 : Nat} {v2 : Nat} {v3 : Nat} {v4 : Nat} {v5 : Int32} {e : ((Nat × Nat × Nat × Nat × Nat × Int32 × aH) ⊕ (Int32 × aH))} (hT : t_L_law_l1105 (gZ G) T h v0 v1 v2 v3 v4 v5 = some e) (he : (Sum.elim (p_L_law_b28 G h0 K) (fun e => aTo (aEI e.1 e.2) K)) e) : aW G M_L_law 8192 104096 h0 K h 1105 [some (.ref v0), some (.ref v1), some (.ref v2), some (.ref v3), some (.ref v4), some (.int v5), none, none, none, none] [] := by
  unfold t_L_law_l1105 at hT
  refine a_goto 2408 dL_law_1105 rfl ?_
  exact k_L_law_l2408 hT he
noncomputable def t_L_law_l1052 (Z : aZ) (T : Nat → Nat) (h : aH) (v0 : Nat) (v1 : Nat) (v2 : Nat) (v3 : Nat) (v4 : Nat) (v5 : Int32) : Option ((Nat × Nat × Nat × Nat × Nat × Int32 × aH) ⊕ (Int32 × aH)) :=
  (oldLd .int Z v0 (v5 + 1)).bind fun z373 =>
  (t_X0_next Z h v1 z373 v3).bind fun r376 =>
  (oldLd .int Z v0 (v5 + 1)).bind fun z379 =>
  if isC 2 r376.2 v2 = true then
  (twc Z T r376.2 v2 (fun s9 => t_X3_next s9 z379)).bind fun r383 =>
  if isC 2 r383.2 v2 = true then
  (twc Z T r383.2 v2 (fun s9 => t_X3_thrown s9)).bind fun r388 =>
  if r388.1 = r376.1 then
    if r376.1 = 0 then
      (ldJ Z r388.2 v3 0).bind fun z393 =>
      if (lg_cmp z393 ((r383.1 : Int32).toInt64)) = 0 then
        t_L_law_l1105 Z T r388.2 v0 v1 v2 v3 v4 v5
      else
        some (.inr ((0, r388.2)))
    else
      t_L_law_l1105 Z T r388.2 v0 v1 v2 v3 v4 v5
  else
    some (.inr ((0, r388.2)))
  else none
  else none
theorem k_L_law_l1052 {G : aG} {h0 : aH} {K : aRes → aH → Prop} {T : Nat → Nat} {h : aH} {v0 : Nat} {v1 : Nat} {v2 : Nat} {v3 : Nat} {v4 : Nat} {v5 : Int32} {e : ((Nat × Nat × Nat × Nat × Nat × Int32 × aH) ⊕ (Int32 × aH))} (hT : t_L_law_l1052 (gZ G) T h v0 v1 v2 v3 v4 v5 = some e) (he : (Sum.elim (p_L_law_b28 G h0 K) (fun e => aTo (aEI e.1 e.2) K)) e) : aW G M_L_law 8192 104096 h0 K h 1052 [some (.ref v0), some (.ref v1), some (.ref v2), some (.ref v3), some (.ref v4), some (.int v5), none, none, none, none] [] := by
  unfold t_L_law_l1052 at hT
  refine a_aload_n dL_law_1052 rfl ?_
  refine a_aload_n dL_law_1053 rfl ?_
  refine a_iload dL_law_1054 rfl ?_
  refine a_iconst (v := 1) dL_law_1056 (by decide) ?_
  refine a_iadd dL_law_1057 ?_
  obtain ⟨z373, e372, hT⟩ := obnd hT
  refine a_oldI e372 dL_law_1058 ?_
  refine a_aload_n dL_law_1059 rfl ?_
  obtain ⟨r376, e377, hT⟩ := obnd hT
  refine a_callSW ks_X0_183 (k_X0_next e377) ⟨Nat.le_of_ble_eq_true rfl, Nat.le_of_ble_eq_true rfl⟩ (As := [.ref v1, .int z373, .ref v3]) (rest := []) rfl rfl (Nat.le_of_ble_eq_true rfl) dL_law_1060 (kI ?_) xI
  refine a_istore (lv' := [some (.ref v0), some (.ref v1), some (.ref v2), some (.ref v3), some (.ref v4), some (.int v5), some (.int r376.1), none, none, none]) dL_law_1063 rfl (by decide) rfl ?_
  refine a_aload_n dL_law_1065 rfl ?_
  refine a_aload_n dL_law_1066 rfl ?_
  refine a_iload dL_law_1067 rfl ?_
  refine a_iconst (v := 1) dL_law_1069 (by decide) ?_
  refine a_iadd dL_law_1070 ?_
  obtain ⟨z379, e378, hT⟩ := obnd hT
  refine a_oldI e378 dL_law_1071 ?_
  obtain ⟨g382, hT⟩ := oifg hT
  obtain ⟨r383, e384, hT⟩ := obnd hT
  refine a_callV kv_X0_185 g382 (twM (E := aEI) (fun s9 B9 r9 ht9 e9 => k_X3_next ht9 e9) e384) ⟨Nat.le_of_ble_eq_true rfl, Nat.le_of_ble_eq_true rfl⟩ (As := [.int z379]) (rest := []) rfl rfl (Nat.le_of_ble_eq_true rfl) dL_law_1072 (kI ?_) xI
  refine a_istore (lv' := [some (.ref v0), some (.ref v1), some (.ref v2), some (.ref v3), some (.ref v4), some (.int v5), some (.int r376.1), some (.int r383.1), none, none]) dL_law_1075 rfl (by decide) rfl ?_
  refine a_aload_n dL_law_1077 rfl ?_
  obtain ⟨g387, hT⟩ := oifg hT
  obtain ⟨r388, e389, hT⟩ := obnd hT
  refine a_callV kv_X0_141 g387 (twM (E := aEI) (fun s9 B9 r9 ht9 e9 => k_X3_thrown ht9 e9) e389) ⟨Nat.le_of_ble_eq_true rfl, Nat.le_of_ble_eq_true rfl⟩ (As := []) (rest := []) rfl rfl (Nat.le_of_ble_eq_true rfl) dL_law_1078 (kI ?_) xI
  refine a_iload dL_law_1081 rfl ?_
  refine a_icmp_eq 1088 dL_law_1083 rfl (fun c390 => ?_) (fun c390 => ?_)
  · have hT := oifp c390 hT
    refine a_iload dL_law_1088 rfl ?_
    refine a_if_ne 1105 dL_law_1090 rfl (fun c391 => ?_) (fun c391 => ?_)
    · have hT := oifn c391 hT
      refine a_mask [true, true, true, true, true, true, false, false, true, true] ?_
      exact k_L_law_l1105 hT he
    · have hT := oifp c391 hT
      refine a_aload_n dL_law_1093 rfl ?_
      refine a_iconst (v := 0) dL_law_1094 (by decide) ?_
      obtain ⟨z393, e392, hT⟩ := obnd hT
      refine a_ldJ e392 dL_law_1095 ?_
      refine a_iload dL_law_1096 rfl ?_
      refine a_i2l dL_law_1098 ?_
      refine a_lcmp dL_law_1099 ?_
      refine a_if_eq 1105 dL_law_1100 rfl (fun c394 => ?_) (fun c394 => ?_)
      · have hT := oifp c394 hT
        refine a_mask [true, true, true, true, true, true, false, false, true, true] ?_
        exact k_L_law_l1105 hT he
      · have hT := oifn c394 hT
        refine a_iconst (v := 0) dL_law_1103 (by decide) ?_
        obtain rfl := Option.some.inj hT
        exact a_iret rfl (by decide) dL_law_1104 (he _ _ ⟨rfl, rfl⟩)
  · have hT := oifn c390 hT
    refine a_iconst (v := 0) dL_law_1086 (by decide) ?_
    obtain rfl := Option.some.inj hT
    exact a_iret rfl (by decide) dL_law_1087 (he _ _ ⟨rfl, rfl⟩)
noncomputable def t_L_law_l1161 (Z : aZ) (T : Nat → Nat) (h : aH) (v0 : Nat) (v1 : Nat) (v2 : Nat) (v3 : Nat) (v4 : Nat) (v5 : Int32) : Option ((Nat × Nat × Nat × Nat × Nat × Int32 × aH) ⊕ (Int32 × aH)) :=
  t_L_law_l2408 Z T h v0 v1 v2 v3 v4 v5
theorem k_L_law_l1161 {G : aG} {h0 : aH} {K : aRes → aH → Prop} {T : Nat → Nat} {h : aH} {v0 : Nat} {v1 : Nat} {v2 : Nat} {v3 : Nat} {v4 : Nat} {v5 : Int32} {e : ((Nat × Nat × Nat × Nat × Nat × Int32 × aH) ⊕ (Int32 × aH))} (hT : t_L_law_l1161 (gZ G) T h v0 v1 v2 v3 v4 v5 = some e) (he : (Sum.elim (p_L_law_b28 G h0 K) (fun e => aTo (aEI e.1 e.2) K)) e) : aW G M_L_law 8192 104096 h0 K h 1161 [some (.ref v0), some (.ref v1), some (.ref v2), some (.ref v3), some (.ref v4), some (.int v5), none, none, none, none] [] := by
  unfold t_L_law_l1161 at hT
  refine a_goto 2408 dL_law_1161 rfl ?_
  exact k_L_law_l2408 hT he
noncomputable def t_L_law_l1108 (Z : aZ) (T : Nat → Nat) (h : aH) (v0 : Nat) (v1 : Nat) (v2 : Nat) (v3 : Nat) (v4 : Nat) (v5 : Int32) : Option ((Nat × Nat × Nat × Nat × Nat × Int32 × aH) ⊕ (Int32 × aH)) :=
  (oldLd .int Z v0 (v5 + 1)).bind fun z397 =>
  (t_X0_reached Z h v1 z397 v3).bind fun r400 =>
  (oldLd .int Z v0 (v5 + 1)).bind fun z403 =>
  if isC 2 r400.2 v2 = true then
  (twc Z T r400.2 v2 (fun s9 => t_X3_reached s9 z403)).bind fun r407 =>
  if isC 2 r407.2 v2 = true then
  (twc Z T r407.2 v2 (fun s9 => t_X3_thrown s9)).bind fun r412 =>
  if r412.1 = r400.1 then
    if r400.1 = 0 then
      (ldJ Z r412.2 v3 0).bind fun z417 =>
      if (lg_cmp z417 ((r407.1 : Int32).toInt64)) = 0 then
        t_L_law_l1161 Z T r412.2 v0 v1 v2 v3 v4 v5
      else
        some (.inr ((0, r412.2)))
    else
      t_L_law_l1161 Z T r412.2 v0 v1 v2 v3 v4 v5
  else
    some (.inr ((0, r412.2)))
  else none
  else none
theorem k_L_law_l1108 {G : aG} {h0 : aH} {K : aRes → aH → Prop} {T : Nat → Nat} {h : aH} {v0 : Nat} {v1 : Nat} {v2 : Nat} {v3 : Nat} {v4 : Nat} {v5 : Int32} {e : ((Nat × Nat × Nat × Nat × Nat × Int32 × aH) ⊕ (Int32 × aH))} (hT : t_L_law_l1108 (gZ G) T h v0 v1 v2 v3 v4 v5 = some e) (he : (Sum.elim (p_L_law_b28 G h0 K) (fun e => aTo (aEI e.1 e.2) K)) e) : aW G M_L_law 8192 104096 h0 K h 1108 [some (.ref v0), some (.ref v1), some (.ref v2), some (.ref v3), some (.ref v4), some (.int v5), none, none, none, none] [] := by
  unfold t_L_law_l1108 at hT
  refine a_aload_n dL_law_1108 rfl ?_
  refine a_aload_n dL_law_1109 rfl ?_
  refine a_iload dL_law_1110 rfl ?_
  refine a_iconst (v := 1) dL_law_1112 (by decide) ?_
  refine a_iadd dL_law_1113 ?_
  obtain ⟨z397, e396, hT⟩ := obnd hT
  refine a_oldI e396 dL_law_1114 ?_
  refine a_aload_n dL_law_1115 rfl ?_
  obtain ⟨r400, e401, hT⟩ := obnd hT
  refine a_callSW ks_X0_186 (k_X0_reached e401) ⟨Nat.le_of_ble_eq_true rfl, Nat.le_of_ble_eq_true rfl⟩ (As := [.ref v1, .int z397, .ref v3]) (rest := []) rfl rfl (Nat.le_of_ble_eq_true rfl) dL_law_1116 (kI ?_) xI
  refine a_istore (lv' := [some (.ref v0), some (.ref v1), some (.ref v2), some (.ref v3), some (.ref v4), some (.int v5), some (.int r400.1), none, none, none]) dL_law_1119 rfl (by decide) rfl ?_
  refine a_aload_n dL_law_1121 rfl ?_
  refine a_aload_n dL_law_1122 rfl ?_
  refine a_iload dL_law_1123 rfl ?_
  refine a_iconst (v := 1) dL_law_1125 (by decide) ?_
  refine a_iadd dL_law_1126 ?_
  obtain ⟨z403, e402, hT⟩ := obnd hT
  refine a_oldI e402 dL_law_1127 ?_
  obtain ⟨g406, hT⟩ := oifg hT
  obtain ⟨r407, e408, hT⟩ := obnd hT
  refine a_callV kv_X0_188 g406 (twM (E := aEI) (fun s9 B9 r9 ht9 e9 => k_X3_reached ht9 e9) e408) ⟨Nat.le_of_ble_eq_true rfl, Nat.le_of_ble_eq_true rfl⟩ (As := [.int z403]) (rest := []) rfl rfl (Nat.le_of_ble_eq_true rfl) dL_law_1128 (kI ?_) xI
  refine a_istore (lv' := [some (.ref v0), some (.ref v1), some (.ref v2), some (.ref v3), some (.ref v4), some (.int v5), some (.int r400.1), some (.int r407.1), none, none]) dL_law_1131 rfl (by decide) rfl ?_
  refine a_aload_n dL_law_1133 rfl ?_
  obtain ⟨g411, hT⟩ := oifg hT
  obtain ⟨r412, e413, hT⟩ := obnd hT
  refine a_callV kv_X0_141 g411 (twM (E := aEI) (fun s9 B9 r9 ht9 e9 => k_X3_thrown ht9 e9) e413) ⟨Nat.le_of_ble_eq_true rfl, Nat.le_of_ble_eq_true rfl⟩ (As := []) (rest := []) rfl rfl (Nat.le_of_ble_eq_true rfl) dL_law_1134 (kI ?_) xI
  refine a_iload dL_law_1137 rfl ?_
  refine a_icmp_eq 1144 dL_law_1139 rfl (fun c414 => ?_) (fun c414 => ?_)
  · have hT := oifp c414 hT
    refine a_iload dL_law_1144 rfl ?_
    refine a_if_ne 1161 dL_law_1146 rfl (fun c415 => ?_) (fun c415 => ?_)
    · have hT := oifn c415 hT
      refine a_mask [true, true, true, true, true, true, false, false, true, true] ?_
      exact k_L_law_l1161 hT he
    · have hT := oifp c415 hT
      refine a_aload_n dL_law_1149 rfl ?_
      refine a_iconst (v := 0) dL_law_1150 (by decide) ?_
      obtain ⟨z417, e416, hT⟩ := obnd hT
      refine a_ldJ e416 dL_law_1151 ?_
      refine a_iload dL_law_1152 rfl ?_
      refine a_i2l dL_law_1154 ?_
      refine a_lcmp dL_law_1155 ?_
      refine a_if_eq 1161 dL_law_1156 rfl (fun c418 => ?_) (fun c418 => ?_)
      · have hT := oifp c418 hT
        refine a_mask [true, true, true, true, true, true, false, false, true, true] ?_
        exact k_L_law_l1161 hT he
      · have hT := oifn c418 hT
        refine a_iconst (v := 0) dL_law_1159 (by decide) ?_
        obtain rfl := Option.some.inj hT
        exact a_iret rfl (by decide) dL_law_1160 (he _ _ ⟨rfl, rfl⟩)
  · have hT := oifn c414 hT
    refine a_iconst (v := 0) dL_law_1142 (by decide) ?_
    obtain rfl := Option.some.inj hT
    exact a_iret rfl (by decide) dL_law_1143 (he _ _ ⟨rfl, rfl⟩)
noncomputable def t_L_law_l1217 (Z : aZ) (T : Nat → Nat) (h : aH) (v0 : Nat) (v1 : Nat) (v2 : Nat) (v3 : Nat) (v4 : Nat) (v5 : Int32) : Option ((Nat × Nat × Nat × Nat × Nat × Int32 × aH) ⊕ (Int32 × aH)) :=
  t_L_law_l2408 Z T h v0 v1 v2 v3 v4 v5
theorem k_L_law_l1217 {G : aG} {h0 : aH} {K : aRes → aH → Prop} {T : Nat → Nat} {h : aH} {v0 : Nat} {v1 : Nat} {v2 : Nat} {v3 : Nat} {v4 : Nat} {v5 : Int32} {e : ((Nat × Nat × Nat × Nat × Nat × Int32 × aH) ⊕ (Int32 × aH))} (hT : t_L_law_l1217 (gZ G) T h v0 v1 v2 v3 v4 v5 = some e) (he : (Sum.elim (p_L_law_b28 G h0 K) (fun e => aTo (aEI e.1 e.2) K)) e) : aW G M_L_law 8192 104096 h0 K h 1217 [some (.ref v0), some (.ref v1), some (.ref v2), some (.ref v3), some (.ref v4), some (.int v5), none, none, none, none] [] := by
  unfold t_L_law_l1217 at hT
  refine a_goto 2408 dL_law_1217 rfl ?_
  exact k_L_law_l2408 hT he
noncomputable def t_L_law_l1164 (Z : aZ) (T : Nat → Nat) (h : aH) (v0 : Nat) (v1 : Nat) (v2 : Nat) (v3 : Nat) (v4 : Nat) (v5 : Int32) : Option ((Nat × Nat × Nat × Nat × Nat × Int32 × aH) ⊕ (Int32 × aH)) :=
  (oldLd .int Z v0 (v5 + 1)).bind fun z421 =>
  (t_X0_trims Z h v1 z421 v3).bind fun r424 =>
  (oldLd .int Z v0 (v5 + 1)).bind fun z427 =>
  if isC 2 r424.2 v2 = true then
  (twc Z T r424.2 v2 (fun s9 => t_X3_trims s9 z427)).bind fun r431 =>
  if isC 2 r431.2 v2 = true then
  (twc Z T r431.2 v2 (fun s9 => t_X3_thrown s9)).bind fun r436 =>
  if r436.1 = r424.1 then
    if r424.1 = 0 then
      (ldJ Z r436.2 v3 0).bind fun z441 =>
      if (lg_cmp z441 ((r431.1 : Int32).toInt64)) = 0 then
        t_L_law_l1217 Z T r436.2 v0 v1 v2 v3 v4 v5
      else
        some (.inr ((0, r436.2)))
    else
      t_L_law_l1217 Z T r436.2 v0 v1 v2 v3 v4 v5
  else
    some (.inr ((0, r436.2)))
  else none
  else none
theorem k_L_law_l1164 {G : aG} {h0 : aH} {K : aRes → aH → Prop} {T : Nat → Nat} {h : aH} {v0 : Nat} {v1 : Nat} {v2 : Nat} {v3 : Nat} {v4 : Nat} {v5 : Int32} {e : ((Nat × Nat × Nat × Nat × Nat × Int32 × aH) ⊕ (Int32 × aH))} (hT : t_L_law_l1164 (gZ G) T h v0 v1 v2 v3 v4 v5 = some e) (he : (Sum.elim (p_L_law_b28 G h0 K) (fun e => aTo (aEI e.1 e.2) K)) e) : aW G M_L_law 8192 104096 h0 K h 1164 [some (.ref v0), some (.ref v1), some (.ref v2), some (.ref v3), some (.ref v4), some (.int v5), none, none, none, none] [] := by
  unfold t_L_law_l1164 at hT
  refine a_aload_n dL_law_1164 rfl ?_
  refine a_aload_n dL_law_1165 rfl ?_
  refine a_iload dL_law_1166 rfl ?_
  refine a_iconst (v := 1) dL_law_1168 (by decide) ?_
  refine a_iadd dL_law_1169 ?_
  obtain ⟨z421, e420, hT⟩ := obnd hT
  refine a_oldI e420 dL_law_1170 ?_
  refine a_aload_n dL_law_1171 rfl ?_
  obtain ⟨r424, e425, hT⟩ := obnd hT
  refine a_callSW ks_X0_189 (k_X0_trims e425) ⟨Nat.le_of_ble_eq_true rfl, Nat.le_of_ble_eq_true rfl⟩ (As := [.ref v1, .int z421, .ref v3]) (rest := []) rfl rfl (Nat.le_of_ble_eq_true rfl) dL_law_1172 (kI ?_) xI
  refine a_istore (lv' := [some (.ref v0), some (.ref v1), some (.ref v2), some (.ref v3), some (.ref v4), some (.int v5), some (.int r424.1), none, none, none]) dL_law_1175 rfl (by decide) rfl ?_
  refine a_aload_n dL_law_1177 rfl ?_
  refine a_aload_n dL_law_1178 rfl ?_
  refine a_iload dL_law_1179 rfl ?_
  refine a_iconst (v := 1) dL_law_1181 (by decide) ?_
  refine a_iadd dL_law_1182 ?_
  obtain ⟨z427, e426, hT⟩ := obnd hT
  refine a_oldI e426 dL_law_1183 ?_
  obtain ⟨g430, hT⟩ := oifg hT
  obtain ⟨r431, e432, hT⟩ := obnd hT
  refine a_callV kv_X0_191 g430 (twM (E := aEI) (fun s9 B9 r9 ht9 e9 => k_X3_trims ht9 e9) e432) ⟨Nat.le_of_ble_eq_true rfl, Nat.le_of_ble_eq_true rfl⟩ (As := [.int z427]) (rest := []) rfl rfl (Nat.le_of_ble_eq_true rfl) dL_law_1184 (kI ?_) xI
  refine a_istore (lv' := [some (.ref v0), some (.ref v1), some (.ref v2), some (.ref v3), some (.ref v4), some (.int v5), some (.int r424.1), some (.int r431.1), none, none]) dL_law_1187 rfl (by decide) rfl ?_
  refine a_aload_n dL_law_1189 rfl ?_
  obtain ⟨g435, hT⟩ := oifg hT
  obtain ⟨r436, e437, hT⟩ := obnd hT
  refine a_callV kv_X0_141 g435 (twM (E := aEI) (fun s9 B9 r9 ht9 e9 => k_X3_thrown ht9 e9) e437) ⟨Nat.le_of_ble_eq_true rfl, Nat.le_of_ble_eq_true rfl⟩ (As := []) (rest := []) rfl rfl (Nat.le_of_ble_eq_true rfl) dL_law_1190 (kI ?_) xI
  refine a_iload dL_law_1193 rfl ?_
  refine a_icmp_eq 1200 dL_law_1195 rfl (fun c438 => ?_) (fun c438 => ?_)
  · have hT := oifp c438 hT
    refine a_iload dL_law_1200 rfl ?_
    refine a_if_ne 1217 dL_law_1202 rfl (fun c439 => ?_) (fun c439 => ?_)
    · have hT := oifn c439 hT
      refine a_mask [true, true, true, true, true, true, false, false, true, true] ?_
      exact k_L_law_l1217 hT he
    · have hT := oifp c439 hT
      refine a_aload_n dL_law_1205 rfl ?_
      refine a_iconst (v := 0) dL_law_1206 (by decide) ?_
      obtain ⟨z441, e440, hT⟩ := obnd hT
      refine a_ldJ e440 dL_law_1207 ?_
      refine a_iload dL_law_1208 rfl ?_
      refine a_i2l dL_law_1210 ?_
      refine a_lcmp dL_law_1211 ?_
      refine a_if_eq 1217 dL_law_1212 rfl (fun c442 => ?_) (fun c442 => ?_)
      · have hT := oifp c442 hT
        refine a_mask [true, true, true, true, true, true, false, false, true, true] ?_
        exact k_L_law_l1217 hT he
      · have hT := oifn c442 hT
        refine a_iconst (v := 0) dL_law_1215 (by decide) ?_
        obtain rfl := Option.some.inj hT
        exact a_iret rfl (by decide) dL_law_1216 (he _ _ ⟨rfl, rfl⟩)
  · have hT := oifn c438 hT
    refine a_iconst (v := 0) dL_law_1198 (by decide) ?_
    obtain rfl := Option.some.inj hT
    exact a_iret rfl (by decide) dL_law_1199 (he _ _ ⟨rfl, rfl⟩)
noncomputable def t_L_law_l1273 (Z : aZ) (T : Nat → Nat) (h : aH) (v0 : Nat) (v1 : Nat) (v2 : Nat) (v3 : Nat) (v4 : Nat) (v5 : Int32) : Option ((Nat × Nat × Nat × Nat × Nat × Int32 × aH) ⊕ (Int32 × aH)) :=
  t_L_law_l2408 Z T h v0 v1 v2 v3 v4 v5
theorem k_L_law_l1273 {G : aG} {h0 : aH} {K : aRes → aH → Prop} {T : Nat → Nat} {h : aH} {v0 : Nat} {v1 : Nat} {v2 : Nat} {v3 : Nat} {v4 : Nat} {v5 : Int32} {e : ((Nat × Nat × Nat × Nat × Nat × Int32 × aH) ⊕ (Int32 × aH))} (hT : t_L_law_l1273 (gZ G) T h v0 v1 v2 v3 v4 v5 = some e) (he : (Sum.elim (p_L_law_b28 G h0 K) (fun e => aTo (aEI e.1 e.2) K)) e) : aW G M_L_law 8192 104096 h0 K h 1273 [some (.ref v0), some (.ref v1), some (.ref v2), some (.ref v3), some (.ref v4), some (.int v5), none, none, none, none] [] := by
  unfold t_L_law_l1273 at hT
  refine a_goto 2408 dL_law_1273 rfl ?_
  exact k_L_law_l2408 hT he
noncomputable def t_L_law_l1220 (Z : aZ) (T : Nat → Nat) (h : aH) (v0 : Nat) (v1 : Nat) (v2 : Nat) (v3 : Nat) (v4 : Nat) (v5 : Int32) : Option ((Nat × Nat × Nat × Nat × Nat × Int32 × aH) ⊕ (Int32 × aH)) :=
  (oldLd .int Z v0 (v5 + 1)).bind fun z445 =>
  (t_X0_trimsAgain Z h v1 z445 v3).bind fun r448 =>
  (oldLd .int Z v0 (v5 + 1)).bind fun z451 =>
  if isC 2 r448.2 v2 = true then
  (twc Z T r448.2 v2 (fun s9 => t_X3_trimsAgain s9 z451)).bind fun r455 =>
  if isC 2 r455.2 v2 = true then
  (twc Z T r455.2 v2 (fun s9 => t_X3_thrown s9)).bind fun r460 =>
  if r460.1 = r448.1 then
    if r448.1 = 0 then
      (ldJ Z r460.2 v3 0).bind fun z465 =>
      if (lg_cmp z465 ((r455.1 : Int32).toInt64)) = 0 then
        t_L_law_l1273 Z T r460.2 v0 v1 v2 v3 v4 v5
      else
        some (.inr ((0, r460.2)))
    else
      t_L_law_l1273 Z T r460.2 v0 v1 v2 v3 v4 v5
  else
    some (.inr ((0, r460.2)))
  else none
  else none
theorem k_L_law_l1220 {G : aG} {h0 : aH} {K : aRes → aH → Prop} {T : Nat → Nat} {h : aH} {v0 : Nat} {v1 : Nat} {v2 : Nat} {v3 : Nat} {v4 : Nat} {v5 : Int32} {e : ((Nat × Nat × Nat × Nat × Nat × Int32 × aH) ⊕ (Int32 × aH))} (hT : t_L_law_l1220 (gZ G) T h v0 v1 v2 v3 v4 v5 = some e) (he : (Sum.elim (p_L_law_b28 G h0 K) (fun e => aTo (aEI e.1 e.2) K)) e) : aW G M_L_law 8192 104096 h0 K h 1220 [some (.ref v0), some (.ref v1), some (.ref v2), some (.ref v3), some (.ref v4), some (.int v5), none, none, none, none] [] := by
  unfold t_L_law_l1220 at hT
  refine a_aload_n dL_law_1220 rfl ?_
  refine a_aload_n dL_law_1221 rfl ?_
  refine a_iload dL_law_1222 rfl ?_
  refine a_iconst (v := 1) dL_law_1224 (by decide) ?_
  refine a_iadd dL_law_1225 ?_
  obtain ⟨z445, e444, hT⟩ := obnd hT
  refine a_oldI e444 dL_law_1226 ?_
  refine a_aload_n dL_law_1227 rfl ?_
  obtain ⟨r448, e449, hT⟩ := obnd hT
  refine a_callSW ks_X0_192 (k_X0_trimsAgain e449) ⟨Nat.le_of_ble_eq_true rfl, Nat.le_of_ble_eq_true rfl⟩ (As := [.ref v1, .int z445, .ref v3]) (rest := []) rfl rfl (Nat.le_of_ble_eq_true rfl) dL_law_1228 (kI ?_) xI
  refine a_istore (lv' := [some (.ref v0), some (.ref v1), some (.ref v2), some (.ref v3), some (.ref v4), some (.int v5), some (.int r448.1), none, none, none]) dL_law_1231 rfl (by decide) rfl ?_
  refine a_aload_n dL_law_1233 rfl ?_
  refine a_aload_n dL_law_1234 rfl ?_
  refine a_iload dL_law_1235 rfl ?_
  refine a_iconst (v := 1) dL_law_1237 (by decide) ?_
  refine a_iadd dL_law_1238 ?_
  obtain ⟨z451, e450, hT⟩ := obnd hT
  refine a_oldI e450 dL_law_1239 ?_
  obtain ⟨g454, hT⟩ := oifg hT
  obtain ⟨r455, e456, hT⟩ := obnd hT
  refine a_callV kv_X0_194 g454 (twM (E := aEI) (fun s9 B9 r9 ht9 e9 => k_X3_trimsAgain ht9 e9) e456) ⟨Nat.le_of_ble_eq_true rfl, Nat.le_of_ble_eq_true rfl⟩ (As := [.int z451]) (rest := []) rfl rfl (Nat.le_of_ble_eq_true rfl) dL_law_1240 (kI ?_) xI
  refine a_istore (lv' := [some (.ref v0), some (.ref v1), some (.ref v2), some (.ref v3), some (.ref v4), some (.int v5), some (.int r448.1), some (.int r455.1), none, none]) dL_law_1243 rfl (by decide) rfl ?_
  refine a_aload_n dL_law_1245 rfl ?_
  obtain ⟨g459, hT⟩ := oifg hT
  obtain ⟨r460, e461, hT⟩ := obnd hT
  refine a_callV kv_X0_141 g459 (twM (E := aEI) (fun s9 B9 r9 ht9 e9 => k_X3_thrown ht9 e9) e461) ⟨Nat.le_of_ble_eq_true rfl, Nat.le_of_ble_eq_true rfl⟩ (As := []) (rest := []) rfl rfl (Nat.le_of_ble_eq_true rfl) dL_law_1246 (kI ?_) xI
  refine a_iload dL_law_1249 rfl ?_
  refine a_icmp_eq 1256 dL_law_1251 rfl (fun c462 => ?_) (fun c462 => ?_)
  · have hT := oifp c462 hT
    refine a_iload dL_law_1256 rfl ?_
    refine a_if_ne 1273 dL_law_1258 rfl (fun c463 => ?_) (fun c463 => ?_)
    · have hT := oifn c463 hT
      refine a_mask [true, true, true, true, true, true, false, false, true, true] ?_
      exact k_L_law_l1273 hT he
    · have hT := oifp c463 hT
      refine a_aload_n dL_law_1261 rfl ?_
      refine a_iconst (v := 0) dL_law_1262 (by decide) ?_
      obtain ⟨z465, e464, hT⟩ := obnd hT
      refine a_ldJ e464 dL_law_1263 ?_
      refine a_iload dL_law_1264 rfl ?_
      refine a_i2l dL_law_1266 ?_
      refine a_lcmp dL_law_1267 ?_
      refine a_if_eq 1273 dL_law_1268 rfl (fun c466 => ?_) (fun c466 => ?_)
      · have hT := oifp c466 hT
        refine a_mask [true, true, true, true, true, true, false, false, true, true] ?_
        exact k_L_law_l1273 hT he
      · have hT := oifn c466 hT
        refine a_iconst (v := 0) dL_law_1271 (by decide) ?_
        obtain rfl := Option.some.inj hT
        exact a_iret rfl (by decide) dL_law_1272 (he _ _ ⟨rfl, rfl⟩)
  · have hT := oifn c462 hT
    refine a_iconst (v := 0) dL_law_1254 (by decide) ?_
    obtain rfl := Option.some.inj hT
    exact a_iret rfl (by decide) dL_law_1255 (he _ _ ⟨rfl, rfl⟩)
noncomputable def t_L_law_l1348 (Z : aZ) (T : Nat → Nat) (h : aH) (v0 : Nat) (v1 : Nat) (v2 : Nat) (v3 : Nat) (v4 : Nat) (v5 : Int32) : Option ((Nat × Nat × Nat × Nat × Nat × Int32 × aH) ⊕ (Int32 × aH)) :=
  t_L_law_l2408 Z T h v0 v1 v2 v3 v4 v5
theorem k_L_law_l1348 {G : aG} {h0 : aH} {K : aRes → aH → Prop} {T : Nat → Nat} {h : aH} {v0 : Nat} {v1 : Nat} {v2 : Nat} {v3 : Nat} {v4 : Nat} {v5 : Int32} {e : ((Nat × Nat × Nat × Nat × Nat × Int32 × aH) ⊕ (Int32 × aH))} (hT : t_L_law_l1348 (gZ G) T h v0 v1 v2 v3 v4 v5 = some e) (he : (Sum.elim (p_L_law_b28 G h0 K) (fun e => aTo (aEI e.1 e.2) K)) e) : aW G M_L_law 8192 104096 h0 K h 1348 [some (.ref v0), some (.ref v1), some (.ref v2), some (.ref v3), some (.ref v4), some (.int v5), none, none, none, none] [] := by
  unfold t_L_law_l1348 at hT
  refine a_goto 2408 dL_law_1348 rfl ?_
  exact k_L_law_l2408 hT he
noncomputable def t_L_law_l1342 (Z : aZ) (T : Nat → Nat) (h : aH) (v0 : Nat) (v1 : Nat) (v2 : Nat) (v3 : Nat) (v4 : Nat) (v5 : Int32) (u0 : Int64) (u1 : Int64) : Option ((Nat × Nat × Nat × Nat × Nat × Int32 × aH) ⊕ (Int32 × aH)) :=
  if (lg_cmp u1 u0) = 0 then
    t_L_law_l1348 Z T h v0 v1 v2 v3 v4 v5
  else
    some (.inr ((0, h)))
theorem k_L_law_l1342 {G : aG} {h0 : aH} {K : aRes → aH → Prop} {T : Nat → Nat} {h : aH} {v0 : Nat} {v1 : Nat} {v2 : Nat} {v3 : Nat} {v4 : Nat} {v5 : Int32} {u0 : Int64} {u1 : Int64} {e : ((Nat × Nat × Nat × Nat × Nat × Int32 × aH) ⊕ (Int32 × aH))} (hT : t_L_law_l1342 (gZ G) T h v0 v1 v2 v3 v4 v5 u0 u1 = some e) (he : (Sum.elim (p_L_law_b28 G h0 K) (fun e => aTo (aEI e.1 e.2) K)) e) : aW G M_L_law 8192 104096 h0 K h 1342 [some (.ref v0), some (.ref v1), some (.ref v2), some (.ref v3), some (.ref v4), some (.int v5), none, none, none, none] [.long u0, .long u1] := by
  unfold t_L_law_l1342 at hT
  refine a_lcmp dL_law_1342 ?_
  refine a_if_eq 1348 dL_law_1343 rfl (fun c495 => ?_) (fun c495 => ?_)
  · have hT := oifp c495 hT
    exact k_L_law_l1348 hT he
  · have hT := oifn c495 hT
    refine a_iconst (v := 0) dL_law_1346 (by decide) ?_
    obtain rfl := Option.some.inj hT
    exact a_iret rfl (by decide) dL_law_1347 (he _ _ ⟨rfl, rfl⟩)
noncomputable def t_L_law_l1276 (Z : aZ) (T : Nat → Nat) (h : aH) (v0 : Nat) (v1 : Nat) (v2 : Nat) (v3 : Nat) (v4 : Nat) (v5 : Int32) : Option ((Nat × Nat × Nat × Nat × Nat × Int32 × aH) ⊕ (Int32 × aH)) :=
  (oldLd .int Z v0 (v5 + 1)).bind fun z469 =>
  (oldLd .int Z v0 (v5 + 2)).bind fun z471 =>
  (t_X0_isNeeded Z h v1 z469 z471 v3).bind fun r474 =>
  (oldLd .int Z v0 (v5 + 1)).bind fun z477 =>
  (oldLd .int Z v0 (v5 + 2)).bind fun z479 =>
  if isC 2 r474.2 v2 = true then
  (twc Z T r474.2 v2 (fun s9 => t_X3_isNeeded s9 z477 z479)).bind fun r483 =>
  if isC 2 r483.2 v2 = true then
  (twc Z T r483.2 v2 (fun s9 => t_X3_thrown s9)).bind fun r488 =>
  if r488.1 = r474.1 then
    if r474.1 = 0 then
      (ldJ Z r488.2 v3 0).bind fun z493 =>
      if r483.1 = 0 then
        t_L_law_l1342 Z T r488.2 v0 v1 v2 v3 v4 v5 0 z493
      else
        t_L_law_l1342 Z T r488.2 v0 v1 v2 v3 v4 v5 1 z493
    else
      t_L_law_l1348 Z T r488.2 v0 v1 v2 v3 v4 v5
  else
    some (.inr ((0, r488.2)))
  else none
  else none
theorem k_L_law_l1276 {G : aG} {h0 : aH} {K : aRes → aH → Prop} {T : Nat → Nat} {h : aH} {v0 : Nat} {v1 : Nat} {v2 : Nat} {v3 : Nat} {v4 : Nat} {v5 : Int32} {e : ((Nat × Nat × Nat × Nat × Nat × Int32 × aH) ⊕ (Int32 × aH))} (hT : t_L_law_l1276 (gZ G) T h v0 v1 v2 v3 v4 v5 = some e) (he : (Sum.elim (p_L_law_b28 G h0 K) (fun e => aTo (aEI e.1 e.2) K)) e) : aW G M_L_law 8192 104096 h0 K h 1276 [some (.ref v0), some (.ref v1), some (.ref v2), some (.ref v3), some (.ref v4), some (.int v5), none, none, none, none] [] := by
  unfold t_L_law_l1276 at hT
  refine a_aload_n dL_law_1276 rfl ?_
  refine a_aload_n dL_law_1277 rfl ?_
  refine a_iload dL_law_1278 rfl ?_
  refine a_iconst (v := 1) dL_law_1280 (by decide) ?_
  refine a_iadd dL_law_1281 ?_
  obtain ⟨z469, e468, hT⟩ := obnd hT
  refine a_oldI e468 dL_law_1282 ?_
  refine a_aload_n dL_law_1283 rfl ?_
  refine a_iload dL_law_1284 rfl ?_
  refine a_iconst (v := 2) dL_law_1286 (by decide) ?_
  refine a_iadd dL_law_1287 ?_
  obtain ⟨z471, e470, hT⟩ := obnd hT
  refine a_oldI e470 dL_law_1288 ?_
  refine a_aload_n dL_law_1289 rfl ?_
  obtain ⟨r474, e475, hT⟩ := obnd hT
  refine a_callSW ks_X0_195 (k_X0_isNeeded e475) ⟨Nat.le_of_ble_eq_true rfl, Nat.le_of_ble_eq_true rfl⟩ (As := [.ref v1, .int z469, .int z471, .ref v3]) (rest := []) rfl rfl (Nat.le_of_ble_eq_true rfl) dL_law_1290 (kI ?_) xI
  refine a_istore (lv' := [some (.ref v0), some (.ref v1), some (.ref v2), some (.ref v3), some (.ref v4), some (.int v5), some (.int r474.1), none, none, none]) dL_law_1293 rfl (by decide) rfl ?_
  refine a_aload_n dL_law_1295 rfl ?_
  refine a_aload_n dL_law_1296 rfl ?_
  refine a_iload dL_law_1297 rfl ?_
  refine a_iconst (v := 1) dL_law_1299 (by decide) ?_
  refine a_iadd dL_law_1300 ?_
  obtain ⟨z477, e476, hT⟩ := obnd hT
  refine a_oldI e476 dL_law_1301 ?_
  refine a_aload_n dL_law_1302 rfl ?_
  refine a_iload dL_law_1303 rfl ?_
  refine a_iconst (v := 2) dL_law_1305 (by decide) ?_
  refine a_iadd dL_law_1306 ?_
  obtain ⟨z479, e478, hT⟩ := obnd hT
  refine a_oldI e478 dL_law_1307 ?_
  obtain ⟨g482, hT⟩ := oifg hT
  obtain ⟨r483, e484, hT⟩ := obnd hT
  refine a_callV kv_X0_197 g482 (twM (E := aEI) (fun s9 B9 r9 ht9 e9 => k_X3_isNeeded ht9 e9) e484) ⟨Nat.le_of_ble_eq_true rfl, Nat.le_of_ble_eq_true rfl⟩ (As := [.int z477, .int z479]) (rest := []) rfl rfl (Nat.le_of_ble_eq_true rfl) dL_law_1308 (kI ?_) xI
  refine a_istore (lv' := [some (.ref v0), some (.ref v1), some (.ref v2), some (.ref v3), some (.ref v4), some (.int v5), some (.int r474.1), some (.int r483.1), none, none]) dL_law_1311 rfl (by decide) rfl ?_
  refine a_aload_n dL_law_1313 rfl ?_
  obtain ⟨g487, hT⟩ := oifg hT
  obtain ⟨r488, e489, hT⟩ := obnd hT
  refine a_callV kv_X0_141 g487 (twM (E := aEI) (fun s9 B9 r9 ht9 e9 => k_X3_thrown ht9 e9) e489) ⟨Nat.le_of_ble_eq_true rfl, Nat.le_of_ble_eq_true rfl⟩ (As := []) (rest := []) rfl rfl (Nat.le_of_ble_eq_true rfl) dL_law_1314 (kI ?_) xI
  refine a_iload dL_law_1317 rfl ?_
  refine a_icmp_eq 1324 dL_law_1319 rfl (fun c490 => ?_) (fun c490 => ?_)
  · have hT := oifp c490 hT
    refine a_iload dL_law_1324 rfl ?_
    refine a_if_ne 1348 dL_law_1326 rfl (fun c491 => ?_) (fun c491 => ?_)
    · have hT := oifn c491 hT
      refine a_mask [true, true, true, true, true, true, false, false, true, true] ?_
      exact k_L_law_l1348 hT he
    · have hT := oifp c491 hT
      refine a_aload_n dL_law_1329 rfl ?_
      refine a_iconst (v := 0) dL_law_1330 (by decide) ?_
      obtain ⟨z493, e492, hT⟩ := obnd hT
      refine a_ldJ e492 dL_law_1331 ?_
      refine a_iload dL_law_1332 rfl ?_
      refine a_if_eq 1341 dL_law_1334 rfl (fun c494 => ?_) (fun c494 => ?_)
      · have hT := oifp c494 hT
        refine a_lconst (v := 0) dL_law_1341 (by decide) ?_
        refine a_mask [true, true, true, true, true, true, false, false, true, true] ?_
        exact k_L_law_l1342 hT he
      · have hT := oifn c494 hT
        refine a_lconst (v := 1) dL_law_1337 (by decide) ?_
        refine a_goto 1342 dL_law_1338 rfl ?_
        refine a_mask [true, true, true, true, true, true, false, false, true, true] ?_
        exact k_L_law_l1342 hT he
  · have hT := oifn c490 hT
    refine a_iconst (v := 0) dL_law_1322 (by decide) ?_
    obtain rfl := Option.some.inj hT
    exact a_iret rfl (by decide) dL_law_1323 (he _ _ ⟨rfl, rfl⟩)
noncomputable def t_L_law_l1416 (Z : aZ) (T : Nat → Nat) (h : aH) (v0 : Nat) (v1 : Nat) (v2 : Nat) (v3 : Nat) (v4 : Nat) (v5 : Int32) : Option ((Nat × Nat × Nat × Nat × Nat × Int32 × aH) ⊕ (Int32 × aH)) :=
  t_L_law_l2408 Z T h v0 v1 v2 v3 v4 v5
theorem k_L_law_l1416 {G : aG} {h0 : aH} {K : aRes → aH → Prop} {T : Nat → Nat} {h : aH} {v0 : Nat} {v1 : Nat} {v2 : Nat} {v3 : Nat} {v4 : Nat} {v5 : Int32} {e : ((Nat × Nat × Nat × Nat × Nat × Int32 × aH) ⊕ (Int32 × aH))} (hT : t_L_law_l1416 (gZ G) T h v0 v1 v2 v3 v4 v5 = some e) (he : (Sum.elim (p_L_law_b28 G h0 K) (fun e => aTo (aEI e.1 e.2) K)) e) : aW G M_L_law 8192 104096 h0 K h 1416 [some (.ref v0), some (.ref v1), some (.ref v2), some (.ref v3), some (.ref v4), some (.int v5), none, none, none, none] [] := by
  unfold t_L_law_l1416 at hT
  refine a_goto 2408 dL_law_1416 rfl ?_
  exact k_L_law_l2408 hT he
noncomputable def t_L_law_l1351 (Z : aZ) (T : Nat → Nat) (h : aH) (v0 : Nat) (v1 : Nat) (v2 : Nat) (v3 : Nat) (v4 : Nat) (v5 : Int32) : Option ((Nat × Nat × Nat × Nat × Nat × Int32 × aH) ⊕ (Int32 × aH)) :=
  (oldLd .int Z v0 (v5 + 1)).bind fun z498 =>
  (oldLd .int Z v0 (v5 + 2)).bind fun z500 =>
  (t_X0_closesIn Z h v1 z498 z500 v3).bind fun r503 =>
  (oldLd .int Z v0 (v5 + 1)).bind fun z506 =>
  (oldLd .int Z v0 (v5 + 2)).bind fun z508 =>
  if isC 2 r503.2 v2 = true then
  (twc Z T r503.2 v2 (fun s9 => t_X3_closesIn s9 z506 z508)).bind fun r512 =>
  if isC 2 r512.2 v2 = true then
  (twc Z T r512.2 v2 (fun s9 => t_X3_thrown s9)).bind fun r517 =>
  if r517.1 = r503.1 then
    if r503.1 = 0 then
      (ldJ Z r517.2 v3 0).bind fun z522 =>
      if (lg_cmp z522 ((r512.1 : Int32).toInt64)) = 0 then
        t_L_law_l1416 Z T r517.2 v0 v1 v2 v3 v4 v5
      else
        some (.inr ((0, r517.2)))
    else
      t_L_law_l1416 Z T r517.2 v0 v1 v2 v3 v4 v5
  else
    some (.inr ((0, r517.2)))
  else none
  else none
theorem k_L_law_l1351 {G : aG} {h0 : aH} {K : aRes → aH → Prop} {T : Nat → Nat} {h : aH} {v0 : Nat} {v1 : Nat} {v2 : Nat} {v3 : Nat} {v4 : Nat} {v5 : Int32} {e : ((Nat × Nat × Nat × Nat × Nat × Int32 × aH) ⊕ (Int32 × aH))} (hT : t_L_law_l1351 (gZ G) T h v0 v1 v2 v3 v4 v5 = some e) (he : (Sum.elim (p_L_law_b28 G h0 K) (fun e => aTo (aEI e.1 e.2) K)) e) : aW G M_L_law 8192 104096 h0 K h 1351 [some (.ref v0), some (.ref v1), some (.ref v2), some (.ref v3), some (.ref v4), some (.int v5), none, none, none, none] [] := by
  unfold t_L_law_l1351 at hT
  refine a_aload_n dL_law_1351 rfl ?_
  refine a_aload_n dL_law_1352 rfl ?_
  refine a_iload dL_law_1353 rfl ?_
  refine a_iconst (v := 1) dL_law_1355 (by decide) ?_
  refine a_iadd dL_law_1356 ?_
  obtain ⟨z498, e497, hT⟩ := obnd hT
  refine a_oldI e497 dL_law_1357 ?_
  refine a_aload_n dL_law_1358 rfl ?_
  refine a_iload dL_law_1359 rfl ?_
  refine a_iconst (v := 2) dL_law_1361 (by decide) ?_
  refine a_iadd dL_law_1362 ?_
  obtain ⟨z500, e499, hT⟩ := obnd hT
  refine a_oldI e499 dL_law_1363 ?_
  refine a_aload_n dL_law_1364 rfl ?_
  obtain ⟨r503, e504, hT⟩ := obnd hT
  refine a_callSW ks_X0_198 (k_X0_closesIn e504) ⟨Nat.le_of_ble_eq_true rfl, Nat.le_of_ble_eq_true rfl⟩ (As := [.ref v1, .int z498, .int z500, .ref v3]) (rest := []) rfl rfl (Nat.le_of_ble_eq_true rfl) dL_law_1365 (kI ?_) xI
  refine a_istore (lv' := [some (.ref v0), some (.ref v1), some (.ref v2), some (.ref v3), some (.ref v4), some (.int v5), some (.int r503.1), none, none, none]) dL_law_1368 rfl (by decide) rfl ?_
  refine a_aload_n dL_law_1370 rfl ?_
  refine a_aload_n dL_law_1371 rfl ?_
  refine a_iload dL_law_1372 rfl ?_
  refine a_iconst (v := 1) dL_law_1374 (by decide) ?_
  refine a_iadd dL_law_1375 ?_
  obtain ⟨z506, e505, hT⟩ := obnd hT
  refine a_oldI e505 dL_law_1376 ?_
  refine a_aload_n dL_law_1377 rfl ?_
  refine a_iload dL_law_1378 rfl ?_
  refine a_iconst (v := 2) dL_law_1380 (by decide) ?_
  refine a_iadd dL_law_1381 ?_
  obtain ⟨z508, e507, hT⟩ := obnd hT
  refine a_oldI e507 dL_law_1382 ?_
  obtain ⟨g511, hT⟩ := oifg hT
  obtain ⟨r512, e513, hT⟩ := obnd hT
  refine a_callV kv_X0_200 g511 (twM (E := aEI) (fun s9 B9 r9 ht9 e9 => k_X3_closesIn ht9 e9) e513) ⟨Nat.le_of_ble_eq_true rfl, Nat.le_of_ble_eq_true rfl⟩ (As := [.int z506, .int z508]) (rest := []) rfl rfl (Nat.le_of_ble_eq_true rfl) dL_law_1383 (kI ?_) xI
  refine a_istore (lv' := [some (.ref v0), some (.ref v1), some (.ref v2), some (.ref v3), some (.ref v4), some (.int v5), some (.int r503.1), some (.int r512.1), none, none]) dL_law_1386 rfl (by decide) rfl ?_
  refine a_aload_n dL_law_1388 rfl ?_
  obtain ⟨g516, hT⟩ := oifg hT
  obtain ⟨r517, e518, hT⟩ := obnd hT
  refine a_callV kv_X0_141 g516 (twM (E := aEI) (fun s9 B9 r9 ht9 e9 => k_X3_thrown ht9 e9) e518) ⟨Nat.le_of_ble_eq_true rfl, Nat.le_of_ble_eq_true rfl⟩ (As := []) (rest := []) rfl rfl (Nat.le_of_ble_eq_true rfl) dL_law_1389 (kI ?_) xI
  refine a_iload dL_law_1392 rfl ?_
  refine a_icmp_eq 1399 dL_law_1394 rfl (fun c519 => ?_) (fun c519 => ?_)
  · have hT := oifp c519 hT
    refine a_iload dL_law_1399 rfl ?_
    refine a_if_ne 1416 dL_law_1401 rfl (fun c520 => ?_) (fun c520 => ?_)
    · have hT := oifn c520 hT
      refine a_mask [true, true, true, true, true, true, false, false, true, true] ?_
      exact k_L_law_l1416 hT he
    · have hT := oifp c520 hT
      refine a_aload_n dL_law_1404 rfl ?_
      refine a_iconst (v := 0) dL_law_1405 (by decide) ?_
      obtain ⟨z522, e521, hT⟩ := obnd hT
      refine a_ldJ e521 dL_law_1406 ?_
      refine a_iload dL_law_1407 rfl ?_
      refine a_i2l dL_law_1409 ?_
      refine a_lcmp dL_law_1410 ?_
      refine a_if_eq 1416 dL_law_1411 rfl (fun c523 => ?_) (fun c523 => ?_)
      · have hT := oifp c523 hT
        refine a_mask [true, true, true, true, true, true, false, false, true, true] ?_
        exact k_L_law_l1416 hT he
      · have hT := oifn c523 hT
        refine a_iconst (v := 0) dL_law_1414 (by decide) ?_
        obtain rfl := Option.some.inj hT
        exact a_iret rfl (by decide) dL_law_1415 (he _ _ ⟨rfl, rfl⟩)
  · have hT := oifn c519 hT
    refine a_iconst (v := 0) dL_law_1397 (by decide) ?_
    obtain rfl := Option.some.inj hT
    exact a_iret rfl (by decide) dL_law_1398 (he _ _ ⟨rfl, rfl⟩)
noncomputable def t_L_law_l1419 (Z : aZ) (T : Nat → Nat) (h : aH) (v0 : Nat) (v1 : Nat) (v2 : Nat) (v3 : Nat) (v4 : Nat) (v5 : Int32) : Option ((Nat × Nat × Nat × Nat × Nat × Int32 × aH) ⊕ (Int32 × aH)) :=
  if isC 0 h v1 = true then
  (t_X1_summersLeft Z h v1).bind fun r528 =>
  if isC 2 r528.2 v2 = true then
  (twc Z T r528.2 v2 (fun s9 => t_X3_summersLeft s9)).bind fun r533 =>
  if r528.1 = r533.1 then
    t_L_law_l2408 Z T r533.2 v0 v1 v2 v3 v4 v5
  else
    some (.inr ((0, r533.2)))
  else none
  else none
theorem k_L_law_l1419 {G : aG} {h0 : aH} {K : aRes → aH → Prop} {T : Nat → Nat} {h : aH} {v0 : Nat} {v1 : Nat} {v2 : Nat} {v3 : Nat} {v4 : Nat} {v5 : Int32} {e : ((Nat × Nat × Nat × Nat × Nat × Int32 × aH) ⊕ (Int32 × aH))} (hT : t_L_law_l1419 (gZ G) T h v0 v1 v2 v3 v4 v5 = some e) (he : (Sum.elim (p_L_law_b28 G h0 K) (fun e => aTo (aEI e.1 e.2) K)) e) : aW G M_L_law 8192 104096 h0 K h 1419 [some (.ref v0), some (.ref v1), some (.ref v2), some (.ref v3), some (.ref v4), some (.int v5), none, none, none, none] [] := by
  unfold t_L_law_l1419 at hT
  refine a_aload_n dL_law_1419 rfl ?_
  obtain ⟨g527, hT⟩ := oifg hT
  obtain ⟨r528, e529, hT⟩ := obnd hT
  refine a_callV kv_X0_201 g527 (k_X1_summersLeft e529) ⟨Nat.le_of_ble_eq_true rfl, Nat.le_of_ble_eq_true rfl⟩ (As := []) (rest := []) rfl rfl (Nat.le_of_ble_eq_true rfl) dL_law_1420 (kI ?_) xI
  refine a_aload_n dL_law_1423 rfl ?_
  obtain ⟨g532, hT⟩ := oifg hT
  obtain ⟨r533, e534, hT⟩ := obnd hT
  refine a_callV kv_X0_204 g532 (twM (E := aEI) (fun s9 B9 r9 ht9 e9 => k_X3_summersLeft ht9 e9) e534) ⟨Nat.le_of_ble_eq_true rfl, Nat.le_of_ble_eq_true rfl⟩ (As := []) (rest := [.int r528.1]) rfl rfl (Nat.le_of_ble_eq_true rfl) dL_law_1424 (kI ?_) xI
  refine a_icmp_eq 2408 dL_law_1427 rfl (fun c535 => ?_) (fun c535 => ?_)
  · have hT := oifp c535 hT
    exact k_L_law_l2408 hT he
  · have hT := oifn c535 hT
    refine a_iconst (v := 0) dL_law_1430 (by decide) ?_
    obtain rfl := Option.some.inj hT
    exact a_iret rfl (by decide) dL_law_1431 (he _ _ ⟨rfl, rfl⟩)
noncomputable def t_L_law_l1497 (Z : aZ) (T : Nat → Nat) (h : aH) (v0 : Nat) (v1 : Nat) (v2 : Nat) (v3 : Nat) (v4 : Nat) (v5 : Int32) : Option ((Nat × Nat × Nat × Nat × Nat × Int32 × aH) ⊕ (Int32 × aH)) :=
  t_L_law_l2408 Z T h v0 v1 v2 v3 v4 v5
theorem k_L_law_l1497 {G : aG} {h0 : aH} {K : aRes → aH → Prop} {T : Nat → Nat} {h : aH} {v0 : Nat} {v1 : Nat} {v2 : Nat} {v3 : Nat} {v4 : Nat} {v5 : Int32} {e : ((Nat × Nat × Nat × Nat × Nat × Int32 × aH) ⊕ (Int32 × aH))} (hT : t_L_law_l1497 (gZ G) T h v0 v1 v2 v3 v4 v5 = some e) (he : (Sum.elim (p_L_law_b28 G h0 K) (fun e => aTo (aEI e.1 e.2) K)) e) : aW G M_L_law 8192 104096 h0 K h 1497 [some (.ref v0), some (.ref v1), some (.ref v2), some (.ref v3), some (.ref v4), some (.int v5), none, none, none, none] [] := by
  unfold t_L_law_l1497 at hT
  refine a_goto 2408 dL_law_1497 rfl ?_
  exact k_L_law_l2408 hT he
noncomputable def t_L_law_l1432 (Z : aZ) (T : Nat → Nat) (h : aH) (v0 : Nat) (v1 : Nat) (v2 : Nat) (v3 : Nat) (v4 : Nat) (v5 : Int32) : Option ((Nat × Nat × Nat × Nat × Nat × Int32 × aH) ⊕ (Int32 × aH)) :=
  (oldLd .int Z v0 (v5 + 1)).bind fun z538 =>
  (oldLd .int Z v0 (v5 + 2)).bind fun z540 =>
  (t_X0_gardenerOf Z h v1 z538 z540 v3).bind fun r543 =>
  (oldLd .int Z v0 (v5 + 1)).bind fun z546 =>
  (oldLd .int Z v0 (v5 + 2)).bind fun z548 =>
  if isC 2 r543.2 v2 = true then
  (twc Z T r543.2 v2 (fun s9 => t_X3_gardenerOf s9 z546 z548)).bind fun r552 =>
  if isC 2 r552.2 v2 = true then
  (twc Z T r552.2 v2 (fun s9 => t_X3_thrown s9)).bind fun r557 =>
  if r557.1 = r543.1 then
    if r543.1 = 0 then
      (ldJ Z r557.2 v3 0).bind fun z562 =>
      if (lg_cmp z562 ((r552.1 : Int32).toInt64)) = 0 then
        t_L_law_l1497 Z T r557.2 v0 v1 v2 v3 v4 v5
      else
        some (.inr ((0, r557.2)))
    else
      t_L_law_l1497 Z T r557.2 v0 v1 v2 v3 v4 v5
  else
    some (.inr ((0, r557.2)))
  else none
  else none
theorem k_L_law_l1432 {G : aG} {h0 : aH} {K : aRes → aH → Prop} {T : Nat → Nat} {h : aH} {v0 : Nat} {v1 : Nat} {v2 : Nat} {v3 : Nat} {v4 : Nat} {v5 : Int32} {e : ((Nat × Nat × Nat × Nat × Nat × Int32 × aH) ⊕ (Int32 × aH))} (hT : t_L_law_l1432 (gZ G) T h v0 v1 v2 v3 v4 v5 = some e) (he : (Sum.elim (p_L_law_b28 G h0 K) (fun e => aTo (aEI e.1 e.2) K)) e) : aW G M_L_law 8192 104096 h0 K h 1432 [some (.ref v0), some (.ref v1), some (.ref v2), some (.ref v3), some (.ref v4), some (.int v5), none, none, none, none] [] := by
  unfold t_L_law_l1432 at hT
  refine a_aload_n dL_law_1432 rfl ?_
  refine a_aload_n dL_law_1433 rfl ?_
  refine a_iload dL_law_1434 rfl ?_
  refine a_iconst (v := 1) dL_law_1436 (by decide) ?_
  refine a_iadd dL_law_1437 ?_
  obtain ⟨z538, e537, hT⟩ := obnd hT
  refine a_oldI e537 dL_law_1438 ?_
  refine a_aload_n dL_law_1439 rfl ?_
  refine a_iload dL_law_1440 rfl ?_
  refine a_iconst (v := 2) dL_law_1442 (by decide) ?_
  refine a_iadd dL_law_1443 ?_
  obtain ⟨z540, e539, hT⟩ := obnd hT
  refine a_oldI e539 dL_law_1444 ?_
  refine a_aload_n dL_law_1445 rfl ?_
  obtain ⟨r543, e544, hT⟩ := obnd hT
  refine a_callSW ks_X0_205 (k_X0_gardenerOf e544) ⟨Nat.le_of_ble_eq_true rfl, Nat.le_of_ble_eq_true rfl⟩ (As := [.ref v1, .int z538, .int z540, .ref v3]) (rest := []) rfl rfl (Nat.le_of_ble_eq_true rfl) dL_law_1446 (kI ?_) xI
  refine a_istore (lv' := [some (.ref v0), some (.ref v1), some (.ref v2), some (.ref v3), some (.ref v4), some (.int v5), some (.int r543.1), none, none, none]) dL_law_1449 rfl (by decide) rfl ?_
  refine a_aload_n dL_law_1451 rfl ?_
  refine a_aload_n dL_law_1452 rfl ?_
  refine a_iload dL_law_1453 rfl ?_
  refine a_iconst (v := 1) dL_law_1455 (by decide) ?_
  refine a_iadd dL_law_1456 ?_
  obtain ⟨z546, e545, hT⟩ := obnd hT
  refine a_oldI e545 dL_law_1457 ?_
  refine a_aload_n dL_law_1458 rfl ?_
  refine a_iload dL_law_1459 rfl ?_
  refine a_iconst (v := 2) dL_law_1461 (by decide) ?_
  refine a_iadd dL_law_1462 ?_
  obtain ⟨z548, e547, hT⟩ := obnd hT
  refine a_oldI e547 dL_law_1463 ?_
  obtain ⟨g551, hT⟩ := oifg hT
  obtain ⟨r552, e553, hT⟩ := obnd hT
  refine a_callV kv_X0_207 g551 (twM (E := aEI) (fun s9 B9 r9 ht9 e9 => k_X3_gardenerOf ht9 e9) e553) ⟨Nat.le_of_ble_eq_true rfl, Nat.le_of_ble_eq_true rfl⟩ (As := [.int z546, .int z548]) (rest := []) rfl rfl (Nat.le_of_ble_eq_true rfl) dL_law_1464 (kI ?_) xI
  refine a_istore (lv' := [some (.ref v0), some (.ref v1), some (.ref v2), some (.ref v3), some (.ref v4), some (.int v5), some (.int r543.1), some (.int r552.1), none, none]) dL_law_1467 rfl (by decide) rfl ?_
  refine a_aload_n dL_law_1469 rfl ?_
  obtain ⟨g556, hT⟩ := oifg hT
  obtain ⟨r557, e558, hT⟩ := obnd hT
  refine a_callV kv_X0_141 g556 (twM (E := aEI) (fun s9 B9 r9 ht9 e9 => k_X3_thrown ht9 e9) e558) ⟨Nat.le_of_ble_eq_true rfl, Nat.le_of_ble_eq_true rfl⟩ (As := []) (rest := []) rfl rfl (Nat.le_of_ble_eq_true rfl) dL_law_1470 (kI ?_) xI
  refine a_iload dL_law_1473 rfl ?_
  refine a_icmp_eq 1480 dL_law_1475 rfl (fun c559 => ?_) (fun c559 => ?_)
  · have hT := oifp c559 hT
    refine a_iload dL_law_1480 rfl ?_
    refine a_if_ne 1497 dL_law_1482 rfl (fun c560 => ?_) (fun c560 => ?_)
    · have hT := oifn c560 hT
      refine a_mask [true, true, true, true, true, true, false, false, true, true] ?_
      exact k_L_law_l1497 hT he
    · have hT := oifp c560 hT
      refine a_aload_n dL_law_1485 rfl ?_
      refine a_iconst (v := 0) dL_law_1486 (by decide) ?_
      obtain ⟨z562, e561, hT⟩ := obnd hT
      refine a_ldJ e561 dL_law_1487 ?_
      refine a_iload dL_law_1488 rfl ?_
      refine a_i2l dL_law_1490 ?_
      refine a_lcmp dL_law_1491 ?_
      refine a_if_eq 1497 dL_law_1492 rfl (fun c563 => ?_) (fun c563 => ?_)
      · have hT := oifp c563 hT
        refine a_mask [true, true, true, true, true, true, false, false, true, true] ?_
        exact k_L_law_l1497 hT he
      · have hT := oifn c563 hT
        refine a_iconst (v := 0) dL_law_1495 (by decide) ?_
        obtain rfl := Option.some.inj hT
        exact a_iret rfl (by decide) dL_law_1496 (he _ _ ⟨rfl, rfl⟩)
  · have hT := oifn c559 hT
    refine a_iconst (v := 0) dL_law_1478 (by decide) ?_
    obtain rfl := Option.some.inj hT
    exact a_iret rfl (by decide) dL_law_1479 (he _ _ ⟨rfl, rfl⟩)
noncomputable def t_L_law_l1565 (Z : aZ) (T : Nat → Nat) (h : aH) (v0 : Nat) (v1 : Nat) (v2 : Nat) (v3 : Nat) (v4 : Nat) (v5 : Int32) : Option ((Nat × Nat × Nat × Nat × Nat × Int32 × aH) ⊕ (Int32 × aH)) :=
  t_L_law_l2408 Z T h v0 v1 v2 v3 v4 v5
theorem k_L_law_l1565 {G : aG} {h0 : aH} {K : aRes → aH → Prop} {T : Nat → Nat} {h : aH} {v0 : Nat} {v1 : Nat} {v2 : Nat} {v3 : Nat} {v4 : Nat} {v5 : Int32} {e : ((Nat × Nat × Nat × Nat × Nat × Int32 × aH) ⊕ (Int32 × aH))} (hT : t_L_law_l1565 (gZ G) T h v0 v1 v2 v3 v4 v5 = some e) (he : (Sum.elim (p_L_law_b28 G h0 K) (fun e => aTo (aEI e.1 e.2) K)) e) : aW G M_L_law 8192 104096 h0 K h 1565 [some (.ref v0), some (.ref v1), some (.ref v2), some (.ref v3), some (.ref v4), some (.int v5), none, none, none, none] [] := by
  unfold t_L_law_l1565 at hT
  refine a_goto 2408 dL_law_1565 rfl ?_
  exact k_L_law_l2408 hT he
noncomputable def t_L_law_l1500 (Z : aZ) (T : Nat → Nat) (h : aH) (v0 : Nat) (v1 : Nat) (v2 : Nat) (v3 : Nat) (v4 : Nat) (v5 : Int32) : Option ((Nat × Nat × Nat × Nat × Nat × Int32 × aH) ⊕ (Int32 × aH)) :=
  (oldLd .int Z v0 (v5 + 1)).bind fun z566 =>
  (oldLd .int Z v0 (v5 + 2)).bind fun z568 =>
  (t_X0_visitorOf Z h v1 z566 z568 v3).bind fun r571 =>
  (oldLd .int Z v0 (v5 + 1)).bind fun z574 =>
  (oldLd .int Z v0 (v5 + 2)).bind fun z576 =>
  if isC 2 r571.2 v2 = true then
  (twc Z T r571.2 v2 (fun s9 => t_X3_visitorOf s9 z574 z576)).bind fun r580 =>
  if isC 2 r580.2 v2 = true then
  (twc Z T r580.2 v2 (fun s9 => t_X3_thrown s9)).bind fun r585 =>
  if r585.1 = r571.1 then
    if r571.1 = 0 then
      (ldJ Z r585.2 v3 0).bind fun z590 =>
      if (lg_cmp z590 ((r580.1 : Int32).toInt64)) = 0 then
        t_L_law_l1565 Z T r585.2 v0 v1 v2 v3 v4 v5
      else
        some (.inr ((0, r585.2)))
    else
      t_L_law_l1565 Z T r585.2 v0 v1 v2 v3 v4 v5
  else
    some (.inr ((0, r585.2)))
  else none
  else none
theorem k_L_law_l1500 {G : aG} {h0 : aH} {K : aRes → aH → Prop} {T : Nat → Nat} {h : aH} {v0 : Nat} {v1 : Nat} {v2 : Nat} {v3 : Nat} {v4 : Nat} {v5 : Int32} {e : ((Nat × Nat × Nat × Nat × Nat × Int32 × aH) ⊕ (Int32 × aH))} (hT : t_L_law_l1500 (gZ G) T h v0 v1 v2 v3 v4 v5 = some e) (he : (Sum.elim (p_L_law_b28 G h0 K) (fun e => aTo (aEI e.1 e.2) K)) e) : aW G M_L_law 8192 104096 h0 K h 1500 [some (.ref v0), some (.ref v1), some (.ref v2), some (.ref v3), some (.ref v4), some (.int v5), none, none, none, none] [] := by
  unfold t_L_law_l1500 at hT
  refine a_aload_n dL_law_1500 rfl ?_
  refine a_aload_n dL_law_1501 rfl ?_
  refine a_iload dL_law_1502 rfl ?_
  refine a_iconst (v := 1) dL_law_1504 (by decide) ?_
  refine a_iadd dL_law_1505 ?_
  obtain ⟨z566, e565, hT⟩ := obnd hT
  refine a_oldI e565 dL_law_1506 ?_
  refine a_aload_n dL_law_1507 rfl ?_
  refine a_iload dL_law_1508 rfl ?_
  refine a_iconst (v := 2) dL_law_1510 (by decide) ?_
  refine a_iadd dL_law_1511 ?_
  obtain ⟨z568, e567, hT⟩ := obnd hT
  refine a_oldI e567 dL_law_1512 ?_
  refine a_aload_n dL_law_1513 rfl ?_
  obtain ⟨r571, e572, hT⟩ := obnd hT
  refine a_callSW ks_X0_208 (k_X0_visitorOf e572) ⟨Nat.le_of_ble_eq_true rfl, Nat.le_of_ble_eq_true rfl⟩ (As := [.ref v1, .int z566, .int z568, .ref v3]) (rest := []) rfl rfl (Nat.le_of_ble_eq_true rfl) dL_law_1514 (kI ?_) xI
  refine a_istore (lv' := [some (.ref v0), some (.ref v1), some (.ref v2), some (.ref v3), some (.ref v4), some (.int v5), some (.int r571.1), none, none, none]) dL_law_1517 rfl (by decide) rfl ?_
  refine a_aload_n dL_law_1519 rfl ?_
  refine a_aload_n dL_law_1520 rfl ?_
  refine a_iload dL_law_1521 rfl ?_
  refine a_iconst (v := 1) dL_law_1523 (by decide) ?_
  refine a_iadd dL_law_1524 ?_
  obtain ⟨z574, e573, hT⟩ := obnd hT
  refine a_oldI e573 dL_law_1525 ?_
  refine a_aload_n dL_law_1526 rfl ?_
  refine a_iload dL_law_1527 rfl ?_
  refine a_iconst (v := 2) dL_law_1529 (by decide) ?_
  refine a_iadd dL_law_1530 ?_
  obtain ⟨z576, e575, hT⟩ := obnd hT
  refine a_oldI e575 dL_law_1531 ?_
  obtain ⟨g579, hT⟩ := oifg hT
  obtain ⟨r580, e581, hT⟩ := obnd hT
  refine a_callV kv_X0_210 g579 (twM (E := aEI) (fun s9 B9 r9 ht9 e9 => k_X3_visitorOf ht9 e9) e581) ⟨Nat.le_of_ble_eq_true rfl, Nat.le_of_ble_eq_true rfl⟩ (As := [.int z574, .int z576]) (rest := []) rfl rfl (Nat.le_of_ble_eq_true rfl) dL_law_1532 (kI ?_) xI
  refine a_istore (lv' := [some (.ref v0), some (.ref v1), some (.ref v2), some (.ref v3), some (.ref v4), some (.int v5), some (.int r571.1), some (.int r580.1), none, none]) dL_law_1535 rfl (by decide) rfl ?_
  refine a_aload_n dL_law_1537 rfl ?_
  obtain ⟨g584, hT⟩ := oifg hT
  obtain ⟨r585, e586, hT⟩ := obnd hT
  refine a_callV kv_X0_141 g584 (twM (E := aEI) (fun s9 B9 r9 ht9 e9 => k_X3_thrown ht9 e9) e586) ⟨Nat.le_of_ble_eq_true rfl, Nat.le_of_ble_eq_true rfl⟩ (As := []) (rest := []) rfl rfl (Nat.le_of_ble_eq_true rfl) dL_law_1538 (kI ?_) xI
  refine a_iload dL_law_1541 rfl ?_
  refine a_icmp_eq 1548 dL_law_1543 rfl (fun c587 => ?_) (fun c587 => ?_)
  · have hT := oifp c587 hT
    refine a_iload dL_law_1548 rfl ?_
    refine a_if_ne 1565 dL_law_1550 rfl (fun c588 => ?_) (fun c588 => ?_)
    · have hT := oifn c588 hT
      refine a_mask [true, true, true, true, true, true, false, false, true, true] ?_
      exact k_L_law_l1565 hT he
    · have hT := oifp c588 hT
      refine a_aload_n dL_law_1553 rfl ?_
      refine a_iconst (v := 0) dL_law_1554 (by decide) ?_
      obtain ⟨z590, e589, hT⟩ := obnd hT
      refine a_ldJ e589 dL_law_1555 ?_
      refine a_iload dL_law_1556 rfl ?_
      refine a_i2l dL_law_1558 ?_
      refine a_lcmp dL_law_1559 ?_
      refine a_if_eq 1565 dL_law_1560 rfl (fun c591 => ?_) (fun c591 => ?_)
      · have hT := oifp c591 hT
        refine a_mask [true, true, true, true, true, true, false, false, true, true] ?_
        exact k_L_law_l1565 hT he
      · have hT := oifn c591 hT
        refine a_iconst (v := 0) dL_law_1563 (by decide) ?_
        obtain rfl := Option.some.inj hT
        exact a_iret rfl (by decide) dL_law_1564 (he _ _ ⟨rfl, rfl⟩)
  · have hT := oifn c587 hT
    refine a_iconst (v := 0) dL_law_1546 (by decide) ?_
    obtain rfl := Option.some.inj hT
    exact a_iret rfl (by decide) dL_law_1547 (he _ _ ⟨rfl, rfl⟩)
noncomputable def t_L_law_l1621 (Z : aZ) (T : Nat → Nat) (h : aH) (v0 : Nat) (v1 : Nat) (v2 : Nat) (v3 : Nat) (v4 : Nat) (v5 : Int32) : Option ((Nat × Nat × Nat × Nat × Nat × Int32 × aH) ⊕ (Int32 × aH)) :=
  t_L_law_l2408 Z T h v0 v1 v2 v3 v4 v5
theorem k_L_law_l1621 {G : aG} {h0 : aH} {K : aRes → aH → Prop} {T : Nat → Nat} {h : aH} {v0 : Nat} {v1 : Nat} {v2 : Nat} {v3 : Nat} {v4 : Nat} {v5 : Int32} {e : ((Nat × Nat × Nat × Nat × Nat × Int32 × aH) ⊕ (Int32 × aH))} (hT : t_L_law_l1621 (gZ G) T h v0 v1 v2 v3 v4 v5 = some e) (he : (Sum.elim (p_L_law_b28 G h0 K) (fun e => aTo (aEI e.1 e.2) K)) e) : aW G M_L_law 8192 104096 h0 K h 1621 [some (.ref v0), some (.ref v1), some (.ref v2), some (.ref v3), some (.ref v4), some (.int v5), none, none, none, none] [] := by
  unfold t_L_law_l1621 at hT
  refine a_goto 2408 dL_law_1621 rfl ?_
  exact k_L_law_l2408 hT he
noncomputable def t_L_law_l1568 (Z : aZ) (T : Nat → Nat) (h : aH) (v0 : Nat) (v1 : Nat) (v2 : Nat) (v3 : Nat) (v4 : Nat) (v5 : Int32) : Option ((Nat × Nat × Nat × Nat × Nat × Int32 × aH) ⊕ (Int32 × aH)) :=
  (oldLd .int Z v0 (v5 + 1)).bind fun z594 =>
  (t_X0_wouldPay Z h v1 z594 v3).bind fun r597 =>
  (oldLd .int Z v0 (v5 + 1)).bind fun z600 =>
  if isC 2 r597.2 v2 = true then
  (twc Z T r597.2 v2 (fun s9 => t_X3_wouldPay s9 z600)).bind fun r604 =>
  if isC 2 r604.2 v2 = true then
  (twc Z T r604.2 v2 (fun s9 => t_X3_thrown s9)).bind fun r609 =>
  if r609.1 = r597.1 then
    if r597.1 = 0 then
      (ldJ Z r609.2 v3 0).bind fun z614 =>
      if (lg_cmp z614 ((r604.1 : Int32).toInt64)) = 0 then
        t_L_law_l1621 Z T r609.2 v0 v1 v2 v3 v4 v5
      else
        some (.inr ((0, r609.2)))
    else
      t_L_law_l1621 Z T r609.2 v0 v1 v2 v3 v4 v5
  else
    some (.inr ((0, r609.2)))
  else none
  else none
theorem k_L_law_l1568 {G : aG} {h0 : aH} {K : aRes → aH → Prop} {T : Nat → Nat} {h : aH} {v0 : Nat} {v1 : Nat} {v2 : Nat} {v3 : Nat} {v4 : Nat} {v5 : Int32} {e : ((Nat × Nat × Nat × Nat × Nat × Int32 × aH) ⊕ (Int32 × aH))} (hT : t_L_law_l1568 (gZ G) T h v0 v1 v2 v3 v4 v5 = some e) (he : (Sum.elim (p_L_law_b28 G h0 K) (fun e => aTo (aEI e.1 e.2) K)) e) : aW G M_L_law 8192 104096 h0 K h 1568 [some (.ref v0), some (.ref v1), some (.ref v2), some (.ref v3), some (.ref v4), some (.int v5), none, none, none, none] [] := by
  unfold t_L_law_l1568 at hT
  refine a_aload_n dL_law_1568 rfl ?_
  refine a_aload_n dL_law_1569 rfl ?_
  refine a_iload dL_law_1570 rfl ?_
  refine a_iconst (v := 1) dL_law_1572 (by decide) ?_
  refine a_iadd dL_law_1573 ?_
  obtain ⟨z594, e593, hT⟩ := obnd hT
  refine a_oldI e593 dL_law_1574 ?_
  refine a_aload_n dL_law_1575 rfl ?_
  obtain ⟨r597, e598, hT⟩ := obnd hT
  refine a_callSW ks_X0_211 (k_X0_wouldPay e598) ⟨Nat.le_of_ble_eq_true rfl, Nat.le_of_ble_eq_true rfl⟩ (As := [.ref v1, .int z594, .ref v3]) (rest := []) rfl rfl (Nat.le_of_ble_eq_true rfl) dL_law_1576 (kI ?_) xI
  refine a_istore (lv' := [some (.ref v0), some (.ref v1), some (.ref v2), some (.ref v3), some (.ref v4), some (.int v5), some (.int r597.1), none, none, none]) dL_law_1579 rfl (by decide) rfl ?_
  refine a_aload_n dL_law_1581 rfl ?_
  refine a_aload_n dL_law_1582 rfl ?_
  refine a_iload dL_law_1583 rfl ?_
  refine a_iconst (v := 1) dL_law_1585 (by decide) ?_
  refine a_iadd dL_law_1586 ?_
  obtain ⟨z600, e599, hT⟩ := obnd hT
  refine a_oldI e599 dL_law_1587 ?_
  obtain ⟨g603, hT⟩ := oifg hT
  obtain ⟨r604, e605, hT⟩ := obnd hT
  refine a_callV kv_X0_213 g603 (twM (E := aEI) (fun s9 B9 r9 ht9 e9 => k_X3_wouldPay ht9 e9) e605) ⟨Nat.le_of_ble_eq_true rfl, Nat.le_of_ble_eq_true rfl⟩ (As := [.int z600]) (rest := []) rfl rfl (Nat.le_of_ble_eq_true rfl) dL_law_1588 (kI ?_) xI
  refine a_istore (lv' := [some (.ref v0), some (.ref v1), some (.ref v2), some (.ref v3), some (.ref v4), some (.int v5), some (.int r597.1), some (.int r604.1), none, none]) dL_law_1591 rfl (by decide) rfl ?_
  refine a_aload_n dL_law_1593 rfl ?_
  obtain ⟨g608, hT⟩ := oifg hT
  obtain ⟨r609, e610, hT⟩ := obnd hT
  refine a_callV kv_X0_141 g608 (twM (E := aEI) (fun s9 B9 r9 ht9 e9 => k_X3_thrown ht9 e9) e610) ⟨Nat.le_of_ble_eq_true rfl, Nat.le_of_ble_eq_true rfl⟩ (As := []) (rest := []) rfl rfl (Nat.le_of_ble_eq_true rfl) dL_law_1594 (kI ?_) xI
  refine a_iload dL_law_1597 rfl ?_
  refine a_icmp_eq 1604 dL_law_1599 rfl (fun c611 => ?_) (fun c611 => ?_)
  · have hT := oifp c611 hT
    refine a_iload dL_law_1604 rfl ?_
    refine a_if_ne 1621 dL_law_1606 rfl (fun c612 => ?_) (fun c612 => ?_)
    · have hT := oifn c612 hT
      refine a_mask [true, true, true, true, true, true, false, false, true, true] ?_
      exact k_L_law_l1621 hT he
    · have hT := oifp c612 hT
      refine a_aload_n dL_law_1609 rfl ?_
      refine a_iconst (v := 0) dL_law_1610 (by decide) ?_
      obtain ⟨z614, e613, hT⟩ := obnd hT
      refine a_ldJ e613 dL_law_1611 ?_
      refine a_iload dL_law_1612 rfl ?_
      refine a_i2l dL_law_1614 ?_
      refine a_lcmp dL_law_1615 ?_
      refine a_if_eq 1621 dL_law_1616 rfl (fun c615 => ?_) (fun c615 => ?_)
      · have hT := oifp c615 hT
        refine a_mask [true, true, true, true, true, true, false, false, true, true] ?_
        exact k_L_law_l1621 hT he
      · have hT := oifn c615 hT
        refine a_iconst (v := 0) dL_law_1619 (by decide) ?_
        obtain rfl := Option.some.inj hT
        exact a_iret rfl (by decide) dL_law_1620 (he _ _ ⟨rfl, rfl⟩)
  · have hT := oifn c611 hT
    refine a_iconst (v := 0) dL_law_1602 (by decide) ?_
    obtain rfl := Option.some.inj hT
    exact a_iret rfl (by decide) dL_law_1603 (he _ _ ⟨rfl, rfl⟩)
noncomputable def t_L_law_l1677 (Z : aZ) (T : Nat → Nat) (h : aH) (v0 : Nat) (v1 : Nat) (v2 : Nat) (v3 : Nat) (v4 : Nat) (v5 : Int32) : Option ((Nat × Nat × Nat × Nat × Nat × Int32 × aH) ⊕ (Int32 × aH)) :=
  t_L_law_l2408 Z T h v0 v1 v2 v3 v4 v5
theorem k_L_law_l1677 {G : aG} {h0 : aH} {K : aRes → aH → Prop} {T : Nat → Nat} {h : aH} {v0 : Nat} {v1 : Nat} {v2 : Nat} {v3 : Nat} {v4 : Nat} {v5 : Int32} {e : ((Nat × Nat × Nat × Nat × Nat × Int32 × aH) ⊕ (Int32 × aH))} (hT : t_L_law_l1677 (gZ G) T h v0 v1 v2 v3 v4 v5 = some e) (he : (Sum.elim (p_L_law_b28 G h0 K) (fun e => aTo (aEI e.1 e.2) K)) e) : aW G M_L_law 8192 104096 h0 K h 1677 [some (.ref v0), some (.ref v1), some (.ref v2), some (.ref v3), some (.ref v4), some (.int v5), none, none, none, none] [] := by
  unfold t_L_law_l1677 at hT
  refine a_goto 2408 dL_law_1677 rfl ?_
  exact k_L_law_l2408 hT he
noncomputable def t_L_law_l1624 (Z : aZ) (T : Nat → Nat) (h : aH) (v0 : Nat) (v1 : Nat) (v2 : Nat) (v3 : Nat) (v4 : Nat) (v5 : Int32) : Option ((Nat × Nat × Nat × Nat × Nat × Int32 × aH) ⊕ (Int32 × aH)) :=
  (oldLd .int Z v0 (v5 + 1)).bind fun z618 =>
  (t_X0_owed Z h v1 z618 v3).bind fun r621 =>
  (oldLd .int Z v0 (v5 + 1)).bind fun z624 =>
  if isC 2 r621.2 v2 = true then
  (twc Z T r621.2 v2 (fun s9 => t_X3_owed s9 z624)).bind fun r628 =>
  if isC 2 r628.2 v2 = true then
  (twc Z T r628.2 v2 (fun s9 => t_X3_thrown s9)).bind fun r633 =>
  if r633.1 = r621.1 then
    if r621.1 = 0 then
      (ldJ Z r633.2 v3 0).bind fun z638 =>
      if (lg_cmp z638 ((r628.1 : Int32).toInt64)) = 0 then
        t_L_law_l1677 Z T r633.2 v0 v1 v2 v3 v4 v5
      else
        some (.inr ((0, r633.2)))
    else
      t_L_law_l1677 Z T r633.2 v0 v1 v2 v3 v4 v5
  else
    some (.inr ((0, r633.2)))
  else none
  else none
theorem k_L_law_l1624 {G : aG} {h0 : aH} {K : aRes → aH → Prop} {T : Nat → Nat} {h : aH} {v0 : Nat} {v1 : Nat} {v2 : Nat} {v3 : Nat} {v4 : Nat} {v5 : Int32} {e : ((Nat × Nat × Nat × Nat × Nat × Int32 × aH) ⊕ (Int32 × aH))} (hT : t_L_law_l1624 (gZ G) T h v0 v1 v2 v3 v4 v5 = some e) (he : (Sum.elim (p_L_law_b28 G h0 K) (fun e => aTo (aEI e.1 e.2) K)) e) : aW G M_L_law 8192 104096 h0 K h 1624 [some (.ref v0), some (.ref v1), some (.ref v2), some (.ref v3), some (.ref v4), some (.int v5), none, none, none, none] [] := by
  unfold t_L_law_l1624 at hT
  refine a_aload_n dL_law_1624 rfl ?_
  refine a_aload_n dL_law_1625 rfl ?_
  refine a_iload dL_law_1626 rfl ?_
  refine a_iconst (v := 1) dL_law_1628 (by decide) ?_
  refine a_iadd dL_law_1629 ?_
  obtain ⟨z618, e617, hT⟩ := obnd hT
  refine a_oldI e617 dL_law_1630 ?_
  refine a_aload_n dL_law_1631 rfl ?_
  obtain ⟨r621, e622, hT⟩ := obnd hT
  refine a_callSW ks_X0_214 (k_X0_owed e622) ⟨Nat.le_of_ble_eq_true rfl, Nat.le_of_ble_eq_true rfl⟩ (As := [.ref v1, .int z618, .ref v3]) (rest := []) rfl rfl (Nat.le_of_ble_eq_true rfl) dL_law_1632 (kI ?_) xI
  refine a_istore (lv' := [some (.ref v0), some (.ref v1), some (.ref v2), some (.ref v3), some (.ref v4), some (.int v5), some (.int r621.1), none, none, none]) dL_law_1635 rfl (by decide) rfl ?_
  refine a_aload_n dL_law_1637 rfl ?_
  refine a_aload_n dL_law_1638 rfl ?_
  refine a_iload dL_law_1639 rfl ?_
  refine a_iconst (v := 1) dL_law_1641 (by decide) ?_
  refine a_iadd dL_law_1642 ?_
  obtain ⟨z624, e623, hT⟩ := obnd hT
  refine a_oldI e623 dL_law_1643 ?_
  obtain ⟨g627, hT⟩ := oifg hT
  obtain ⟨r628, e629, hT⟩ := obnd hT
  refine a_callV kv_X0_216 g627 (twM (E := aEI) (fun s9 B9 r9 ht9 e9 => k_X3_owed ht9 e9) e629) ⟨Nat.le_of_ble_eq_true rfl, Nat.le_of_ble_eq_true rfl⟩ (As := [.int z624]) (rest := []) rfl rfl (Nat.le_of_ble_eq_true rfl) dL_law_1644 (kI ?_) xI
  refine a_istore (lv' := [some (.ref v0), some (.ref v1), some (.ref v2), some (.ref v3), some (.ref v4), some (.int v5), some (.int r621.1), some (.int r628.1), none, none]) dL_law_1647 rfl (by decide) rfl ?_
  refine a_aload_n dL_law_1649 rfl ?_
  obtain ⟨g632, hT⟩ := oifg hT
  obtain ⟨r633, e634, hT⟩ := obnd hT
  refine a_callV kv_X0_141 g632 (twM (E := aEI) (fun s9 B9 r9 ht9 e9 => k_X3_thrown ht9 e9) e634) ⟨Nat.le_of_ble_eq_true rfl, Nat.le_of_ble_eq_true rfl⟩ (As := []) (rest := []) rfl rfl (Nat.le_of_ble_eq_true rfl) dL_law_1650 (kI ?_) xI
  refine a_iload dL_law_1653 rfl ?_
  refine a_icmp_eq 1660 dL_law_1655 rfl (fun c635 => ?_) (fun c635 => ?_)
  · have hT := oifp c635 hT
    refine a_iload dL_law_1660 rfl ?_
    refine a_if_ne 1677 dL_law_1662 rfl (fun c636 => ?_) (fun c636 => ?_)
    · have hT := oifn c636 hT
      refine a_mask [true, true, true, true, true, true, false, false, true, true] ?_
      exact k_L_law_l1677 hT he
    · have hT := oifp c636 hT
      refine a_aload_n dL_law_1665 rfl ?_
      refine a_iconst (v := 0) dL_law_1666 (by decide) ?_
      obtain ⟨z638, e637, hT⟩ := obnd hT
      refine a_ldJ e637 dL_law_1667 ?_
      refine a_iload dL_law_1668 rfl ?_
      refine a_i2l dL_law_1670 ?_
      refine a_lcmp dL_law_1671 ?_
      refine a_if_eq 1677 dL_law_1672 rfl (fun c639 => ?_) (fun c639 => ?_)
      · have hT := oifp c639 hT
        refine a_mask [true, true, true, true, true, true, false, false, true, true] ?_
        exact k_L_law_l1677 hT he
      · have hT := oifn c639 hT
        refine a_iconst (v := 0) dL_law_1675 (by decide) ?_
        obtain rfl := Option.some.inj hT
        exact a_iret rfl (by decide) dL_law_1676 (he _ _ ⟨rfl, rfl⟩)
  · have hT := oifn c635 hT
    refine a_iconst (v := 0) dL_law_1658 (by decide) ?_
    obtain rfl := Option.some.inj hT
    exact a_iret rfl (by decide) dL_law_1659 (he _ _ ⟨rfl, rfl⟩)
noncomputable def t_L_law_l1745 (Z : aZ) (T : Nat → Nat) (h : aH) (v0 : Nat) (v1 : Nat) (v2 : Nat) (v3 : Nat) (v4 : Nat) (v5 : Int32) : Option ((Nat × Nat × Nat × Nat × Nat × Int32 × aH) ⊕ (Int32 × aH)) :=
  t_L_law_l2408 Z T h v0 v1 v2 v3 v4 v5
theorem k_L_law_l1745 {G : aG} {h0 : aH} {K : aRes → aH → Prop} {T : Nat → Nat} {h : aH} {v0 : Nat} {v1 : Nat} {v2 : Nat} {v3 : Nat} {v4 : Nat} {v5 : Int32} {e : ((Nat × Nat × Nat × Nat × Nat × Int32 × aH) ⊕ (Int32 × aH))} (hT : t_L_law_l1745 (gZ G) T h v0 v1 v2 v3 v4 v5 = some e) (he : (Sum.elim (p_L_law_b28 G h0 K) (fun e => aTo (aEI e.1 e.2) K)) e) : aW G M_L_law 8192 104096 h0 K h 1745 [some (.ref v0), some (.ref v1), some (.ref v2), some (.ref v3), some (.ref v4), some (.int v5), none, none, none, none] [] := by
  unfold t_L_law_l1745 at hT
  refine a_goto 2408 dL_law_1745 rfl ?_
  exact k_L_law_l2408 hT he
noncomputable def t_L_law_l1680 (Z : aZ) (T : Nat → Nat) (h : aH) (v0 : Nat) (v1 : Nat) (v2 : Nat) (v3 : Nat) (v4 : Nat) (v5 : Int32) : Option ((Nat × Nat × Nat × Nat × Nat × Int32 × aH) ⊕ (Int32 × aH)) :=
  (oldLd .int Z v0 (v5 + 1)).bind fun z642 =>
  (oldLd .int Z v0 (v5 + 2)).bind fun z644 =>
  (t_X0_ranked Z h v1 z642 z644 v3).bind fun r647 =>
  (oldLd .int Z v0 (v5 + 1)).bind fun z650 =>
  (oldLd .int Z v0 (v5 + 2)).bind fun z652 =>
  if isC 2 r647.2 v2 = true then
  (twc Z T r647.2 v2 (fun s9 => t_X3_ranked s9 z650 z652)).bind fun r656 =>
  if isC 2 r656.2 v2 = true then
  (twc Z T r656.2 v2 (fun s9 => t_X3_thrown s9)).bind fun r661 =>
  if r661.1 = r647.1 then
    if r647.1 = 0 then
      (ldJ Z r661.2 v3 0).bind fun z666 =>
      if (lg_cmp z666 ((r656.1 : Int32).toInt64)) = 0 then
        t_L_law_l1745 Z T r661.2 v0 v1 v2 v3 v4 v5
      else
        some (.inr ((0, r661.2)))
    else
      t_L_law_l1745 Z T r661.2 v0 v1 v2 v3 v4 v5
  else
    some (.inr ((0, r661.2)))
  else none
  else none
theorem k_L_law_l1680 {G : aG} {h0 : aH} {K : aRes → aH → Prop} {T : Nat → Nat} {h : aH} {v0 : Nat} {v1 : Nat} {v2 : Nat} {v3 : Nat} {v4 : Nat} {v5 : Int32} {e : ((Nat × Nat × Nat × Nat × Nat × Int32 × aH) ⊕ (Int32 × aH))} (hT : t_L_law_l1680 (gZ G) T h v0 v1 v2 v3 v4 v5 = some e) (he : (Sum.elim (p_L_law_b28 G h0 K) (fun e => aTo (aEI e.1 e.2) K)) e) : aW G M_L_law 8192 104096 h0 K h 1680 [some (.ref v0), some (.ref v1), some (.ref v2), some (.ref v3), some (.ref v4), some (.int v5), none, none, none, none] [] := by
  unfold t_L_law_l1680 at hT
  refine a_aload_n dL_law_1680 rfl ?_
  refine a_aload_n dL_law_1681 rfl ?_
  refine a_iload dL_law_1682 rfl ?_
  refine a_iconst (v := 1) dL_law_1684 (by decide) ?_
  refine a_iadd dL_law_1685 ?_
  obtain ⟨z642, e641, hT⟩ := obnd hT
  refine a_oldI e641 dL_law_1686 ?_
  refine a_aload_n dL_law_1687 rfl ?_
  refine a_iload dL_law_1688 rfl ?_
  refine a_iconst (v := 2) dL_law_1690 (by decide) ?_
  refine a_iadd dL_law_1691 ?_
  obtain ⟨z644, e643, hT⟩ := obnd hT
  refine a_oldI e643 dL_law_1692 ?_
  refine a_aload_n dL_law_1693 rfl ?_
  obtain ⟨r647, e648, hT⟩ := obnd hT
  refine a_callSW ks_X0_217 (k_X0_ranked e648) ⟨Nat.le_of_ble_eq_true rfl, Nat.le_of_ble_eq_true rfl⟩ (As := [.ref v1, .int z642, .int z644, .ref v3]) (rest := []) rfl rfl (Nat.le_of_ble_eq_true rfl) dL_law_1694 (kI ?_) xI
  refine a_istore (lv' := [some (.ref v0), some (.ref v1), some (.ref v2), some (.ref v3), some (.ref v4), some (.int v5), some (.int r647.1), none, none, none]) dL_law_1697 rfl (by decide) rfl ?_
  refine a_aload_n dL_law_1699 rfl ?_
  refine a_aload_n dL_law_1700 rfl ?_
  refine a_iload dL_law_1701 rfl ?_
  refine a_iconst (v := 1) dL_law_1703 (by decide) ?_
  refine a_iadd dL_law_1704 ?_
  obtain ⟨z650, e649, hT⟩ := obnd hT
  refine a_oldI e649 dL_law_1705 ?_
  refine a_aload_n dL_law_1706 rfl ?_
  refine a_iload dL_law_1707 rfl ?_
  refine a_iconst (v := 2) dL_law_1709 (by decide) ?_
  refine a_iadd dL_law_1710 ?_
  obtain ⟨z652, e651, hT⟩ := obnd hT
  refine a_oldI e651 dL_law_1711 ?_
  obtain ⟨g655, hT⟩ := oifg hT
  obtain ⟨r656, e657, hT⟩ := obnd hT
  refine a_callV kv_X0_219 g655 (twM (E := aEI) (fun s9 B9 r9 ht9 e9 => k_X3_ranked ht9 e9) e657) ⟨Nat.le_of_ble_eq_true rfl, Nat.le_of_ble_eq_true rfl⟩ (As := [.int z650, .int z652]) (rest := []) rfl rfl (Nat.le_of_ble_eq_true rfl) dL_law_1712 (kI ?_) xI
  refine a_istore (lv' := [some (.ref v0), some (.ref v1), some (.ref v2), some (.ref v3), some (.ref v4), some (.int v5), some (.int r647.1), some (.int r656.1), none, none]) dL_law_1715 rfl (by decide) rfl ?_
  refine a_aload_n dL_law_1717 rfl ?_
  obtain ⟨g660, hT⟩ := oifg hT
  obtain ⟨r661, e662, hT⟩ := obnd hT
  refine a_callV kv_X0_141 g660 (twM (E := aEI) (fun s9 B9 r9 ht9 e9 => k_X3_thrown ht9 e9) e662) ⟨Nat.le_of_ble_eq_true rfl, Nat.le_of_ble_eq_true rfl⟩ (As := []) (rest := []) rfl rfl (Nat.le_of_ble_eq_true rfl) dL_law_1718 (kI ?_) xI
  refine a_iload dL_law_1721 rfl ?_
  refine a_icmp_eq 1728 dL_law_1723 rfl (fun c663 => ?_) (fun c663 => ?_)
  · have hT := oifp c663 hT
    refine a_iload dL_law_1728 rfl ?_
    refine a_if_ne 1745 dL_law_1730 rfl (fun c664 => ?_) (fun c664 => ?_)
    · have hT := oifn c664 hT
      refine a_mask [true, true, true, true, true, true, false, false, true, true] ?_
      exact k_L_law_l1745 hT he
    · have hT := oifp c664 hT
      refine a_aload_n dL_law_1733 rfl ?_
      refine a_iconst (v := 0) dL_law_1734 (by decide) ?_
      obtain ⟨z666, e665, hT⟩ := obnd hT
      refine a_ldJ e665 dL_law_1735 ?_
      refine a_iload dL_law_1736 rfl ?_
      refine a_i2l dL_law_1738 ?_
      refine a_lcmp dL_law_1739 ?_
      refine a_if_eq 1745 dL_law_1740 rfl (fun c667 => ?_) (fun c667 => ?_)
      · have hT := oifp c667 hT
        refine a_mask [true, true, true, true, true, true, false, false, true, true] ?_
        exact k_L_law_l1745 hT he
      · have hT := oifn c667 hT
        refine a_iconst (v := 0) dL_law_1743 (by decide) ?_
        obtain rfl := Option.some.inj hT
        exact a_iret rfl (by decide) dL_law_1744 (he _ _ ⟨rfl, rfl⟩)
  · have hT := oifn c663 hT
    refine a_iconst (v := 0) dL_law_1726 (by decide) ?_
    obtain rfl := Option.some.inj hT
    exact a_iret rfl (by decide) dL_law_1727 (he _ _ ⟨rfl, rfl⟩)
noncomputable def t_L_law_l1801 (Z : aZ) (T : Nat → Nat) (h : aH) (v0 : Nat) (v1 : Nat) (v2 : Nat) (v3 : Nat) (v4 : Nat) (v5 : Int32) : Option ((Nat × Nat × Nat × Nat × Nat × Int32 × aH) ⊕ (Int32 × aH)) :=
  t_L_law_l2408 Z T h v0 v1 v2 v3 v4 v5
theorem k_L_law_l1801 {G : aG} {h0 : aH} {K : aRes → aH → Prop} {T : Nat → Nat} {h : aH} {v0 : Nat} {v1 : Nat} {v2 : Nat} {v3 : Nat} {v4 : Nat} {v5 : Int32} {e : ((Nat × Nat × Nat × Nat × Nat × Int32 × aH) ⊕ (Int32 × aH))} (hT : t_L_law_l1801 (gZ G) T h v0 v1 v2 v3 v4 v5 = some e) (he : (Sum.elim (p_L_law_b28 G h0 K) (fun e => aTo (aEI e.1 e.2) K)) e) : aW G M_L_law 8192 104096 h0 K h 1801 [some (.ref v0), some (.ref v1), some (.ref v2), some (.ref v3), some (.ref v4), some (.int v5), none, none, none, none] [] := by
  unfold t_L_law_l1801 at hT
  refine a_goto 2408 dL_law_1801 rfl ?_
  exact k_L_law_l2408 hT he
noncomputable def t_L_law_l1748 (Z : aZ) (T : Nat → Nat) (h : aH) (v0 : Nat) (v1 : Nat) (v2 : Nat) (v3 : Nat) (v4 : Nat) (v5 : Int32) : Option ((Nat × Nat × Nat × Nat × Nat × Int32 × aH) ⊕ (Int32 × aH)) :=
  (oldLd .int Z v0 (v5 + 1)).bind fun z670 =>
  (t_X0_richest Z h v1 z670 v3).bind fun r673 =>
  (oldLd .int Z v0 (v5 + 1)).bind fun z676 =>
  if isC 2 r673.2 v2 = true then
  (twc Z T r673.2 v2 (fun s9 => t_X3_richest s9 z676)).bind fun r680 =>
  if isC 2 r680.2 v2 = true then
  (twc Z T r680.2 v2 (fun s9 => t_X3_thrown s9)).bind fun r685 =>
  if r685.1 = r673.1 then
    if r673.1 = 0 then
      (ldJ Z r685.2 v3 0).bind fun z690 =>
      if (lg_cmp z690 ((r680.1 : Int32).toInt64)) = 0 then
        t_L_law_l1801 Z T r685.2 v0 v1 v2 v3 v4 v5
      else
        some (.inr ((0, r685.2)))
    else
      t_L_law_l1801 Z T r685.2 v0 v1 v2 v3 v4 v5
  else
    some (.inr ((0, r685.2)))
  else none
  else none
theorem k_L_law_l1748 {G : aG} {h0 : aH} {K : aRes → aH → Prop} {T : Nat → Nat} {h : aH} {v0 : Nat} {v1 : Nat} {v2 : Nat} {v3 : Nat} {v4 : Nat} {v5 : Int32} {e : ((Nat × Nat × Nat × Nat × Nat × Int32 × aH) ⊕ (Int32 × aH))} (hT : t_L_law_l1748 (gZ G) T h v0 v1 v2 v3 v4 v5 = some e) (he : (Sum.elim (p_L_law_b28 G h0 K) (fun e => aTo (aEI e.1 e.2) K)) e) : aW G M_L_law 8192 104096 h0 K h 1748 [some (.ref v0), some (.ref v1), some (.ref v2), some (.ref v3), some (.ref v4), some (.int v5), none, none, none, none] [] := by
  unfold t_L_law_l1748 at hT
  refine a_aload_n dL_law_1748 rfl ?_
  refine a_aload_n dL_law_1749 rfl ?_
  refine a_iload dL_law_1750 rfl ?_
  refine a_iconst (v := 1) dL_law_1752 (by decide) ?_
  refine a_iadd dL_law_1753 ?_
  obtain ⟨z670, e669, hT⟩ := obnd hT
  refine a_oldI e669 dL_law_1754 ?_
  refine a_aload_n dL_law_1755 rfl ?_
  obtain ⟨r673, e674, hT⟩ := obnd hT
  refine a_callSW ks_X0_220 (k_X0_richest e674) ⟨Nat.le_of_ble_eq_true rfl, Nat.le_of_ble_eq_true rfl⟩ (As := [.ref v1, .int z670, .ref v3]) (rest := []) rfl rfl (Nat.le_of_ble_eq_true rfl) dL_law_1756 (kI ?_) xI
  refine a_istore (lv' := [some (.ref v0), some (.ref v1), some (.ref v2), some (.ref v3), some (.ref v4), some (.int v5), some (.int r673.1), none, none, none]) dL_law_1759 rfl (by decide) rfl ?_
  refine a_aload_n dL_law_1761 rfl ?_
  refine a_aload_n dL_law_1762 rfl ?_
  refine a_iload dL_law_1763 rfl ?_
  refine a_iconst (v := 1) dL_law_1765 (by decide) ?_
  refine a_iadd dL_law_1766 ?_
  obtain ⟨z676, e675, hT⟩ := obnd hT
  refine a_oldI e675 dL_law_1767 ?_
  obtain ⟨g679, hT⟩ := oifg hT
  obtain ⟨r680, e681, hT⟩ := obnd hT
  refine a_callV kv_X0_222 g679 (twM (E := aEI) (fun s9 B9 r9 ht9 e9 => k_X3_richest ht9 e9) e681) ⟨Nat.le_of_ble_eq_true rfl, Nat.le_of_ble_eq_true rfl⟩ (As := [.int z676]) (rest := []) rfl rfl (Nat.le_of_ble_eq_true rfl) dL_law_1768 (kI ?_) xI
  refine a_istore (lv' := [some (.ref v0), some (.ref v1), some (.ref v2), some (.ref v3), some (.ref v4), some (.int v5), some (.int r673.1), some (.int r680.1), none, none]) dL_law_1771 rfl (by decide) rfl ?_
  refine a_aload_n dL_law_1773 rfl ?_
  obtain ⟨g684, hT⟩ := oifg hT
  obtain ⟨r685, e686, hT⟩ := obnd hT
  refine a_callV kv_X0_141 g684 (twM (E := aEI) (fun s9 B9 r9 ht9 e9 => k_X3_thrown ht9 e9) e686) ⟨Nat.le_of_ble_eq_true rfl, Nat.le_of_ble_eq_true rfl⟩ (As := []) (rest := []) rfl rfl (Nat.le_of_ble_eq_true rfl) dL_law_1774 (kI ?_) xI
  refine a_iload dL_law_1777 rfl ?_
  refine a_icmp_eq 1784 dL_law_1779 rfl (fun c687 => ?_) (fun c687 => ?_)
  · have hT := oifp c687 hT
    refine a_iload dL_law_1784 rfl ?_
    refine a_if_ne 1801 dL_law_1786 rfl (fun c688 => ?_) (fun c688 => ?_)
    · have hT := oifn c688 hT
      refine a_mask [true, true, true, true, true, true, false, false, true, true] ?_
      exact k_L_law_l1801 hT he
    · have hT := oifp c688 hT
      refine a_aload_n dL_law_1789 rfl ?_
      refine a_iconst (v := 0) dL_law_1790 (by decide) ?_
      obtain ⟨z690, e689, hT⟩ := obnd hT
      refine a_ldJ e689 dL_law_1791 ?_
      refine a_iload dL_law_1792 rfl ?_
      refine a_i2l dL_law_1794 ?_
      refine a_lcmp dL_law_1795 ?_
      refine a_if_eq 1801 dL_law_1796 rfl (fun c691 => ?_) (fun c691 => ?_)
      · have hT := oifp c691 hT
        refine a_mask [true, true, true, true, true, true, false, false, true, true] ?_
        exact k_L_law_l1801 hT he
      · have hT := oifn c691 hT
        refine a_iconst (v := 0) dL_law_1799 (by decide) ?_
        obtain rfl := Option.some.inj hT
        exact a_iret rfl (by decide) dL_law_1800 (he _ _ ⟨rfl, rfl⟩)
  · have hT := oifn c687 hT
    refine a_iconst (v := 0) dL_law_1782 (by decide) ?_
    obtain rfl := Option.some.inj hT
    exact a_iret rfl (by decide) dL_law_1783 (he _ _ ⟨rfl, rfl⟩)
noncomputable def t_L_law_l1859 (Z : aZ) (T : Nat → Nat) (h : aH) (v0 : Nat) (v1 : Nat) (v2 : Nat) (v3 : Nat) (v4 : Nat) (v5 : Int32) : Option ((Nat × Nat × Nat × Nat × Nat × Int32 × aH) ⊕ (Int32 × aH)) :=
  t_L_law_l2408 Z T h v0 v1 v2 v3 v4 v5
theorem k_L_law_l1859 {G : aG} {h0 : aH} {K : aRes → aH → Prop} {T : Nat → Nat} {h : aH} {v0 : Nat} {v1 : Nat} {v2 : Nat} {v3 : Nat} {v4 : Nat} {v5 : Int32} {e : ((Nat × Nat × Nat × Nat × Nat × Int32 × aH) ⊕ (Int32 × aH))} (hT : t_L_law_l1859 (gZ G) T h v0 v1 v2 v3 v4 v5 = some e) (he : (Sum.elim (p_L_law_b28 G h0 K) (fun e => aTo (aEI e.1 e.2) K)) e) : aW G M_L_law 8192 104096 h0 K h 1859 [some (.ref v0), some (.ref v1), some (.ref v2), some (.ref v3), some (.ref v4), some (.int v5), none, none, none, none] [] := by
  unfold t_L_law_l1859 at hT
  refine a_goto 2408 dL_law_1859 rfl ?_
  exact k_L_law_l2408 hT he
noncomputable def t_L_law_l1804 (Z : aZ) (T : Nat → Nat) (h : aH) (v0 : Nat) (v1 : Nat) (v2 : Nat) (v3 : Nat) (v4 : Nat) (v5 : Int32) : Option ((Nat × Nat × Nat × Nat × Nat × Int32 × aH) ⊕ (Int32 × aH)) :=
  (oldLd .int Z v0 (v5 + 1)).bind fun z694 =>
  (t_X0_append Z h v1 (((z694 : Int32).toUInt32 % 65536).toInt32) v3).bind fun r697 =>
  (oldLd .int Z v0 (v5 + 1)).bind fun z700 =>
  if isC 2 r697.2 v2 = true then
  (twc Z T r697.2 v2 (fun s9 => t_X3_append s9 (((z700 : Int32).toUInt32 % 65536).toInt32))).bind fun r704 =>
  if isC 2 r704.2 v2 = true then
  (twc Z T r704.2 v2 (fun s9 => t_X3_thrown s9)).bind fun r709 =>
  if r709.1 = r697.1 then
    if r697.1 = 0 then
      (ldJ Z r709.2 v3 0).bind fun z714 =>
      if (lg_cmp z714 ((r704.1 : Int32).toInt64)) = 0 then
        t_L_law_l1859 Z T r709.2 v0 v1 v2 v3 v4 v5
      else
        some (.inr ((0, r709.2)))
    else
      t_L_law_l1859 Z T r709.2 v0 v1 v2 v3 v4 v5
  else
    some (.inr ((0, r709.2)))
  else none
  else none
theorem k_L_law_l1804 {G : aG} {h0 : aH} {K : aRes → aH → Prop} {T : Nat → Nat} {h : aH} {v0 : Nat} {v1 : Nat} {v2 : Nat} {v3 : Nat} {v4 : Nat} {v5 : Int32} {e : ((Nat × Nat × Nat × Nat × Nat × Int32 × aH) ⊕ (Int32 × aH))} (hT : t_L_law_l1804 (gZ G) T h v0 v1 v2 v3 v4 v5 = some e) (he : (Sum.elim (p_L_law_b28 G h0 K) (fun e => aTo (aEI e.1 e.2) K)) e) : aW G M_L_law 8192 104096 h0 K h 1804 [some (.ref v0), some (.ref v1), some (.ref v2), some (.ref v3), some (.ref v4), some (.int v5), none, none, none, none] [] := by
  unfold t_L_law_l1804 at hT
  refine a_aload_n dL_law_1804 rfl ?_
  refine a_aload_n dL_law_1805 rfl ?_
  refine a_iload dL_law_1806 rfl ?_
  refine a_iconst (v := 1) dL_law_1808 (by decide) ?_
  refine a_iadd dL_law_1809 ?_
  obtain ⟨z694, e693, hT⟩ := obnd hT
  refine a_oldI e693 dL_law_1810 ?_
  refine a_i2c dL_law_1811 ?_
  refine a_aload_n dL_law_1812 rfl ?_
  obtain ⟨r697, e698, hT⟩ := obnd hT
  refine a_callSW ks_X0_223 (k_X0_append e698) ⟨Nat.le_of_ble_eq_true rfl, Nat.le_of_ble_eq_true rfl⟩ (As := [.ref v1, .int (((z694 : Int32).toUInt32 % 65536).toInt32), .ref v3]) (rest := []) rfl rfl (Nat.le_of_ble_eq_true rfl) dL_law_1813 (kI ?_) xI
  refine a_istore (lv' := [some (.ref v0), some (.ref v1), some (.ref v2), some (.ref v3), some (.ref v4), some (.int v5), some (.int r697.1), none, none, none]) dL_law_1816 rfl (by decide) rfl ?_
  refine a_aload_n dL_law_1818 rfl ?_
  refine a_aload_n dL_law_1819 rfl ?_
  refine a_iload dL_law_1820 rfl ?_
  refine a_iconst (v := 1) dL_law_1822 (by decide) ?_
  refine a_iadd dL_law_1823 ?_
  obtain ⟨z700, e699, hT⟩ := obnd hT
  refine a_oldI e699 dL_law_1824 ?_
  refine a_i2c dL_law_1825 ?_
  obtain ⟨g703, hT⟩ := oifg hT
  obtain ⟨r704, e705, hT⟩ := obnd hT
  refine a_callV kv_X0_226 g703 (twM (E := aEI) (fun s9 B9 r9 ht9 e9 => k_X3_append ht9 e9) e705) ⟨Nat.le_of_ble_eq_true rfl, Nat.le_of_ble_eq_true rfl⟩ (As := [.int (((z700 : Int32).toUInt32 % 65536).toInt32)]) (rest := []) rfl rfl (Nat.le_of_ble_eq_true rfl) dL_law_1826 (kI ?_) xI
  refine a_istore (lv' := [some (.ref v0), some (.ref v1), some (.ref v2), some (.ref v3), some (.ref v4), some (.int v5), some (.int r697.1), some (.int r704.1), none, none]) dL_law_1829 rfl (by decide) rfl ?_
  refine a_aload_n dL_law_1831 rfl ?_
  obtain ⟨g708, hT⟩ := oifg hT
  obtain ⟨r709, e710, hT⟩ := obnd hT
  refine a_callV kv_X0_141 g708 (twM (E := aEI) (fun s9 B9 r9 ht9 e9 => k_X3_thrown ht9 e9) e710) ⟨Nat.le_of_ble_eq_true rfl, Nat.le_of_ble_eq_true rfl⟩ (As := []) (rest := []) rfl rfl (Nat.le_of_ble_eq_true rfl) dL_law_1832 (kI ?_) xI
  refine a_iload dL_law_1835 rfl ?_
  refine a_icmp_eq 1842 dL_law_1837 rfl (fun c711 => ?_) (fun c711 => ?_)
  · have hT := oifp c711 hT
    refine a_iload dL_law_1842 rfl ?_
    refine a_if_ne 1859 dL_law_1844 rfl (fun c712 => ?_) (fun c712 => ?_)
    · have hT := oifn c712 hT
      refine a_mask [true, true, true, true, true, true, false, false, true, true] ?_
      exact k_L_law_l1859 hT he
    · have hT := oifp c712 hT
      refine a_aload_n dL_law_1847 rfl ?_
      refine a_iconst (v := 0) dL_law_1848 (by decide) ?_
      obtain ⟨z714, e713, hT⟩ := obnd hT
      refine a_ldJ e713 dL_law_1849 ?_
      refine a_iload dL_law_1850 rfl ?_
      refine a_i2l dL_law_1852 ?_
      refine a_lcmp dL_law_1853 ?_
      refine a_if_eq 1859 dL_law_1854 rfl (fun c715 => ?_) (fun c715 => ?_)
      · have hT := oifp c715 hT
        refine a_mask [true, true, true, true, true, true, false, false, true, true] ?_
        exact k_L_law_l1859 hT he
      · have hT := oifn c715 hT
        refine a_iconst (v := 0) dL_law_1857 (by decide) ?_
        obtain rfl := Option.some.inj hT
        exact a_iret rfl (by decide) dL_law_1858 (he _ _ ⟨rfl, rfl⟩)
  · have hT := oifn c711 hT
    refine a_iconst (v := 0) dL_law_1840 (by decide) ?_
    obtain rfl := Option.some.inj hT
    exact a_iret rfl (by decide) dL_law_1841 (he _ _ ⟨rfl, rfl⟩)
noncomputable def t_L_law_l1903 (Z : aZ) (T : Nat → Nat) (h : aH) (v0 : Nat) (v1 : Nat) (v2 : Nat) (v3 : Nat) (v4 : Nat) (v5 : Int32) : Option ((Nat × Nat × Nat × Nat × Nat × Int32 × aH) ⊕ (Int32 × aH)) :=
  t_L_law_l2408 Z T h v0 v1 v2 v3 v4 v5
theorem k_L_law_l1903 {G : aG} {h0 : aH} {K : aRes → aH → Prop} {T : Nat → Nat} {h : aH} {v0 : Nat} {v1 : Nat} {v2 : Nat} {v3 : Nat} {v4 : Nat} {v5 : Int32} {e : ((Nat × Nat × Nat × Nat × Nat × Int32 × aH) ⊕ (Int32 × aH))} (hT : t_L_law_l1903 (gZ G) T h v0 v1 v2 v3 v4 v5 = some e) (he : (Sum.elim (p_L_law_b28 G h0 K) (fun e => aTo (aEI e.1 e.2) K)) e) : aW G M_L_law 8192 104096 h0 K h 1903 [some (.ref v0), some (.ref v1), some (.ref v2), some (.ref v3), some (.ref v4), some (.int v5), none, none, none, none] [] := by
  unfold t_L_law_l1903 at hT
  refine a_goto 2408 dL_law_1903 rfl ?_
  exact k_L_law_l2408 hT he
noncomputable def t_L_law_l1862 (Z : aZ) (T : Nat → Nat) (h : aH) (v0 : Nat) (v1 : Nat) (v2 : Nat) (v3 : Nat) (v4 : Nat) (v5 : Int32) : Option ((Nat × Nat × Nat × Nat × Nat × Int32 × aH) ⊕ (Int32 × aH)) :=
  (t_X0_commands Z h v1 v3).bind fun r719 =>
  if isC 2 r719.2 v2 = true then
  (twc Z T r719.2 v2 (fun s9 => t_X3_commands s9)).bind fun r724 =>
  if isC 2 r724.2 v2 = true then
  (twc Z T r724.2 v2 (fun s9 => t_X3_thrown s9)).bind fun r729 =>
  if r729.1 = r719.1 then
    if r719.1 = 0 then
      (ldJ Z r729.2 v3 0).bind fun z734 =>
      if (lg_cmp z734 ((r724.1 : Int32).toInt64)) = 0 then
        t_L_law_l1903 Z T r729.2 v0 v1 v2 v3 v4 v5
      else
        some (.inr ((0, r729.2)))
    else
      t_L_law_l1903 Z T r729.2 v0 v1 v2 v3 v4 v5
  else
    some (.inr ((0, r729.2)))
  else none
  else none
theorem k_L_law_l1862 {G : aG} {h0 : aH} {K : aRes → aH → Prop} {T : Nat → Nat} {h : aH} {v0 : Nat} {v1 : Nat} {v2 : Nat} {v3 : Nat} {v4 : Nat} {v5 : Int32} {e : ((Nat × Nat × Nat × Nat × Nat × Int32 × aH) ⊕ (Int32 × aH))} (hT : t_L_law_l1862 (gZ G) T h v0 v1 v2 v3 v4 v5 = some e) (he : (Sum.elim (p_L_law_b28 G h0 K) (fun e => aTo (aEI e.1 e.2) K)) e) : aW G M_L_law 8192 104096 h0 K h 1862 [some (.ref v0), some (.ref v1), some (.ref v2), some (.ref v3), some (.ref v4), some (.int v5), none, none, none, none] [] := by
  unfold t_L_law_l1862 at hT
  refine a_aload_n dL_law_1862 rfl ?_
  refine a_aload_n dL_law_1863 rfl ?_
  obtain ⟨r719, e720, hT⟩ := obnd hT
  refine a_callSW ks_X0_227 (k_X0_commands e720) ⟨Nat.le_of_ble_eq_true rfl, Nat.le_of_ble_eq_true rfl⟩ (As := [.ref v1, .ref v3]) (rest := []) rfl rfl (Nat.le_of_ble_eq_true rfl) dL_law_1864 (kI ?_) xI
  refine a_istore (lv' := [some (.ref v0), some (.ref v1), some (.ref v2), some (.ref v3), some (.ref v4), some (.int v5), some (.int r719.1), none, none, none]) dL_law_1867 rfl (by decide) rfl ?_
  refine a_aload_n dL_law_1869 rfl ?_
  obtain ⟨g723, hT⟩ := oifg hT
  obtain ⟨r724, e725, hT⟩ := obnd hT
  refine a_callV kv_X0_230 g723 (twM (E := aEI) (fun s9 B9 r9 ht9 e9 => k_X3_commands ht9 e9) e725) ⟨Nat.le_of_ble_eq_true rfl, Nat.le_of_ble_eq_true rfl⟩ (As := []) (rest := []) rfl rfl (Nat.le_of_ble_eq_true rfl) dL_law_1870 (kI ?_) xI
  refine a_istore (lv' := [some (.ref v0), some (.ref v1), some (.ref v2), some (.ref v3), some (.ref v4), some (.int v5), some (.int r719.1), some (.int r724.1), none, none]) dL_law_1873 rfl (by decide) rfl ?_
  refine a_aload_n dL_law_1875 rfl ?_
  obtain ⟨g728, hT⟩ := oifg hT
  obtain ⟨r729, e730, hT⟩ := obnd hT
  refine a_callV kv_X0_141 g728 (twM (E := aEI) (fun s9 B9 r9 ht9 e9 => k_X3_thrown ht9 e9) e730) ⟨Nat.le_of_ble_eq_true rfl, Nat.le_of_ble_eq_true rfl⟩ (As := []) (rest := []) rfl rfl (Nat.le_of_ble_eq_true rfl) dL_law_1876 (kI ?_) xI
  refine a_iload dL_law_1879 rfl ?_
  refine a_icmp_eq 1886 dL_law_1881 rfl (fun c731 => ?_) (fun c731 => ?_)
  · have hT := oifp c731 hT
    refine a_iload dL_law_1886 rfl ?_
    refine a_if_ne 1903 dL_law_1888 rfl (fun c732 => ?_) (fun c732 => ?_)
    · have hT := oifn c732 hT
      refine a_mask [true, true, true, true, true, true, false, false, true, true] ?_
      exact k_L_law_l1903 hT he
    · have hT := oifp c732 hT
      refine a_aload_n dL_law_1891 rfl ?_
      refine a_iconst (v := 0) dL_law_1892 (by decide) ?_
      obtain ⟨z734, e733, hT⟩ := obnd hT
      refine a_ldJ e733 dL_law_1893 ?_
      refine a_iload dL_law_1894 rfl ?_
      refine a_i2l dL_law_1896 ?_
      refine a_lcmp dL_law_1897 ?_
      refine a_if_eq 1903 dL_law_1898 rfl (fun c735 => ?_) (fun c735 => ?_)
      · have hT := oifp c735 hT
        refine a_mask [true, true, true, true, true, true, false, false, true, true] ?_
        exact k_L_law_l1903 hT he
      · have hT := oifn c735 hT
        refine a_iconst (v := 0) dL_law_1901 (by decide) ?_
        obtain rfl := Option.some.inj hT
        exact a_iret rfl (by decide) dL_law_1902 (he _ _ ⟨rfl, rfl⟩)
  · have hT := oifn c731 hT
    refine a_iconst (v := 0) dL_law_1884 (by decide) ?_
    obtain rfl := Option.some.inj hT
    exact a_iret rfl (by decide) dL_law_1885 (he _ _ ⟨rfl, rfl⟩)
noncomputable def t_L_law_l1906 (Z : aZ) (T : Nat → Nat) (h : aH) (v0 : Nat) (v1 : Nat) (v2 : Nat) (v3 : Nat) (v4 : Nat) (v5 : Int32) : Option ((Nat × Nat × Nat × Nat × Nat × Int32 × aH) ⊕ (Int32 × aH)) :=
  if isC 0 h v1 = true then
  (t_X1_faultPosition Z h v1).bind fun r740 =>
  if isC 2 r740.2 v2 = true then
  (twc Z T r740.2 v2 (fun s9 => t_X3_faultPosition s9)).bind fun r745 =>
  if r740.1 = r745.1 then
    t_L_law_l2408 Z T r745.2 v0 v1 v2 v3 v4 v5
  else
    some (.inr ((0, r745.2)))
  else none
  else none
theorem k_L_law_l1906 {G : aG} {h0 : aH} {K : aRes → aH → Prop} {T : Nat → Nat} {h : aH} {v0 : Nat} {v1 : Nat} {v2 : Nat} {v3 : Nat} {v4 : Nat} {v5 : Int32} {e : ((Nat × Nat × Nat × Nat × Nat × Int32 × aH) ⊕ (Int32 × aH))} (hT : t_L_law_l1906 (gZ G) T h v0 v1 v2 v3 v4 v5 = some e) (he : (Sum.elim (p_L_law_b28 G h0 K) (fun e => aTo (aEI e.1 e.2) K)) e) : aW G M_L_law 8192 104096 h0 K h 1906 [some (.ref v0), some (.ref v1), some (.ref v2), some (.ref v3), some (.ref v4), some (.int v5), none, none, none, none] [] := by
  unfold t_L_law_l1906 at hT
  refine a_aload_n dL_law_1906 rfl ?_
  obtain ⟨g739, hT⟩ := oifg hT
  obtain ⟨r740, e741, hT⟩ := obnd hT
  refine a_callV kv_X0_231 g739 (k_X1_faultPosition e741) ⟨Nat.le_of_ble_eq_true rfl, Nat.le_of_ble_eq_true rfl⟩ (As := []) (rest := []) rfl rfl (Nat.le_of_ble_eq_true rfl) dL_law_1907 (kI ?_) xI
  refine a_aload_n dL_law_1910 rfl ?_
  obtain ⟨g744, hT⟩ := oifg hT
  obtain ⟨r745, e746, hT⟩ := obnd hT
  refine a_callV kv_X0_234 g744 (twM (E := aEI) (fun s9 B9 r9 ht9 e9 => k_X3_faultPosition ht9 e9) e746) ⟨Nat.le_of_ble_eq_true rfl, Nat.le_of_ble_eq_true rfl⟩ (As := []) (rest := [.int r740.1]) rfl rfl (Nat.le_of_ble_eq_true rfl) dL_law_1911 (kI ?_) xI
  refine a_icmp_eq 2408 dL_law_1914 rfl (fun c747 => ?_) (fun c747 => ?_)
  · have hT := oifp c747 hT
    exact k_L_law_l2408 hT he
  · have hT := oifn c747 hT
    refine a_iconst (v := 0) dL_law_1917 (by decide) ?_
    obtain rfl := Option.some.inj hT
    exact a_iret rfl (by decide) dL_law_1918 (he _ _ ⟨rfl, rfl⟩)
noncomputable def t_L_law_l1972 (Z : aZ) (T : Nat → Nat) (h : aH) (v0 : Nat) (v1 : Nat) (v2 : Nat) (v3 : Nat) (v4 : Nat) (v5 : Int32) : Option ((Nat × Nat × Nat × Nat × Nat × Int32 × aH) ⊕ (Int32 × aH)) :=
  t_L_law_l2408 Z T h v0 v1 v2 v3 v4 v5
theorem k_L_law_l1972 {G : aG} {h0 : aH} {K : aRes → aH → Prop} {T : Nat → Nat} {h : aH} {v0 : Nat} {v1 : Nat} {v2 : Nat} {v3 : Nat} {v4 : Nat} {v5 : Int32} {e : ((Nat × Nat × Nat × Nat × Nat × Int32 × aH) ⊕ (Int32 × aH))} (hT : t_L_law_l1972 (gZ G) T h v0 v1 v2 v3 v4 v5 = some e) (he : (Sum.elim (p_L_law_b28 G h0 K) (fun e => aTo (aEI e.1 e.2) K)) e) : aW G M_L_law 8192 104096 h0 K h 1972 [some (.ref v0), some (.ref v1), some (.ref v2), some (.ref v3), some (.ref v4), some (.int v5), none, none, none, none] [] := by
  unfold t_L_law_l1972 at hT
  refine a_goto 2408 dL_law_1972 rfl ?_
  exact k_L_law_l2408 hT he
noncomputable def t_L_law_l1919 (Z : aZ) (T : Nat → Nat) (h : aH) (v0 : Nat) (v1 : Nat) (v2 : Nat) (v3 : Nat) (v4 : Nat) (v5 : Int32) : Option ((Nat × Nat × Nat × Nat × Nat × Int32 × aH) ⊕ (Int32 × aH)) :=
  (oldLd .int Z v0 (v5 + 1)).bind fun z750 =>
  (t_X0_reason Z h v1 z750 v3).bind fun r753 =>
  (oldLd .int Z v0 (v5 + 1)).bind fun z756 =>
  if isC 2 r753.2 v2 = true then
  (twc Z T r753.2 v2 (fun s9 => t_X3_reason s9 z756)).bind fun r760 =>
  if isC 2 r760.2 v2 = true then
  (twc Z T r760.2 v2 (fun s9 => t_X3_thrown s9)).bind fun r765 =>
  if r765.1 = r753.1 then
    if r753.1 = 0 then
      (ldJ Z r765.2 v3 0).bind fun z770 =>
      if (lg_cmp z770 ((r760.1 : Int32).toInt64)) = 0 then
        t_L_law_l1972 Z T r765.2 v0 v1 v2 v3 v4 v5
      else
        some (.inr ((0, r765.2)))
    else
      t_L_law_l1972 Z T r765.2 v0 v1 v2 v3 v4 v5
  else
    some (.inr ((0, r765.2)))
  else none
  else none
theorem k_L_law_l1919 {G : aG} {h0 : aH} {K : aRes → aH → Prop} {T : Nat → Nat} {h : aH} {v0 : Nat} {v1 : Nat} {v2 : Nat} {v3 : Nat} {v4 : Nat} {v5 : Int32} {e : ((Nat × Nat × Nat × Nat × Nat × Int32 × aH) ⊕ (Int32 × aH))} (hT : t_L_law_l1919 (gZ G) T h v0 v1 v2 v3 v4 v5 = some e) (he : (Sum.elim (p_L_law_b28 G h0 K) (fun e => aTo (aEI e.1 e.2) K)) e) : aW G M_L_law 8192 104096 h0 K h 1919 [some (.ref v0), some (.ref v1), some (.ref v2), some (.ref v3), some (.ref v4), some (.int v5), none, none, none, none] [] := by
  unfold t_L_law_l1919 at hT
  refine a_aload_n dL_law_1919 rfl ?_
  refine a_aload_n dL_law_1920 rfl ?_
  refine a_iload dL_law_1921 rfl ?_
  refine a_iconst (v := 1) dL_law_1923 (by decide) ?_
  refine a_iadd dL_law_1924 ?_
  obtain ⟨z750, e749, hT⟩ := obnd hT
  refine a_oldI e749 dL_law_1925 ?_
  refine a_aload_n dL_law_1926 rfl ?_
  obtain ⟨r753, e754, hT⟩ := obnd hT
  refine a_callSW ks_X0_235 (k_X0_reason e754) ⟨Nat.le_of_ble_eq_true rfl, Nat.le_of_ble_eq_true rfl⟩ (As := [.ref v1, .int z750, .ref v3]) (rest := []) rfl rfl (Nat.le_of_ble_eq_true rfl) dL_law_1927 (kI ?_) xI
  refine a_istore (lv' := [some (.ref v0), some (.ref v1), some (.ref v2), some (.ref v3), some (.ref v4), some (.int v5), some (.int r753.1), none, none, none]) dL_law_1930 rfl (by decide) rfl ?_
  refine a_aload_n dL_law_1932 rfl ?_
  refine a_aload_n dL_law_1933 rfl ?_
  refine a_iload dL_law_1934 rfl ?_
  refine a_iconst (v := 1) dL_law_1936 (by decide) ?_
  refine a_iadd dL_law_1937 ?_
  obtain ⟨z756, e755, hT⟩ := obnd hT
  refine a_oldI e755 dL_law_1938 ?_
  obtain ⟨g759, hT⟩ := oifg hT
  obtain ⟨r760, e761, hT⟩ := obnd hT
  refine a_callV kv_X0_237 g759 (twM (E := aEI) (fun s9 B9 r9 ht9 e9 => k_X3_reason ht9 e9) e761) ⟨Nat.le_of_ble_eq_true rfl, Nat.le_of_ble_eq_true rfl⟩ (As := [.int z756]) (rest := []) rfl rfl (Nat.le_of_ble_eq_true rfl) dL_law_1939 (kI ?_) xI
  refine a_istore (lv' := [some (.ref v0), some (.ref v1), some (.ref v2), some (.ref v3), some (.ref v4), some (.int v5), some (.int r753.1), some (.int r760.1), none, none]) dL_law_1942 rfl (by decide) rfl ?_
  refine a_aload_n dL_law_1944 rfl ?_
  obtain ⟨g764, hT⟩ := oifg hT
  obtain ⟨r765, e766, hT⟩ := obnd hT
  refine a_callV kv_X0_141 g764 (twM (E := aEI) (fun s9 B9 r9 ht9 e9 => k_X3_thrown ht9 e9) e766) ⟨Nat.le_of_ble_eq_true rfl, Nat.le_of_ble_eq_true rfl⟩ (As := []) (rest := []) rfl rfl (Nat.le_of_ble_eq_true rfl) dL_law_1945 (kI ?_) xI
  refine a_iload dL_law_1948 rfl ?_
  refine a_icmp_eq 1955 dL_law_1950 rfl (fun c767 => ?_) (fun c767 => ?_)
  · have hT := oifp c767 hT
    refine a_iload dL_law_1955 rfl ?_
    refine a_if_ne 1972 dL_law_1957 rfl (fun c768 => ?_) (fun c768 => ?_)
    · have hT := oifn c768 hT
      refine a_mask [true, true, true, true, true, true, false, false, true, true] ?_
      exact k_L_law_l1972 hT he
    · have hT := oifp c768 hT
      refine a_aload_n dL_law_1960 rfl ?_
      refine a_iconst (v := 0) dL_law_1961 (by decide) ?_
      obtain ⟨z770, e769, hT⟩ := obnd hT
      refine a_ldJ e769 dL_law_1962 ?_
      refine a_iload dL_law_1963 rfl ?_
      refine a_i2l dL_law_1965 ?_
      refine a_lcmp dL_law_1966 ?_
      refine a_if_eq 1972 dL_law_1967 rfl (fun c771 => ?_) (fun c771 => ?_)
      · have hT := oifp c771 hT
        refine a_mask [true, true, true, true, true, true, false, false, true, true] ?_
        exact k_L_law_l1972 hT he
      · have hT := oifn c771 hT
        refine a_iconst (v := 0) dL_law_1970 (by decide) ?_
        obtain rfl := Option.some.inj hT
        exact a_iret rfl (by decide) dL_law_1971 (he _ _ ⟨rfl, rfl⟩)
  · have hT := oifn c767 hT
    refine a_iconst (v := 0) dL_law_1953 (by decide) ?_
    obtain rfl := Option.some.inj hT
    exact a_iret rfl (by decide) dL_law_1954 (he _ _ ⟨rfl, rfl⟩)
noncomputable def t_L_law_l2028 (Z : aZ) (T : Nat → Nat) (h : aH) (v0 : Nat) (v1 : Nat) (v2 : Nat) (v3 : Nat) (v4 : Nat) (v5 : Int32) : Option ((Nat × Nat × Nat × Nat × Nat × Int32 × aH) ⊕ (Int32 × aH)) :=
  t_L_law_l2408 Z T h v0 v1 v2 v3 v4 v5
theorem k_L_law_l2028 {G : aG} {h0 : aH} {K : aRes → aH → Prop} {T : Nat → Nat} {h : aH} {v0 : Nat} {v1 : Nat} {v2 : Nat} {v3 : Nat} {v4 : Nat} {v5 : Int32} {e : ((Nat × Nat × Nat × Nat × Nat × Int32 × aH) ⊕ (Int32 × aH))} (hT : t_L_law_l2028 (gZ G) T h v0 v1 v2 v3 v4 v5 = some e) (he : (Sum.elim (p_L_law_b28 G h0 K) (fun e => aTo (aEI e.1 e.2) K)) e) : aW G M_L_law 8192 104096 h0 K h 2028 [some (.ref v0), some (.ref v1), some (.ref v2), some (.ref v3), some (.ref v4), some (.int v5), none, none, none, none] [] := by
  unfold t_L_law_l2028 at hT
  refine a_goto 2408 dL_law_2028 rfl ?_
  exact k_L_law_l2408 hT he
noncomputable def t_L_law_l1975 (Z : aZ) (T : Nat → Nat) (h : aH) (v0 : Nat) (v1 : Nat) (v2 : Nat) (v3 : Nat) (v4 : Nat) (v5 : Int32) : Option ((Nat × Nat × Nat × Nat × Nat × Int32 × aH) ⊕ (Int32 × aH)) :=
  (oldLd .int Z v0 (v5 + 1)).bind fun z774 =>
  (t_X0_line Z h v1 z774 v3).bind fun r777 =>
  (oldLd .int Z v0 (v5 + 1)).bind fun z780 =>
  if isC 2 r777.2 v2 = true then
  (twc Z T r777.2 v2 (fun s9 => t_X3_line s9 z780)).bind fun r784 =>
  if isC 2 r784.2 v2 = true then
  (twc Z T r784.2 v2 (fun s9 => t_X3_thrown s9)).bind fun r789 =>
  if r789.1 = r777.1 then
    if r777.1 = 0 then
      (ldJ Z r789.2 v3 0).bind fun z794 =>
      if (lg_cmp z794 ((r784.1 : Int32).toInt64)) = 0 then
        t_L_law_l2028 Z T r789.2 v0 v1 v2 v3 v4 v5
      else
        some (.inr ((0, r789.2)))
    else
      t_L_law_l2028 Z T r789.2 v0 v1 v2 v3 v4 v5
  else
    some (.inr ((0, r789.2)))
  else none
  else none
theorem k_L_law_l1975 {G : aG} {h0 : aH} {K : aRes → aH → Prop} {T : Nat → Nat} {h : aH} {v0 : Nat} {v1 : Nat} {v2 : Nat} {v3 : Nat} {v4 : Nat} {v5 : Int32} {e : ((Nat × Nat × Nat × Nat × Nat × Int32 × aH) ⊕ (Int32 × aH))} (hT : t_L_law_l1975 (gZ G) T h v0 v1 v2 v3 v4 v5 = some e) (he : (Sum.elim (p_L_law_b28 G h0 K) (fun e => aTo (aEI e.1 e.2) K)) e) : aW G M_L_law 8192 104096 h0 K h 1975 [some (.ref v0), some (.ref v1), some (.ref v2), some (.ref v3), some (.ref v4), some (.int v5), none, none, none, none] [] := by
  unfold t_L_law_l1975 at hT
  refine a_aload_n dL_law_1975 rfl ?_
  refine a_aload_n dL_law_1976 rfl ?_
  refine a_iload dL_law_1977 rfl ?_
  refine a_iconst (v := 1) dL_law_1979 (by decide) ?_
  refine a_iadd dL_law_1980 ?_
  obtain ⟨z774, e773, hT⟩ := obnd hT
  refine a_oldI e773 dL_law_1981 ?_
  refine a_aload_n dL_law_1982 rfl ?_
  obtain ⟨r777, e778, hT⟩ := obnd hT
  refine a_callSW ks_X0_238 (k_X0_line e778) ⟨Nat.le_of_ble_eq_true rfl, Nat.le_of_ble_eq_true rfl⟩ (As := [.ref v1, .int z774, .ref v3]) (rest := []) rfl rfl (Nat.le_of_ble_eq_true rfl) dL_law_1983 (kI ?_) xI
  refine a_istore (lv' := [some (.ref v0), some (.ref v1), some (.ref v2), some (.ref v3), some (.ref v4), some (.int v5), some (.int r777.1), none, none, none]) dL_law_1986 rfl (by decide) rfl ?_
  refine a_aload_n dL_law_1988 rfl ?_
  refine a_aload_n dL_law_1989 rfl ?_
  refine a_iload dL_law_1990 rfl ?_
  refine a_iconst (v := 1) dL_law_1992 (by decide) ?_
  refine a_iadd dL_law_1993 ?_
  obtain ⟨z780, e779, hT⟩ := obnd hT
  refine a_oldI e779 dL_law_1994 ?_
  obtain ⟨g783, hT⟩ := oifg hT
  obtain ⟨r784, e785, hT⟩ := obnd hT
  refine a_callV kv_X0_240 g783 (twM (E := aEI) (fun s9 B9 r9 ht9 e9 => k_X3_line ht9 e9) e785) ⟨Nat.le_of_ble_eq_true rfl, Nat.le_of_ble_eq_true rfl⟩ (As := [.int z780]) (rest := []) rfl rfl (Nat.le_of_ble_eq_true rfl) dL_law_1995 (kI ?_) xI
  refine a_istore (lv' := [some (.ref v0), some (.ref v1), some (.ref v2), some (.ref v3), some (.ref v4), some (.int v5), some (.int r777.1), some (.int r784.1), none, none]) dL_law_1998 rfl (by decide) rfl ?_
  refine a_aload_n dL_law_2000 rfl ?_
  obtain ⟨g788, hT⟩ := oifg hT
  obtain ⟨r789, e790, hT⟩ := obnd hT
  refine a_callV kv_X0_141 g788 (twM (E := aEI) (fun s9 B9 r9 ht9 e9 => k_X3_thrown ht9 e9) e790) ⟨Nat.le_of_ble_eq_true rfl, Nat.le_of_ble_eq_true rfl⟩ (As := []) (rest := []) rfl rfl (Nat.le_of_ble_eq_true rfl) dL_law_2001 (kI ?_) xI
  refine a_iload dL_law_2004 rfl ?_
  refine a_icmp_eq 2011 dL_law_2006 rfl (fun c791 => ?_) (fun c791 => ?_)
  · have hT := oifp c791 hT
    refine a_iload dL_law_2011 rfl ?_
    refine a_if_ne 2028 dL_law_2013 rfl (fun c792 => ?_) (fun c792 => ?_)
    · have hT := oifn c792 hT
      refine a_mask [true, true, true, true, true, true, false, false, true, true] ?_
      exact k_L_law_l2028 hT he
    · have hT := oifp c792 hT
      refine a_aload_n dL_law_2016 rfl ?_
      refine a_iconst (v := 0) dL_law_2017 (by decide) ?_
      obtain ⟨z794, e793, hT⟩ := obnd hT
      refine a_ldJ e793 dL_law_2018 ?_
      refine a_iload dL_law_2019 rfl ?_
      refine a_i2l dL_law_2021 ?_
      refine a_lcmp dL_law_2022 ?_
      refine a_if_eq 2028 dL_law_2023 rfl (fun c795 => ?_) (fun c795 => ?_)
      · have hT := oifp c795 hT
        refine a_mask [true, true, true, true, true, true, false, false, true, true] ?_
        exact k_L_law_l2028 hT he
      · have hT := oifn c795 hT
        refine a_iconst (v := 0) dL_law_2026 (by decide) ?_
        obtain rfl := Option.some.inj hT
        exact a_iret rfl (by decide) dL_law_2027 (he _ _ ⟨rfl, rfl⟩)
  · have hT := oifn c791 hT
    refine a_iconst (v := 0) dL_law_2009 (by decide) ?_
    obtain rfl := Option.some.inj hT
    exact a_iret rfl (by decide) dL_law_2010 (he _ _ ⟨rfl, rfl⟩)
noncomputable def t_L_law_l2084 (Z : aZ) (T : Nat → Nat) (h : aH) (v0 : Nat) (v1 : Nat) (v2 : Nat) (v3 : Nat) (v4 : Nat) (v5 : Int32) : Option ((Nat × Nat × Nat × Nat × Nat × Int32 × aH) ⊕ (Int32 × aH)) :=
  t_L_law_l2408 Z T h v0 v1 v2 v3 v4 v5
theorem k_L_law_l2084 {G : aG} {h0 : aH} {K : aRes → aH → Prop} {T : Nat → Nat} {h : aH} {v0 : Nat} {v1 : Nat} {v2 : Nat} {v3 : Nat} {v4 : Nat} {v5 : Int32} {e : ((Nat × Nat × Nat × Nat × Nat × Int32 × aH) ⊕ (Int32 × aH))} (hT : t_L_law_l2084 (gZ G) T h v0 v1 v2 v3 v4 v5 = some e) (he : (Sum.elim (p_L_law_b28 G h0 K) (fun e => aTo (aEI e.1 e.2) K)) e) : aW G M_L_law 8192 104096 h0 K h 2084 [some (.ref v0), some (.ref v1), some (.ref v2), some (.ref v3), some (.ref v4), some (.int v5), none, none, none, none] [] := by
  unfold t_L_law_l2084 at hT
  refine a_goto 2408 dL_law_2084 rfl ?_
  exact k_L_law_l2408 hT he
noncomputable def t_L_law_l2031 (Z : aZ) (T : Nat → Nat) (h : aH) (v0 : Nat) (v1 : Nat) (v2 : Nat) (v3 : Nat) (v4 : Nat) (v5 : Int32) : Option ((Nat × Nat × Nat × Nat × Nat × Int32 × aH) ⊕ (Int32 × aH)) :=
  (oldLd .int Z v0 (v5 + 1)).bind fun z798 =>
  (t_X0_row Z h v1 z798 v3).bind fun r801 =>
  (oldLd .int Z v0 (v5 + 1)).bind fun z804 =>
  if isC 2 r801.2 v2 = true then
  (twc Z T r801.2 v2 (fun s9 => t_X3_row s9 z804)).bind fun r808 =>
  if isC 2 r808.2 v2 = true then
  (twc Z T r808.2 v2 (fun s9 => t_X3_thrown s9)).bind fun r813 =>
  if r813.1 = r801.1 then
    if r801.1 = 0 then
      (ldJ Z r813.2 v3 0).bind fun z818 =>
      if (lg_cmp z818 ((r808.1 : Int32).toInt64)) = 0 then
        t_L_law_l2084 Z T r813.2 v0 v1 v2 v3 v4 v5
      else
        some (.inr ((0, r813.2)))
    else
      t_L_law_l2084 Z T r813.2 v0 v1 v2 v3 v4 v5
  else
    some (.inr ((0, r813.2)))
  else none
  else none
theorem k_L_law_l2031 {G : aG} {h0 : aH} {K : aRes → aH → Prop} {T : Nat → Nat} {h : aH} {v0 : Nat} {v1 : Nat} {v2 : Nat} {v3 : Nat} {v4 : Nat} {v5 : Int32} {e : ((Nat × Nat × Nat × Nat × Nat × Int32 × aH) ⊕ (Int32 × aH))} (hT : t_L_law_l2031 (gZ G) T h v0 v1 v2 v3 v4 v5 = some e) (he : (Sum.elim (p_L_law_b28 G h0 K) (fun e => aTo (aEI e.1 e.2) K)) e) : aW G M_L_law 8192 104096 h0 K h 2031 [some (.ref v0), some (.ref v1), some (.ref v2), some (.ref v3), some (.ref v4), some (.int v5), none, none, none, none] [] := by
  unfold t_L_law_l2031 at hT
  refine a_aload_n dL_law_2031 rfl ?_
  refine a_aload_n dL_law_2032 rfl ?_
  refine a_iload dL_law_2033 rfl ?_
  refine a_iconst (v := 1) dL_law_2035 (by decide) ?_
  refine a_iadd dL_law_2036 ?_
  obtain ⟨z798, e797, hT⟩ := obnd hT
  refine a_oldI e797 dL_law_2037 ?_
  refine a_aload_n dL_law_2038 rfl ?_
  obtain ⟨r801, e802, hT⟩ := obnd hT
  refine a_callSW ks_X0_241 (k_X0_row e802) ⟨Nat.le_of_ble_eq_true rfl, Nat.le_of_ble_eq_true rfl⟩ (As := [.ref v1, .int z798, .ref v3]) (rest := []) rfl rfl (Nat.le_of_ble_eq_true rfl) dL_law_2039 (kI ?_) xI
  refine a_istore (lv' := [some (.ref v0), some (.ref v1), some (.ref v2), some (.ref v3), some (.ref v4), some (.int v5), some (.int r801.1), none, none, none]) dL_law_2042 rfl (by decide) rfl ?_
  refine a_aload_n dL_law_2044 rfl ?_
  refine a_aload_n dL_law_2045 rfl ?_
  refine a_iload dL_law_2046 rfl ?_
  refine a_iconst (v := 1) dL_law_2048 (by decide) ?_
  refine a_iadd dL_law_2049 ?_
  obtain ⟨z804, e803, hT⟩ := obnd hT
  refine a_oldI e803 dL_law_2050 ?_
  obtain ⟨g807, hT⟩ := oifg hT
  obtain ⟨r808, e809, hT⟩ := obnd hT
  refine a_callV kv_X0_243 g807 (twM (E := aEI) (fun s9 B9 r9 ht9 e9 => k_X3_row ht9 e9) e809) ⟨Nat.le_of_ble_eq_true rfl, Nat.le_of_ble_eq_true rfl⟩ (As := [.int z804]) (rest := []) rfl rfl (Nat.le_of_ble_eq_true rfl) dL_law_2051 (kI ?_) xI
  refine a_istore (lv' := [some (.ref v0), some (.ref v1), some (.ref v2), some (.ref v3), some (.ref v4), some (.int v5), some (.int r801.1), some (.int r808.1), none, none]) dL_law_2054 rfl (by decide) rfl ?_
  refine a_aload_n dL_law_2056 rfl ?_
  obtain ⟨g812, hT⟩ := oifg hT
  obtain ⟨r813, e814, hT⟩ := obnd hT
  refine a_callV kv_X0_141 g812 (twM (E := aEI) (fun s9 B9 r9 ht9 e9 => k_X3_thrown ht9 e9) e814) ⟨Nat.le_of_ble_eq_true rfl, Nat.le_of_ble_eq_true rfl⟩ (As := []) (rest := []) rfl rfl (Nat.le_of_ble_eq_true rfl) dL_law_2057 (kI ?_) xI
  refine a_iload dL_law_2060 rfl ?_
  refine a_icmp_eq 2067 dL_law_2062 rfl (fun c815 => ?_) (fun c815 => ?_)
  · have hT := oifp c815 hT
    refine a_iload dL_law_2067 rfl ?_
    refine a_if_ne 2084 dL_law_2069 rfl (fun c816 => ?_) (fun c816 => ?_)
    · have hT := oifn c816 hT
      refine a_mask [true, true, true, true, true, true, false, false, true, true] ?_
      exact k_L_law_l2084 hT he
    · have hT := oifp c816 hT
      refine a_aload_n dL_law_2072 rfl ?_
      refine a_iconst (v := 0) dL_law_2073 (by decide) ?_
      obtain ⟨z818, e817, hT⟩ := obnd hT
      refine a_ldJ e817 dL_law_2074 ?_
      refine a_iload dL_law_2075 rfl ?_
      refine a_i2l dL_law_2077 ?_
      refine a_lcmp dL_law_2078 ?_
      refine a_if_eq 2084 dL_law_2079 rfl (fun c819 => ?_) (fun c819 => ?_)
      · have hT := oifp c819 hT
        refine a_mask [true, true, true, true, true, true, false, false, true, true] ?_
        exact k_L_law_l2084 hT he
      · have hT := oifn c819 hT
        refine a_iconst (v := 0) dL_law_2082 (by decide) ?_
        obtain rfl := Option.some.inj hT
        exact a_iret rfl (by decide) dL_law_2083 (he _ _ ⟨rfl, rfl⟩)
  · have hT := oifn c815 hT
    refine a_iconst (v := 0) dL_law_2065 (by decide) ?_
    obtain rfl := Option.some.inj hT
    exact a_iret rfl (by decide) dL_law_2066 (he _ _ ⟨rfl, rfl⟩)
noncomputable def t_L_law_l2140 (Z : aZ) (T : Nat → Nat) (h : aH) (v0 : Nat) (v1 : Nat) (v2 : Nat) (v3 : Nat) (v4 : Nat) (v5 : Int32) : Option ((Nat × Nat × Nat × Nat × Nat × Int32 × aH) ⊕ (Int32 × aH)) :=
  t_L_law_l2408 Z T h v0 v1 v2 v3 v4 v5
theorem k_L_law_l2140 {G : aG} {h0 : aH} {K : aRes → aH → Prop} {T : Nat → Nat} {h : aH} {v0 : Nat} {v1 : Nat} {v2 : Nat} {v3 : Nat} {v4 : Nat} {v5 : Int32} {e : ((Nat × Nat × Nat × Nat × Nat × Int32 × aH) ⊕ (Int32 × aH))} (hT : t_L_law_l2140 (gZ G) T h v0 v1 v2 v3 v4 v5 = some e) (he : (Sum.elim (p_L_law_b28 G h0 K) (fun e => aTo (aEI e.1 e.2) K)) e) : aW G M_L_law 8192 104096 h0 K h 2140 [some (.ref v0), some (.ref v1), some (.ref v2), some (.ref v3), some (.ref v4), some (.int v5), none, none, none, none] [] := by
  unfold t_L_law_l2140 at hT
  refine a_goto 2408 dL_law_2140 rfl ?_
  exact k_L_law_l2408 hT he
noncomputable def t_L_law_l2087 (Z : aZ) (T : Nat → Nat) (h : aH) (v0 : Nat) (v1 : Nat) (v2 : Nat) (v3 : Nat) (v4 : Nat) (v5 : Int32) : Option ((Nat × Nat × Nat × Nat × Nat × Int32 × aH) ⊕ (Int32 × aH)) :=
  (oldLd .int Z v0 (v5 + 1)).bind fun z822 =>
  (t_X0_character Z h v1 z822 v3).bind fun r825 =>
  (oldLd .int Z v0 (v5 + 1)).bind fun z828 =>
  if isC 2 r825.2 v2 = true then
  (twc Z T r825.2 v2 (fun s9 => t_X3_character s9 z828)).bind fun r832 =>
  if isC 2 r832.2 v2 = true then
  (twc Z T r832.2 v2 (fun s9 => t_X3_thrown s9)).bind fun r837 =>
  if r837.1 = r825.1 then
    if r825.1 = 0 then
      (ldJ Z r837.2 v3 0).bind fun z842 =>
      if (lg_cmp z842 ((r832.1 : Int32).toInt64)) = 0 then
        t_L_law_l2140 Z T r837.2 v0 v1 v2 v3 v4 v5
      else
        some (.inr ((0, r837.2)))
    else
      t_L_law_l2140 Z T r837.2 v0 v1 v2 v3 v4 v5
  else
    some (.inr ((0, r837.2)))
  else none
  else none
theorem k_L_law_l2087 {G : aG} {h0 : aH} {K : aRes → aH → Prop} {T : Nat → Nat} {h : aH} {v0 : Nat} {v1 : Nat} {v2 : Nat} {v3 : Nat} {v4 : Nat} {v5 : Int32} {e : ((Nat × Nat × Nat × Nat × Nat × Int32 × aH) ⊕ (Int32 × aH))} (hT : t_L_law_l2087 (gZ G) T h v0 v1 v2 v3 v4 v5 = some e) (he : (Sum.elim (p_L_law_b28 G h0 K) (fun e => aTo (aEI e.1 e.2) K)) e) : aW G M_L_law 8192 104096 h0 K h 2087 [some (.ref v0), some (.ref v1), some (.ref v2), some (.ref v3), some (.ref v4), some (.int v5), none, none, none, none] [] := by
  unfold t_L_law_l2087 at hT
  refine a_aload_n dL_law_2087 rfl ?_
  refine a_aload_n dL_law_2088 rfl ?_
  refine a_iload dL_law_2089 rfl ?_
  refine a_iconst (v := 1) dL_law_2091 (by decide) ?_
  refine a_iadd dL_law_2092 ?_
  obtain ⟨z822, e821, hT⟩ := obnd hT
  refine a_oldI e821 dL_law_2093 ?_
  refine a_aload_n dL_law_2094 rfl ?_
  obtain ⟨r825, e826, hT⟩ := obnd hT
  refine a_callSW ks_X0_244 (k_X0_character e826) ⟨Nat.le_of_ble_eq_true rfl, Nat.le_of_ble_eq_true rfl⟩ (As := [.ref v1, .int z822, .ref v3]) (rest := []) rfl rfl (Nat.le_of_ble_eq_true rfl) dL_law_2095 (kI ?_) xI
  refine a_istore (lv' := [some (.ref v0), some (.ref v1), some (.ref v2), some (.ref v3), some (.ref v4), some (.int v5), some (.int r825.1), none, none, none]) dL_law_2098 rfl (by decide) rfl ?_
  refine a_aload_n dL_law_2100 rfl ?_
  refine a_aload_n dL_law_2101 rfl ?_
  refine a_iload dL_law_2102 rfl ?_
  refine a_iconst (v := 1) dL_law_2104 (by decide) ?_
  refine a_iadd dL_law_2105 ?_
  obtain ⟨z828, e827, hT⟩ := obnd hT
  refine a_oldI e827 dL_law_2106 ?_
  obtain ⟨g831, hT⟩ := oifg hT
  obtain ⟨r832, e833, hT⟩ := obnd hT
  refine a_callV kv_X0_246 g831 (twM (E := aEI) (fun s9 B9 r9 ht9 e9 => k_X3_character ht9 e9) e833) ⟨Nat.le_of_ble_eq_true rfl, Nat.le_of_ble_eq_true rfl⟩ (As := [.int z828]) (rest := []) rfl rfl (Nat.le_of_ble_eq_true rfl) dL_law_2107 (kI ?_) xI
  refine a_istore (lv' := [some (.ref v0), some (.ref v1), some (.ref v2), some (.ref v3), some (.ref v4), some (.int v5), some (.int r825.1), some (.int r832.1), none, none]) dL_law_2110 rfl (by decide) rfl ?_
  refine a_aload_n dL_law_2112 rfl ?_
  obtain ⟨g836, hT⟩ := oifg hT
  obtain ⟨r837, e838, hT⟩ := obnd hT
  refine a_callV kv_X0_141 g836 (twM (E := aEI) (fun s9 B9 r9 ht9 e9 => k_X3_thrown ht9 e9) e838) ⟨Nat.le_of_ble_eq_true rfl, Nat.le_of_ble_eq_true rfl⟩ (As := []) (rest := []) rfl rfl (Nat.le_of_ble_eq_true rfl) dL_law_2113 (kI ?_) xI
  refine a_iload dL_law_2116 rfl ?_
  refine a_icmp_eq 2123 dL_law_2118 rfl (fun c839 => ?_) (fun c839 => ?_)
  · have hT := oifp c839 hT
    refine a_iload dL_law_2123 rfl ?_
    refine a_if_ne 2140 dL_law_2125 rfl (fun c840 => ?_) (fun c840 => ?_)
    · have hT := oifn c840 hT
      refine a_mask [true, true, true, true, true, true, false, false, true, true] ?_
      exact k_L_law_l2140 hT he
    · have hT := oifp c840 hT
      refine a_aload_n dL_law_2128 rfl ?_
      refine a_iconst (v := 0) dL_law_2129 (by decide) ?_
      obtain ⟨z842, e841, hT⟩ := obnd hT
      refine a_ldJ e841 dL_law_2130 ?_
      refine a_iload dL_law_2131 rfl ?_
      refine a_i2l dL_law_2133 ?_
      refine a_lcmp dL_law_2134 ?_
      refine a_if_eq 2140 dL_law_2135 rfl (fun c843 => ?_) (fun c843 => ?_)
      · have hT := oifp c843 hT
        refine a_mask [true, true, true, true, true, true, false, false, true, true] ?_
        exact k_L_law_l2140 hT he
      · have hT := oifn c843 hT
        refine a_iconst (v := 0) dL_law_2138 (by decide) ?_
        obtain rfl := Option.some.inj hT
        exact a_iret rfl (by decide) dL_law_2139 (he _ _ ⟨rfl, rfl⟩)
  · have hT := oifn c839 hT
    refine a_iconst (v := 0) dL_law_2121 (by decide) ?_
    obtain rfl := Option.some.inj hT
    exact a_iret rfl (by decide) dL_law_2122 (he _ _ ⟨rfl, rfl⟩)
noncomputable def t_L_law_l2205 (Z : aZ) (T : Nat → Nat) (h : aH) (v0 : Nat) (v1 : Nat) (v2 : Nat) (v3 : Nat) (v4 : Nat) (v5 : Int32) : Option ((Nat × Nat × Nat × Nat × Nat × Int32 × aH) ⊕ (Int32 × aH)) :=
  t_L_law_l2408 Z T h v0 v1 v2 v3 v4 v5
theorem k_L_law_l2205 {G : aG} {h0 : aH} {K : aRes → aH → Prop} {T : Nat → Nat} {h : aH} {v0 : Nat} {v1 : Nat} {v2 : Nat} {v3 : Nat} {v4 : Nat} {v5 : Int32} {e : ((Nat × Nat × Nat × Nat × Nat × Int32 × aH) ⊕ (Int32 × aH))} (hT : t_L_law_l2205 (gZ G) T h v0 v1 v2 v3 v4 v5 = some e) (he : (Sum.elim (p_L_law_b28 G h0 K) (fun e => aTo (aEI e.1 e.2) K)) e) : aW G M_L_law 8192 104096 h0 K h 2205 [some (.ref v0), some (.ref v1), some (.ref v2), some (.ref v3), some (.ref v4), some (.int v5), none, none, none, none] [] := by
  unfold t_L_law_l2205 at hT
  refine a_goto 2408 dL_law_2205 rfl ?_
  exact k_L_law_l2408 hT he
noncomputable def t_L_law_l2143 (Z : aZ) (T : Nat → Nat) (h : aH) (v0 : Nat) (v1 : Nat) (v2 : Nat) (v3 : Nat) (v4 : Nat) (v5 : Int32) : Option ((Nat × Nat × Nat × Nat × Nat × Int32 × aH) ⊕ (Int32 × aH)) :=
  (t_X0_meanLost Z h v1 v4).bind fun r847 =>
  if isC 2 r847.2 v2 = true then
  (twc Z T r847.2 v2 (fun s9 => t_X3_meanLost s9)).bind fun r852 =>
  if isC 2 r852.2 v2 = true then
  (twc Z T r852.2 v2 (fun s9 => t_X3_thrown s9)).bind fun r857 =>
  if r857.1 = r847.1 then
    if r847.1 = 0 then
      (ldD Z r857.2 v4 0).bind fun z862 =>
      if (Op.cmpValue (FP.dcmp z862 r852.1) .l) = 0 then
        t_L_law_l2205 Z T r857.2 v0 v1 v2 v3 v4 v5
      else
        (ldD Z r857.2 v4 0).bind fun z865 =>
        (ldD Z r857.2 v4 0).bind fun z867 =>
        if (Op.cmpValue (FP.dcmp z865 z867) .l) = 0 then
          some (.inr ((0, r857.2)))
        else
          if (Op.cmpValue (FP.dcmp r852.1 r852.1) .l) = 0 then
            some (.inr ((0, r857.2)))
          else
            t_L_law_l2205 Z T r857.2 v0 v1 v2 v3 v4 v5
    else
      t_L_law_l2205 Z T r857.2 v0 v1 v2 v3 v4 v5
  else
    some (.inr ((0, r857.2)))
  else none
  else none
theorem k_L_law_l2143 {G : aG} {h0 : aH} {K : aRes → aH → Prop} {T : Nat → Nat} {h : aH} {v0 : Nat} {v1 : Nat} {v2 : Nat} {v3 : Nat} {v4 : Nat} {v5 : Int32} {e : ((Nat × Nat × Nat × Nat × Nat × Int32 × aH) ⊕ (Int32 × aH))} (hT : t_L_law_l2143 (gZ G) T h v0 v1 v2 v3 v4 v5 = some e) (he : (Sum.elim (p_L_law_b28 G h0 K) (fun e => aTo (aEI e.1 e.2) K)) e) : aW G M_L_law 8192 104096 h0 K h 2143 [some (.ref v0), some (.ref v1), some (.ref v2), some (.ref v3), some (.ref v4), some (.int v5), none, none, none, none] [] := by
  unfold t_L_law_l2143 at hT
  refine a_aload_n dL_law_2143 rfl ?_
  refine a_aload dL_law_2144 rfl ?_
  obtain ⟨r847, e848, hT⟩ := obnd hT
  refine a_callSW ks_X0_247 (k_X0_meanLost e848) ⟨Nat.le_of_ble_eq_true rfl, Nat.le_of_ble_eq_true rfl⟩ (As := [.ref v1, .ref v4]) (rest := []) rfl rfl (Nat.le_of_ble_eq_true rfl) dL_law_2146 (kI ?_) xI
  refine a_istore (lv' := [some (.ref v0), some (.ref v1), some (.ref v2), some (.ref v3), some (.ref v4), some (.int v5), some (.int r847.1), none, none, none]) dL_law_2149 rfl (by decide) rfl ?_
  refine a_aload_n dL_law_2151 rfl ?_
  obtain ⟨g851, hT⟩ := oifg hT
  obtain ⟨r852, e853, hT⟩ := obnd hT
  refine a_callV kv_X0_250 g851 (twM (E := aED) (fun s9 B9 r9 ht9 e9 => k_X3_meanLost ht9 e9) e853) ⟨Nat.le_of_ble_eq_true rfl, Nat.le_of_ble_eq_true rfl⟩ (As := []) (rest := []) rfl rfl (Nat.le_of_ble_eq_true rfl) dL_law_2152 (kD ?_) xD
  refine a_dstore (lv' := [some (.ref v0), some (.ref v1), some (.ref v2), some (.ref v3), some (.ref v4), some (.int v5), some (.int r847.1), some (.double r852.1), none, none]) dL_law_2155 rfl (by decide) rfl ?_
  refine a_aload_n dL_law_2157 rfl ?_
  obtain ⟨g856, hT⟩ := oifg hT
  obtain ⟨r857, e858, hT⟩ := obnd hT
  refine a_callV kv_X0_141 g856 (twM (E := aEI) (fun s9 B9 r9 ht9 e9 => k_X3_thrown ht9 e9) e858) ⟨Nat.le_of_ble_eq_true rfl, Nat.le_of_ble_eq_true rfl⟩ (As := []) (rest := []) rfl rfl (Nat.le_of_ble_eq_true rfl) dL_law_2158 (kI ?_) xI
  refine a_iload dL_law_2161 rfl ?_
  refine a_icmp_eq 2168 dL_law_2163 rfl (fun c859 => ?_) (fun c859 => ?_)
  · have hT := oifp c859 hT
    refine a_iload dL_law_2168 rfl ?_
    refine a_if_ne 2205 dL_law_2170 rfl (fun c860 => ?_) (fun c860 => ?_)
    · have hT := oifn c860 hT
      refine a_mask [true, true, true, true, true, true, false, false, true, true] ?_
      exact k_L_law_l2205 hT he
    · have hT := oifp c860 hT
      refine a_aload dL_law_2173 rfl ?_
      refine a_iconst (v := 0) dL_law_2175 (by decide) ?_
      obtain ⟨z862, e861, hT⟩ := obnd hT
      refine a_ldD e861 dL_law_2176 ?_
      refine a_dload dL_law_2177 rfl ?_
      refine a_dcmp dL_law_2179 ?_
      refine a_if_eq 2205 dL_law_2180 rfl (fun c863 => ?_) (fun c863 => ?_)
      · have hT := oifp c863 hT
        refine a_mask [true, true, true, true, true, true, false, false, true, true] ?_
        exact k_L_law_l2205 hT he
      · have hT := oifn c863 hT
        refine a_aload dL_law_2183 rfl ?_
        refine a_iconst (v := 0) dL_law_2185 (by decide) ?_
        obtain ⟨z865, e864, hT⟩ := obnd hT
        refine a_ldD e864 dL_law_2186 ?_
        refine a_aload dL_law_2187 rfl ?_
        refine a_iconst (v := 0) dL_law_2189 (by decide) ?_
        obtain ⟨z867, e866, hT⟩ := obnd hT
        refine a_ldD e866 dL_law_2190 ?_
        refine a_dcmp dL_law_2191 ?_
        refine a_if_eq 2203 dL_law_2192 rfl (fun c868 => ?_) (fun c868 => ?_)
        · have hT := oifp c868 hT
          refine a_iconst (v := 0) dL_law_2203 (by decide) ?_
          obtain rfl := Option.some.inj hT
          exact a_iret rfl (by decide) dL_law_2204 (he _ _ ⟨rfl, rfl⟩)
        · have hT := oifn c868 hT
          refine a_dload dL_law_2195 rfl ?_
          refine a_dload dL_law_2197 rfl ?_
          refine a_dcmp dL_law_2199 ?_
          refine a_if_ne 2205 dL_law_2200 rfl (fun c869 => ?_) (fun c869 => ?_)
          · have hT := oifn c869 hT
            refine a_mask [true, true, true, true, true, true, false, false, true, true] ?_
            exact k_L_law_l2205 hT he
          · have hT := oifp c869 hT
            refine a_iconst (v := 0) dL_law_2203 (by decide) ?_
            obtain rfl := Option.some.inj hT
            exact a_iret rfl (by decide) dL_law_2204 (he _ _ ⟨rfl, rfl⟩)
  · have hT := oifn c859 hT
    refine a_iconst (v := 0) dL_law_2166 (by decide) ?_
    obtain rfl := Option.some.inj hT
    exact a_iret rfl (by decide) dL_law_2167 (he _ _ ⟨rfl, rfl⟩)
noncomputable def t_L_law_l2248 (Z : aZ) (T : Nat → Nat) (h : aH) (v0 : Nat) (v1 : Nat) (v2 : Nat) (v3 : Nat) (v4 : Nat) (v5 : Int32) : Option ((Nat × Nat × Nat × Nat × Nat × Int32 × aH) ⊕ (Int32 × aH)) :=
  t_L_law_l2408 Z T h v0 v1 v2 v3 v4 v5
theorem k_L_law_l2248 {G : aG} {h0 : aH} {K : aRes → aH → Prop} {T : Nat → Nat} {h : aH} {v0 : Nat} {v1 : Nat} {v2 : Nat} {v3 : Nat} {v4 : Nat} {v5 : Int32} {e : ((Nat × Nat × Nat × Nat × Nat × Int32 × aH) ⊕ (Int32 × aH))} (hT : t_L_law_l2248 (gZ G) T h v0 v1 v2 v3 v4 v5 = some e) (he : (Sum.elim (p_L_law_b28 G h0 K) (fun e => aTo (aEI e.1 e.2) K)) e) : aW G M_L_law 8192 104096 h0 K h 2248 [some (.ref v0), some (.ref v1), some (.ref v2), some (.ref v3), some (.ref v4), some (.int v5), none, none, none, none] [] := by
  unfold t_L_law_l2248 at hT
  refine a_goto 2408 dL_law_2248 rfl ?_
  exact k_L_law_l2408 hT he
noncomputable def t_L_law_l2208 (Z : aZ) (T : Nat → Nat) (h : aH) (v0 : Nat) (v1 : Nat) (v2 : Nat) (v3 : Nat) (v4 : Nat) (v5 : Int32) : Option ((Nat × Nat × Nat × Nat × Nat × Int32 × aH) ⊕ (Int32 × aH)) :=
  if isC 0 h v1 = true then
  (t_X1_gapShare Z h v1).bind fun r874 =>
  if (FP.f2d r874.1) &&& 0x7fffffffffffffff ≤ 0x7ff0000000000000 then
  if isC 2 r874.2 v2 = true then
  (twc Z T r874.2 v2 (fun s9 => t_X3_gapShare s9)).bind fun r880 =>
  if (FP.f2d r880.1) &&& 0x7fffffffffffffff ≤ 0x7ff0000000000000 then
  if (Op.cmpValue (FP.dcmp (FP.f2d r874.1) (FP.f2d r880.1)) .l) = 0 then
    t_L_law_l2248 Z T r880.2 v0 v1 v2 v3 v4 v5
  else
    if (Op.cmpValue (FP.dcmp (FP.f2d r874.1) (FP.f2d r874.1)) .l) = 0 then
      some (.inr ((0, r880.2)))
    else
      if (Op.cmpValue (FP.dcmp (FP.f2d r880.1) (FP.f2d r880.1)) .l) = 0 then
        some (.inr ((0, r880.2)))
      else
        t_L_law_l2248 Z T r880.2 v0 v1 v2 v3 v4 v5
  else none
  else none
  else none
  else none
theorem k_L_law_l2208 {G : aG} {h0 : aH} {K : aRes → aH → Prop} {T : Nat → Nat} {h : aH} {v0 : Nat} {v1 : Nat} {v2 : Nat} {v3 : Nat} {v4 : Nat} {v5 : Int32} {e : ((Nat × Nat × Nat × Nat × Nat × Int32 × aH) ⊕ (Int32 × aH))} (hT : t_L_law_l2208 (gZ G) T h v0 v1 v2 v3 v4 v5 = some e) (he : (Sum.elim (p_L_law_b28 G h0 K) (fun e => aTo (aEI e.1 e.2) K)) e) : aW G M_L_law 8192 104096 h0 K h 2208 [some (.ref v0), some (.ref v1), some (.ref v2), some (.ref v3), some (.ref v4), some (.int v5), none, none, none, none] [] := by
  unfold t_L_law_l2208 at hT
  refine a_aload_n dL_law_2208 rfl ?_
  obtain ⟨g873, hT⟩ := oifg hT
  obtain ⟨r874, e875, hT⟩ := obnd hT
  refine a_callV kv_X0_251 g873 (k_X1_gapShare e875) ⟨Nat.le_of_ble_eq_true rfl, Nat.le_of_ble_eq_true rfl⟩ (As := []) (rest := []) rfl rfl (Nat.le_of_ble_eq_true rfl) dL_law_2209 (kF ?_) xF
  obtain ⟨g876, hT⟩ := oifg hT
  refine a_f2d dL_law_2212 g876 ?_
  refine a_dstore (lv' := [some (.ref v0), some (.ref v1), some (.ref v2), some (.ref v3), some (.ref v4), some (.int v5), some (.double (FP.f2d r874.1)), none, none, none]) dL_law_2213 rfl (by decide) rfl ?_
  refine a_aload_n dL_law_2215 rfl ?_
  obtain ⟨g879, hT⟩ := oifg hT
  obtain ⟨r880, e881, hT⟩ := obnd hT
  refine a_callV kv_X0_255 g879 (twM (E := aEF) (fun s9 B9 r9 ht9 e9 => k_X3_gapShare ht9 e9) e881) ⟨Nat.le_of_ble_eq_true rfl, Nat.le_of_ble_eq_true rfl⟩ (As := []) (rest := []) rfl rfl (Nat.le_of_ble_eq_true rfl) dL_law_2216 (kF ?_) xF
  obtain ⟨g882, hT⟩ := oifg hT
  refine a_f2d dL_law_2219 g882 ?_
  refine a_dstore (lv' := [some (.ref v0), some (.ref v1), some (.ref v2), some (.ref v3), some (.ref v4), some (.int v5), some (.double (FP.f2d r874.1)), none, some (.double (FP.f2d r880.1)), none]) dL_law_2220 rfl (by decide) rfl ?_
  refine a_dload dL_law_2222 rfl ?_
  refine a_dload dL_law_2224 rfl ?_
  refine a_dcmp dL_law_2226 ?_
  refine a_if_eq 2248 dL_law_2227 rfl (fun c883 => ?_) (fun c883 => ?_)
  · have hT := oifp c883 hT
    refine a_mask [true, true, true, true, true, true, false, true, false, true] ?_
    exact k_L_law_l2248 hT he
  · have hT := oifn c883 hT
    refine a_dload dL_law_2230 rfl ?_
    refine a_dload dL_law_2232 rfl ?_
    refine a_dcmp dL_law_2234 ?_
    refine a_if_eq 2246 dL_law_2235 rfl (fun c884 => ?_) (fun c884 => ?_)
    · have hT := oifp c884 hT
      refine a_iconst (v := 0) dL_law_2246 (by decide) ?_
      obtain rfl := Option.some.inj hT
      exact a_iret rfl (by decide) dL_law_2247 (he _ _ ⟨rfl, rfl⟩)
    · have hT := oifn c884 hT
      refine a_dload dL_law_2238 rfl ?_
      refine a_dload dL_law_2240 rfl ?_
      refine a_dcmp dL_law_2242 ?_
      refine a_if_ne 2248 dL_law_2243 rfl (fun c885 => ?_) (fun c885 => ?_)
      · have hT := oifn c885 hT
        refine a_mask [true, true, true, true, true, true, false, true, false, true] ?_
        exact k_L_law_l2248 hT he
      · have hT := oifp c885 hT
        refine a_iconst (v := 0) dL_law_2246 (by decide) ?_
        obtain rfl := Option.some.inj hT
        exact a_iret rfl (by decide) dL_law_2247 (he _ _ ⟨rfl, rfl⟩)
noncomputable def t_L_law_l2304 (Z : aZ) (T : Nat → Nat) (h : aH) (v0 : Nat) (v1 : Nat) (v2 : Nat) (v3 : Nat) (v4 : Nat) (v5 : Int32) : Option ((Nat × Nat × Nat × Nat × Nat × Int32 × aH) ⊕ (Int32 × aH)) :=
  t_L_law_l2408 Z T h v0 v1 v2 v3 v4 v5
theorem k_L_law_l2304 {G : aG} {h0 : aH} {K : aRes → aH → Prop} {T : Nat → Nat} {h : aH} {v0 : Nat} {v1 : Nat} {v2 : Nat} {v3 : Nat} {v4 : Nat} {v5 : Int32} {e : ((Nat × Nat × Nat × Nat × Nat × Int32 × aH) ⊕ (Int32 × aH))} (hT : t_L_law_l2304 (gZ G) T h v0 v1 v2 v3 v4 v5 = some e) (he : (Sum.elim (p_L_law_b28 G h0 K) (fun e => aTo (aEI e.1 e.2) K)) e) : aW G M_L_law 8192 104096 h0 K h 2304 [some (.ref v0), some (.ref v1), some (.ref v2), some (.ref v3), some (.ref v4), some (.int v5), none, none, none, none] [] := by
  unfold t_L_law_l2304 at hT
  refine a_goto 2408 dL_law_2304 rfl ?_
  exact k_L_law_l2408 hT he
noncomputable def t_L_law_l2251 (Z : aZ) (T : Nat → Nat) (h : aH) (v0 : Nat) (v1 : Nat) (v2 : Nat) (v3 : Nat) (v4 : Nat) (v5 : Int32) : Option ((Nat × Nat × Nat × Nat × Nat × Int32 × aH) ⊕ (Int32 × aH)) :=
  (oldLd .int Z v0 (v5 + 1)).bind fun z888 =>
  (t_X0_account Z h v1 z888 v3).bind fun r891 =>
  (oldLd .int Z v0 (v5 + 1)).bind fun z894 =>
  if isC 2 r891.2 v2 = true then
  (twc Z T r891.2 v2 (fun s9 => t_X3_account s9 z894)).bind fun r898 =>
  if isC 2 r898.2 v2 = true then
  (twc Z T r898.2 v2 (fun s9 => t_X3_thrown s9)).bind fun r903 =>
  if r903.1 = r891.1 then
    if r891.1 = 0 then
      (ldJ Z r903.2 v3 0).bind fun z908 =>
      if (lg_cmp z908 ((r898.1 : Int32).toInt64)) = 0 then
        t_L_law_l2304 Z T r903.2 v0 v1 v2 v3 v4 v5
      else
        some (.inr ((0, r903.2)))
    else
      t_L_law_l2304 Z T r903.2 v0 v1 v2 v3 v4 v5
  else
    some (.inr ((0, r903.2)))
  else none
  else none
theorem k_L_law_l2251 {G : aG} {h0 : aH} {K : aRes → aH → Prop} {T : Nat → Nat} {h : aH} {v0 : Nat} {v1 : Nat} {v2 : Nat} {v3 : Nat} {v4 : Nat} {v5 : Int32} {e : ((Nat × Nat × Nat × Nat × Nat × Int32 × aH) ⊕ (Int32 × aH))} (hT : t_L_law_l2251 (gZ G) T h v0 v1 v2 v3 v4 v5 = some e) (he : (Sum.elim (p_L_law_b28 G h0 K) (fun e => aTo (aEI e.1 e.2) K)) e) : aW G M_L_law 8192 104096 h0 K h 2251 [some (.ref v0), some (.ref v1), some (.ref v2), some (.ref v3), some (.ref v4), some (.int v5), none, none, none, none] [] := by
  unfold t_L_law_l2251 at hT
  refine a_aload_n dL_law_2251 rfl ?_
  refine a_aload_n dL_law_2252 rfl ?_
  refine a_iload dL_law_2253 rfl ?_
  refine a_iconst (v := 1) dL_law_2255 (by decide) ?_
  refine a_iadd dL_law_2256 ?_
  obtain ⟨z888, e887, hT⟩ := obnd hT
  refine a_oldI e887 dL_law_2257 ?_
  refine a_aload_n dL_law_2258 rfl ?_
  obtain ⟨r891, e892, hT⟩ := obnd hT
  refine a_callSW ks_X0_256 (k_X0_account e892) ⟨Nat.le_of_ble_eq_true rfl, Nat.le_of_ble_eq_true rfl⟩ (As := [.ref v1, .int z888, .ref v3]) (rest := []) rfl rfl (Nat.le_of_ble_eq_true rfl) dL_law_2259 (kI ?_) xI
  refine a_istore (lv' := [some (.ref v0), some (.ref v1), some (.ref v2), some (.ref v3), some (.ref v4), some (.int v5), some (.int r891.1), none, none, none]) dL_law_2262 rfl (by decide) rfl ?_
  refine a_aload_n dL_law_2264 rfl ?_
  refine a_aload_n dL_law_2265 rfl ?_
  refine a_iload dL_law_2266 rfl ?_
  refine a_iconst (v := 1) dL_law_2268 (by decide) ?_
  refine a_iadd dL_law_2269 ?_
  obtain ⟨z894, e893, hT⟩ := obnd hT
  refine a_oldI e893 dL_law_2270 ?_
  obtain ⟨g897, hT⟩ := oifg hT
  obtain ⟨r898, e899, hT⟩ := obnd hT
  refine a_callV kv_X0_258 g897 (twM (E := aEI) (fun s9 B9 r9 ht9 e9 => k_X3_account ht9 e9) e899) ⟨Nat.le_of_ble_eq_true rfl, Nat.le_of_ble_eq_true rfl⟩ (As := [.int z894]) (rest := []) rfl rfl (Nat.le_of_ble_eq_true rfl) dL_law_2271 (kI ?_) xI
  refine a_istore (lv' := [some (.ref v0), some (.ref v1), some (.ref v2), some (.ref v3), some (.ref v4), some (.int v5), some (.int r891.1), some (.int r898.1), none, none]) dL_law_2274 rfl (by decide) rfl ?_
  refine a_aload_n dL_law_2276 rfl ?_
  obtain ⟨g902, hT⟩ := oifg hT
  obtain ⟨r903, e904, hT⟩ := obnd hT
  refine a_callV kv_X0_141 g902 (twM (E := aEI) (fun s9 B9 r9 ht9 e9 => k_X3_thrown ht9 e9) e904) ⟨Nat.le_of_ble_eq_true rfl, Nat.le_of_ble_eq_true rfl⟩ (As := []) (rest := []) rfl rfl (Nat.le_of_ble_eq_true rfl) dL_law_2277 (kI ?_) xI
  refine a_iload dL_law_2280 rfl ?_
  refine a_icmp_eq 2287 dL_law_2282 rfl (fun c905 => ?_) (fun c905 => ?_)
  · have hT := oifp c905 hT
    refine a_iload dL_law_2287 rfl ?_
    refine a_if_ne 2304 dL_law_2289 rfl (fun c906 => ?_) (fun c906 => ?_)
    · have hT := oifn c906 hT
      refine a_mask [true, true, true, true, true, true, false, false, true, true] ?_
      exact k_L_law_l2304 hT he
    · have hT := oifp c906 hT
      refine a_aload_n dL_law_2292 rfl ?_
      refine a_iconst (v := 0) dL_law_2293 (by decide) ?_
      obtain ⟨z908, e907, hT⟩ := obnd hT
      refine a_ldJ e907 dL_law_2294 ?_
      refine a_iload dL_law_2295 rfl ?_
      refine a_i2l dL_law_2297 ?_
      refine a_lcmp dL_law_2298 ?_
      refine a_if_eq 2304 dL_law_2299 rfl (fun c909 => ?_) (fun c909 => ?_)
      · have hT := oifp c909 hT
        refine a_mask [true, true, true, true, true, true, false, false, true, true] ?_
        exact k_L_law_l2304 hT he
      · have hT := oifn c909 hT
        refine a_iconst (v := 0) dL_law_2302 (by decide) ?_
        obtain rfl := Option.some.inj hT
        exact a_iret rfl (by decide) dL_law_2303 (he _ _ ⟨rfl, rfl⟩)
  · have hT := oifn c905 hT
    refine a_iconst (v := 0) dL_law_2285 (by decide) ?_
    obtain rfl := Option.some.inj hT
    exact a_iret rfl (by decide) dL_law_2286 (he _ _ ⟨rfl, rfl⟩)
noncomputable def t_L_law_l2348 (Z : aZ) (T : Nat → Nat) (h : aH) (v0 : Nat) (v1 : Nat) (v2 : Nat) (v3 : Nat) (v4 : Nat) (v5 : Int32) : Option ((Nat × Nat × Nat × Nat × Nat × Int32 × aH) ⊕ (Int32 × aH)) :=
  t_L_law_l2408 Z T h v0 v1 v2 v3 v4 v5
theorem k_L_law_l2348 {G : aG} {h0 : aH} {K : aRes → aH → Prop} {T : Nat → Nat} {h : aH} {v0 : Nat} {v1 : Nat} {v2 : Nat} {v3 : Nat} {v4 : Nat} {v5 : Int32} {e : ((Nat × Nat × Nat × Nat × Nat × Int32 × aH) ⊕ (Int32 × aH))} (hT : t_L_law_l2348 (gZ G) T h v0 v1 v2 v3 v4 v5 = some e) (he : (Sum.elim (p_L_law_b28 G h0 K) (fun e => aTo (aEI e.1 e.2) K)) e) : aW G M_L_law 8192 104096 h0 K h 2348 [some (.ref v0), some (.ref v1), some (.ref v2), some (.ref v3), some (.ref v4), some (.int v5), none, none, none, none] [] := by
  unfold t_L_law_l2348 at hT
  refine a_goto 2408 dL_law_2348 rfl ?_
  exact k_L_law_l2408 hT he
noncomputable def t_L_law_l2307 (Z : aZ) (T : Nat → Nat) (h : aH) (v0 : Nat) (v1 : Nat) (v2 : Nat) (v3 : Nat) (v4 : Nat) (v5 : Int32) : Option ((Nat × Nat × Nat × Nat × Nat × Int32 × aH) ⊕ (Int32 × aH)) :=
  (t_X0_undo Z h v1 v3).bind fun r913 =>
  if isC 2 r913.2 v2 = true then
  (twc Z T r913.2 v2 (fun s9 => t_X3_undo s9)).bind fun r918 =>
  if isC 2 r918.2 v2 = true then
  (twc Z T r918.2 v2 (fun s9 => t_X3_thrown s9)).bind fun r923 =>
  if r923.1 = r913.1 then
    if r913.1 = 0 then
      (ldJ Z r923.2 v3 0).bind fun z928 =>
      if (lg_cmp z928 ((r918.1 : Int32).toInt64)) = 0 then
        t_L_law_l2348 Z T r923.2 v0 v1 v2 v3 v4 v5
      else
        some (.inr ((0, r923.2)))
    else
      t_L_law_l2348 Z T r923.2 v0 v1 v2 v3 v4 v5
  else
    some (.inr ((0, r923.2)))
  else none
  else none
theorem k_L_law_l2307 {G : aG} {h0 : aH} {K : aRes → aH → Prop} {T : Nat → Nat} {h : aH} {v0 : Nat} {v1 : Nat} {v2 : Nat} {v3 : Nat} {v4 : Nat} {v5 : Int32} {e : ((Nat × Nat × Nat × Nat × Nat × Int32 × aH) ⊕ (Int32 × aH))} (hT : t_L_law_l2307 (gZ G) T h v0 v1 v2 v3 v4 v5 = some e) (he : (Sum.elim (p_L_law_b28 G h0 K) (fun e => aTo (aEI e.1 e.2) K)) e) : aW G M_L_law 8192 104096 h0 K h 2307 [some (.ref v0), some (.ref v1), some (.ref v2), some (.ref v3), some (.ref v4), some (.int v5), none, none, none, none] [] := by
  unfold t_L_law_l2307 at hT
  refine a_aload_n dL_law_2307 rfl ?_
  refine a_aload_n dL_law_2308 rfl ?_
  obtain ⟨r913, e914, hT⟩ := obnd hT
  refine a_callSW ks_X0_259 (k_X0_undo e914) ⟨Nat.le_of_ble_eq_true rfl, Nat.le_of_ble_eq_true rfl⟩ (As := [.ref v1, .ref v3]) (rest := []) rfl rfl (Nat.le_of_ble_eq_true rfl) dL_law_2309 (kI ?_) xI
  refine a_istore (lv' := [some (.ref v0), some (.ref v1), some (.ref v2), some (.ref v3), some (.ref v4), some (.int v5), some (.int r913.1), none, none, none]) dL_law_2312 rfl (by decide) rfl ?_
  refine a_aload_n dL_law_2314 rfl ?_
  obtain ⟨g917, hT⟩ := oifg hT
  obtain ⟨r918, e919, hT⟩ := obnd hT
  refine a_callV kv_X0_261 g917 (twM (E := aEI) (fun s9 B9 r9 ht9 e9 => k_X3_undo ht9 e9) e919) ⟨Nat.le_of_ble_eq_true rfl, Nat.le_of_ble_eq_true rfl⟩ (As := []) (rest := []) rfl rfl (Nat.le_of_ble_eq_true rfl) dL_law_2315 (kI ?_) xI
  refine a_istore (lv' := [some (.ref v0), some (.ref v1), some (.ref v2), some (.ref v3), some (.ref v4), some (.int v5), some (.int r913.1), some (.int r918.1), none, none]) dL_law_2318 rfl (by decide) rfl ?_
  refine a_aload_n dL_law_2320 rfl ?_
  obtain ⟨g922, hT⟩ := oifg hT
  obtain ⟨r923, e924, hT⟩ := obnd hT
  refine a_callV kv_X0_141 g922 (twM (E := aEI) (fun s9 B9 r9 ht9 e9 => k_X3_thrown ht9 e9) e924) ⟨Nat.le_of_ble_eq_true rfl, Nat.le_of_ble_eq_true rfl⟩ (As := []) (rest := []) rfl rfl (Nat.le_of_ble_eq_true rfl) dL_law_2321 (kI ?_) xI
  refine a_iload dL_law_2324 rfl ?_
  refine a_icmp_eq 2331 dL_law_2326 rfl (fun c925 => ?_) (fun c925 => ?_)
  · have hT := oifp c925 hT
    refine a_iload dL_law_2331 rfl ?_
    refine a_if_ne 2348 dL_law_2333 rfl (fun c926 => ?_) (fun c926 => ?_)
    · have hT := oifn c926 hT
      refine a_mask [true, true, true, true, true, true, false, false, true, true] ?_
      exact k_L_law_l2348 hT he
    · have hT := oifp c926 hT
      refine a_aload_n dL_law_2336 rfl ?_
      refine a_iconst (v := 0) dL_law_2337 (by decide) ?_
      obtain ⟨z928, e927, hT⟩ := obnd hT
      refine a_ldJ e927 dL_law_2338 ?_
      refine a_iload dL_law_2339 rfl ?_
      refine a_i2l dL_law_2341 ?_
      refine a_lcmp dL_law_2342 ?_
      refine a_if_eq 2348 dL_law_2343 rfl (fun c929 => ?_) (fun c929 => ?_)
      · have hT := oifp c929 hT
        refine a_mask [true, true, true, true, true, true, false, false, true, true] ?_
        exact k_L_law_l2348 hT he
      · have hT := oifn c929 hT
        refine a_iconst (v := 0) dL_law_2346 (by decide) ?_
        obtain rfl := Option.some.inj hT
        exact a_iret rfl (by decide) dL_law_2347 (he _ _ ⟨rfl, rfl⟩)
  · have hT := oifn c925 hT
    refine a_iconst (v := 0) dL_law_2329 (by decide) ?_
    obtain rfl := Option.some.inj hT
    exact a_iret rfl (by decide) dL_law_2330 (he _ _ ⟨rfl, rfl⟩)
noncomputable def t_L_law_l2351 (Z : aZ) (T : Nat → Nat) (h : aH) (v0 : Nat) (v1 : Nat) (v2 : Nat) (v3 : Nat) (v4 : Nat) (v5 : Int32) : Option ((Nat × Nat × Nat × Nat × Nat × Int32 × aH) ⊕ (Int32 × aH)) :=
  if isC 0 h v1 = true then
  (t_X1_save Z h v1).bind fun r934 =>
  if isC 2 r934.2 v2 = true then
  (twc Z T r934.2 v2 (fun s9 => t_X3_save s9)).bind fun r939 =>
  if r934.1 = r939.1 then
    t_L_law_l2408 Z T r939.2 v0 v1 v2 v3 v4 v5
  else
    some (.inr ((0, r939.2)))
  else none
  else none
theorem k_L_law_l2351 {G : aG} {h0 : aH} {K : aRes → aH → Prop} {T : Nat → Nat} {h : aH} {v0 : Nat} {v1 : Nat} {v2 : Nat} {v3 : Nat} {v4 : Nat} {v5 : Int32} {e : ((Nat × Nat × Nat × Nat × Nat × Int32 × aH) ⊕ (Int32 × aH))} (hT : t_L_law_l2351 (gZ G) T h v0 v1 v2 v3 v4 v5 = some e) (he : (Sum.elim (p_L_law_b28 G h0 K) (fun e => aTo (aEI e.1 e.2) K)) e) : aW G M_L_law 8192 104096 h0 K h 2351 [some (.ref v0), some (.ref v1), some (.ref v2), some (.ref v3), some (.ref v4), some (.int v5), none, none, none, none] [] := by
  unfold t_L_law_l2351 at hT
  refine a_aload_n dL_law_2351 rfl ?_
  obtain ⟨g933, hT⟩ := oifg hT
  obtain ⟨r934, e935, hT⟩ := obnd hT
  refine a_callV kv_X0_262 g933 (k_X1_save e935) ⟨Nat.le_of_ble_eq_true rfl, Nat.le_of_ble_eq_true rfl⟩ (As := []) (rest := []) rfl rfl (Nat.le_of_ble_eq_true rfl) dL_law_2352 (kI ?_) xI
  refine a_aload_n dL_law_2355 rfl ?_
  obtain ⟨g938, hT⟩ := oifg hT
  obtain ⟨r939, e940, hT⟩ := obnd hT
  refine a_callV kv_X0_265 g938 (twM (E := aEI) (fun s9 B9 r9 ht9 e9 => k_X3_save ht9 e9) e940) ⟨Nat.le_of_ble_eq_true rfl, Nat.le_of_ble_eq_true rfl⟩ (As := []) (rest := [.int r934.1]) rfl rfl (Nat.le_of_ble_eq_true rfl) dL_law_2356 (kI ?_) xI
  refine a_icmp_eq 2408 dL_law_2359 rfl (fun c941 => ?_) (fun c941 => ?_)
  · have hT := oifp c941 hT
    exact k_L_law_l2408 hT he
  · have hT := oifn c941 hT
    refine a_iconst (v := 0) dL_law_2362 (by decide) ?_
    obtain rfl := Option.some.inj hT
    exact a_iret rfl (by decide) dL_law_2363 (he _ _ ⟨rfl, rfl⟩)
noncomputable def t_L_law_l2405 (Z : aZ) (T : Nat → Nat) (h : aH) (v0 : Nat) (v1 : Nat) (v2 : Nat) (v3 : Nat) (v4 : Nat) (v5 : Int32) : Option ((Nat × Nat × Nat × Nat × Nat × Int32 × aH) ⊕ (Int32 × aH)) :=
  t_L_law_l2408 Z T h v0 v1 v2 v3 v4 v5
theorem k_L_law_l2405 {G : aG} {h0 : aH} {K : aRes → aH → Prop} {T : Nat → Nat} {h : aH} {v0 : Nat} {v1 : Nat} {v2 : Nat} {v3 : Nat} {v4 : Nat} {v5 : Int32} {e : ((Nat × Nat × Nat × Nat × Nat × Int32 × aH) ⊕ (Int32 × aH))} (hT : t_L_law_l2405 (gZ G) T h v0 v1 v2 v3 v4 v5 = some e) (he : (Sum.elim (p_L_law_b28 G h0 K) (fun e => aTo (aEI e.1 e.2) K)) e) : aW G M_L_law 8192 104096 h0 K h 2405 [some (.ref v0), some (.ref v1), some (.ref v2), some (.ref v3), some (.ref v4), some (.int v5), none, none, none, none] [] := by
  unfold t_L_law_l2405 at hT
  refine a_goto 2408 dL_law_2405 rfl ?_
  exact k_L_law_l2408 hT he
noncomputable def t_L_law_l2364 (Z : aZ) (T : Nat → Nat) (h : aH) (v0 : Nat) (v1 : Nat) (v2 : Nat) (v3 : Nat) (v4 : Nat) (v5 : Int32) : Option ((Nat × Nat × Nat × Nat × Nat × Int32 × aH) ⊕ (Int32 × aH)) :=
  (t_X0_restore Z h v1 v3).bind fun r945 =>
  if isC 2 r945.2 v2 = true then
  (twc Z T r945.2 v2 (fun s9 => t_X3_restore s9)).bind fun r950 =>
  if isC 2 r950.2 v2 = true then
  (twc Z T r950.2 v2 (fun s9 => t_X3_thrown s9)).bind fun r955 =>
  if r955.1 = r945.1 then
    if r945.1 = 0 then
      (ldJ Z r955.2 v3 0).bind fun z960 =>
      if (lg_cmp z960 ((r950.1 : Int32).toInt64)) = 0 then
        t_L_law_l2405 Z T r955.2 v0 v1 v2 v3 v4 v5
      else
        some (.inr ((0, r955.2)))
    else
      t_L_law_l2405 Z T r955.2 v0 v1 v2 v3 v4 v5
  else
    some (.inr ((0, r955.2)))
  else none
  else none
theorem k_L_law_l2364 {G : aG} {h0 : aH} {K : aRes → aH → Prop} {T : Nat → Nat} {h : aH} {v0 : Nat} {v1 : Nat} {v2 : Nat} {v3 : Nat} {v4 : Nat} {v5 : Int32} {e : ((Nat × Nat × Nat × Nat × Nat × Int32 × aH) ⊕ (Int32 × aH))} (hT : t_L_law_l2364 (gZ G) T h v0 v1 v2 v3 v4 v5 = some e) (he : (Sum.elim (p_L_law_b28 G h0 K) (fun e => aTo (aEI e.1 e.2) K)) e) : aW G M_L_law 8192 104096 h0 K h 2364 [some (.ref v0), some (.ref v1), some (.ref v2), some (.ref v3), some (.ref v4), some (.int v5), none, none, none, none] [] := by
  unfold t_L_law_l2364 at hT
  refine a_aload_n dL_law_2364 rfl ?_
  refine a_aload_n dL_law_2365 rfl ?_
  obtain ⟨r945, e946, hT⟩ := obnd hT
  refine a_callSW ks_X0_266 (k_X0_restore e946) ⟨Nat.le_of_ble_eq_true rfl, Nat.le_of_ble_eq_true rfl⟩ (As := [.ref v1, .ref v3]) (rest := []) rfl rfl (Nat.le_of_ble_eq_true rfl) dL_law_2366 (kI ?_) xI
  refine a_istore (lv' := [some (.ref v0), some (.ref v1), some (.ref v2), some (.ref v3), some (.ref v4), some (.int v5), some (.int r945.1), none, none, none]) dL_law_2369 rfl (by decide) rfl ?_
  refine a_aload_n dL_law_2371 rfl ?_
  obtain ⟨g949, hT⟩ := oifg hT
  obtain ⟨r950, e951, hT⟩ := obnd hT
  refine a_callV kv_X0_268 g949 (twM (E := aEI) (fun s9 B9 r9 ht9 e9 => k_X3_restore ht9 e9) e951) ⟨Nat.le_of_ble_eq_true rfl, Nat.le_of_ble_eq_true rfl⟩ (As := []) (rest := []) rfl rfl (Nat.le_of_ble_eq_true rfl) dL_law_2372 (kI ?_) xI
  refine a_istore (lv' := [some (.ref v0), some (.ref v1), some (.ref v2), some (.ref v3), some (.ref v4), some (.int v5), some (.int r945.1), some (.int r950.1), none, none]) dL_law_2375 rfl (by decide) rfl ?_
  refine a_aload_n dL_law_2377 rfl ?_
  obtain ⟨g954, hT⟩ := oifg hT
  obtain ⟨r955, e956, hT⟩ := obnd hT
  refine a_callV kv_X0_141 g954 (twM (E := aEI) (fun s9 B9 r9 ht9 e9 => k_X3_thrown ht9 e9) e956) ⟨Nat.le_of_ble_eq_true rfl, Nat.le_of_ble_eq_true rfl⟩ (As := []) (rest := []) rfl rfl (Nat.le_of_ble_eq_true rfl) dL_law_2378 (kI ?_) xI
  refine a_iload dL_law_2381 rfl ?_
  refine a_icmp_eq 2388 dL_law_2383 rfl (fun c957 => ?_) (fun c957 => ?_)
  · have hT := oifp c957 hT
    refine a_iload dL_law_2388 rfl ?_
    refine a_if_ne 2405 dL_law_2390 rfl (fun c958 => ?_) (fun c958 => ?_)
    · have hT := oifn c958 hT
      refine a_mask [true, true, true, true, true, true, false, false, true, true] ?_
      exact k_L_law_l2405 hT he
    · have hT := oifp c958 hT
      refine a_aload_n dL_law_2393 rfl ?_
      refine a_iconst (v := 0) dL_law_2394 (by decide) ?_
      obtain ⟨z960, e959, hT⟩ := obnd hT
      refine a_ldJ e959 dL_law_2395 ?_
      refine a_iload dL_law_2396 rfl ?_
      refine a_i2l dL_law_2398 ?_
      refine a_lcmp dL_law_2399 ?_
      refine a_if_eq 2405 dL_law_2400 rfl (fun c961 => ?_) (fun c961 => ?_)
      · have hT := oifp c961 hT
        refine a_mask [true, true, true, true, true, true, false, false, true, true] ?_
        exact k_L_law_l2405 hT he
      · have hT := oifn c961 hT
        refine a_iconst (v := 0) dL_law_2403 (by decide) ?_
        obtain rfl := Option.some.inj hT
        exact a_iret rfl (by decide) dL_law_2404 (he _ _ ⟨rfl, rfl⟩)
  · have hT := oifn c957 hT
    refine a_iconst (v := 0) dL_law_2386 (by decide) ?_
    obtain rfl := Option.some.inj hT
    exact a_iret rfl (by decide) dL_law_2387 (he _ _ ⟨rfl, rfl⟩)
noncomputable def t_L_law_b28 (Z : aZ) (T : Nat → Nat) : (Nat × Nat × Nat × Nat × Nat × Int32 × aH) → Option ((Nat × Nat × Nat × Nat × Nat × Int32 × aH) ⊕ (Int32 × aH)) := fun (v0, v1, v2, v3, v4, v5, h) =>
  (oldLen Z v0).bind fun z17 =>
  if (z17 - 4) < v5 then
    some (.inr ((1, h)))
  else
    (oldLd .int Z v0 v5).bind fun z21 =>
    if (z21 &&& 63) = 0 then
      t_L_law_l216 Z T h v0 v1 v2 v3 v4 v5
    else
      if (z21 &&& 63) = 1 then
        t_L_law_l296 Z T h v0 v1 v2 v3 v4 v5
      else
        if (z21 &&& 63) = 2 then
          t_L_law_l309 Z T h v0 v1 v2 v3 v4 v5
        else
          if (z21 &&& 63) = 3 then
            t_L_law_l389 Z T h v0 v1 v2 v3 v4 v5
          else
            if (z21 &&& 63) = 4 then
              t_L_law_l445 Z T h v0 v1 v2 v3 v4 v5
            else
              if (z21 &&& 63) = 5 then
                t_L_law_l501 Z T h v0 v1 v2 v3 v4 v5
              else
                if (z21 &&& 63) = 6 then
                  t_L_law_l557 Z T h v0 v1 v2 v3 v4 v5
                else
                  if (z21 &&& 63) = 7 then
                    t_L_law_l637 Z T h v0 v1 v2 v3 v4 v5
                  else
                    if (z21 &&& 63) = 8 then
                      t_L_law_l705 Z T h v0 v1 v2 v3 v4 v5
                    else
                      if (z21 &&& 63) = 9 then
                        t_L_law_l773 Z T h v0 v1 v2 v3 v4 v5
                      else
                        if (z21 &&& 63) = 10 then
                          t_L_law_l841 Z T h v0 v1 v2 v3 v4 v5
                        else
                          if (z21 &&& 63) = 11 then
                            t_L_law_l916 Z T h v0 v1 v2 v3 v4 v5
                          else
                            if (z21 &&& 63) = 12 then
                              t_L_law_l984 Z T h v0 v1 v2 v3 v4 v5
                            else
                              if (z21 &&& 63) = 13 then
                                t_L_law_l1052 Z T h v0 v1 v2 v3 v4 v5
                              else
                                if (z21 &&& 63) = 14 then
                                  t_L_law_l1108 Z T h v0 v1 v2 v3 v4 v5
                                else
                                  if (z21 &&& 63) = 15 then
                                    t_L_law_l1164 Z T h v0 v1 v2 v3 v4 v5
                                  else
                                    if (z21 &&& 63) = 16 then
                                      t_L_law_l1220 Z T h v0 v1 v2 v3 v4 v5
                                    else
                                      if (z21 &&& 63) = 17 then
                                        t_L_law_l1276 Z T h v0 v1 v2 v3 v4 v5
                                      else
                                        if (z21 &&& 63) = 18 then
                                          t_L_law_l1351 Z T h v0 v1 v2 v3 v4 v5
                                        else
                                          if (z21 &&& 63) = 19 then
                                            t_L_law_l1419 Z T h v0 v1 v2 v3 v4 v5
                                          else
                                            if (z21 &&& 63) = 20 then
                                              t_L_law_l1432 Z T h v0 v1 v2 v3 v4 v5
                                            else
                                              if (z21 &&& 63) = 21 then
                                                t_L_law_l1500 Z T h v0 v1 v2 v3 v4 v5
                                              else
                                                if (z21 &&& 63) = 22 then
                                                  t_L_law_l1568 Z T h v0 v1 v2 v3 v4 v5
                                                else
                                                  if (z21 &&& 63) = 23 then
                                                    t_L_law_l1624 Z T h v0 v1 v2 v3 v4 v5
                                                  else
                                                    if (z21 &&& 63) = 24 then
                                                      t_L_law_l1680 Z T h v0 v1 v2 v3 v4 v5
                                                    else
                                                      if (z21 &&& 63) = 25 then
                                                        t_L_law_l1748 Z T h v0 v1 v2 v3 v4 v5
                                                      else
                                                        if (z21 &&& 63) = 26 then
                                                          t_L_law_l1804 Z T h v0 v1 v2 v3 v4 v5
                                                        else
                                                          if (z21 &&& 63) = 27 then
                                                            t_L_law_l1862 Z T h v0 v1 v2 v3 v4 v5
                                                          else
                                                            if (z21 &&& 63) = 28 then
                                                              t_L_law_l1906 Z T h v0 v1 v2 v3 v4 v5
                                                            else
                                                              if (z21 &&& 63) = 29 then
                                                                t_L_law_l1919 Z T h v0 v1 v2 v3 v4 v5
                                                              else
                                                                if (z21 &&& 63) = 30 then
                                                                  t_L_law_l1975 Z T h v0 v1 v2 v3 v4 v5
                                                                else
                                                                  if (z21 &&& 63) = 31 then
                                                                    t_L_law_l2031 Z T h v0 v1 v2 v3 v4 v5
                                                                  else
                                                                    if (z21 &&& 63) = 32 then
                                                                      t_L_law_l2087 Z T h v0 v1 v2 v3 v4 v5
                                                                    else
                                                                      if (z21 &&& 63) = 33 then
                                                                        t_L_law_l2143 Z T h v0 v1 v2 v3 v4 v5
                                                                      else
                                                                        if (z21 &&& 63) = 34 then
                                                                          t_L_law_l2208 Z T h v0 v1 v2 v3 v4 v5
                                                                        else
                                                                          if (z21 &&& 63) = 35 then
                                                                            t_L_law_l2251 Z T h v0 v1 v2 v3 v4 v5
                                                                          else
                                                                            if (z21 &&& 63) = 36 then
                                                                              t_L_law_l2307 Z T h v0 v1 v2 v3 v4 v5
                                                                            else
                                                                              if (z21 &&& 63) = 37 then
                                                                                t_L_law_l2351 Z T h v0 v1 v2 v3 v4 v5
                                                                              else
                                                                                if (z21 &&& 63) = 38 then
                                                                                  t_L_law_l2364 Z T h v0 v1 v2 v3 v4 v5
                                                                                else
                                                                                  t_L_law_l2408 Z T h v0 v1 v2 v3 v4 v5
theorem kb_L_law_b28 {G : aG} {h0 : aH} {K : aRes → aH → Prop} {T : Nat → Nat} : ∀ (x9 : (Nat × Nat × Nat × Nat × Nat × Int32 × aH)) (e : ((Nat × Nat × Nat × Nat × Nat × Int32 × aH) ⊕ (Int32 × aH))), t_L_law_b28 (gZ G) T x9 = some e → (Sum.elim (p_L_law_b28 G h0 K) (fun e => aTo (aEI e.1 e.2) K)) e → p_L_law_b28 G h0 K x9 := by
  intro x9 e hT he
  obtain ⟨v0, v1, v2, v3, v4, v5, h⟩ := x9
  unfold p_L_law_b28
  unfold t_L_law_b28 at hT
  show aW G M_L_law 8192 104096 h0 K h 28 [some (.ref v0), some (.ref v1), some (.ref v2), some (.ref v3), some (.ref v4), some (.int v5), none, none, none, none] []
  dsimp only at hT
  refine a_iload dL_law_28 rfl ?_
  refine a_aload_n dL_law_30 rfl ?_
  obtain ⟨z17, e18, hT⟩ := obnd hT
  refine a_oldLen e18 dL_law_31 ?_
  refine a_iconst (v := 4) dL_law_32 (by decide) ?_
  refine a_isub dL_law_33 ?_
  refine a_icmp_gt 2414 dL_law_34 rfl (fun c19 => ?_) (fun c19 => ?_)
  · have hT := oifp c19 hT
    refine a_iconst (v := 1) dL_law_2414 (by decide) ?_
    obtain rfl := Option.some.inj hT
    exact a_iret rfl (by decide) dL_law_2415 (he _ _ ⟨rfl, rfl⟩)
  · have hT := oifn c19 hT
    refine a_aload_n dL_law_37 rfl ?_
    refine a_iload dL_law_38 rfl ?_
    obtain ⟨z21, e20, hT⟩ := obnd hT
    refine a_oldI e20 dL_law_40 ?_
    refine a_bipush (v := 63) dL_law_41 (by decide) ?_
    refine a_iand dL_law_43 ?_
    by_cases c22 : (z21 &&& 63) = 0
    · have hT := oifp c22 hT
      refine a_tswIn 216 dL_law_44 (by rw [c22]; decide) (by rw [c22]; decide) (off := 172) (by rw [c22]; rfl) rfl ?_
      exact k_L_law_l216 hT he
    · have hT := oifn c22 hT
      by_cases c54 : (z21 &&& 63) = 1
      · have hT := oifp c54 hT
        refine a_tswIn 296 dL_law_44 (by rw [c54]; decide) (by rw [c54]; decide) (off := 252) (by rw [c54]; rfl) rfl ?_
        exact k_L_law_l296 hT he
      · have hT := oifn c54 hT
        by_cases c66 : (z21 &&& 63) = 2
        · have hT := oifp c66 hT
          refine a_tswIn 309 dL_law_44 (by rw [c66]; decide) (by rw [c66]; decide) (off := 265) (by rw [c66]; rfl) rfl ?_
          exact k_L_law_l309 hT he
        · have hT := oifn c66 hT
          by_cases c98 : (z21 &&& 63) = 3
          · have hT := oifp c98 hT
            refine a_tswIn 389 dL_law_44 (by rw [c98]; decide) (by rw [c98]; decide) (off := 345) (by rw [c98]; rfl) rfl ?_
            exact k_L_law_l389 hT he
          · have hT := oifn c98 hT
            by_cases c122 : (z21 &&& 63) = 4
            · have hT := oifp c122 hT
              refine a_tswIn 445 dL_law_44 (by rw [c122]; decide) (by rw [c122]; decide) (off := 401) (by rw [c122]; rfl) rfl ?_
              exact k_L_law_l445 hT he
            · have hT := oifn c122 hT
              by_cases c146 : (z21 &&& 63) = 5
              · have hT := oifp c146 hT
                refine a_tswIn 501 dL_law_44 (by rw [c146]; decide) (by rw [c146]; decide) (off := 457) (by rw [c146]; rfl) rfl ?_
                exact k_L_law_l501 hT he
              · have hT := oifn c146 hT
                by_cases c170 : (z21 &&& 63) = 6
                · have hT := oifp c170 hT
                  refine a_tswIn 557 dL_law_44 (by rw [c170]; decide) (by rw [c170]; decide) (off := 513) (by rw [c170]; rfl) rfl ?_
                  exact k_L_law_l557 hT he
                · have hT := oifn c170 hT
                  by_cases c202 : (z21 &&& 63) = 7
                  · have hT := oifp c202 hT
                    refine a_tswIn 637 dL_law_44 (by rw [c202]; decide) (by rw [c202]; decide) (off := 593) (by rw [c202]; rfl) rfl ?_
                    exact k_L_law_l637 hT he
                  · have hT := oifn c202 hT
                    by_cases c230 : (z21 &&& 63) = 8
                    · have hT := oifp c230 hT
                      refine a_tswIn 705 dL_law_44 (by rw [c230]; decide) (by rw [c230]; decide) (off := 661) (by rw [c230]; rfl) rfl ?_
                      exact k_L_law_l705 hT he
                    · have hT := oifn c230 hT
                      by_cases c258 : (z21 &&& 63) = 9
                      · have hT := oifp c258 hT
                        refine a_tswIn 773 dL_law_44 (by rw [c258]; decide) (by rw [c258]; decide) (off := 729) (by rw [c258]; rfl) rfl ?_
                        exact k_L_law_l773 hT he
                      · have hT := oifn c258 hT
                        by_cases c286 : (z21 &&& 63) = 10
                        · have hT := oifp c286 hT
                          refine a_tswIn 841 dL_law_44 (by rw [c286]; decide) (by rw [c286]; decide) (off := 797) (by rw [c286]; rfl) rfl ?_
                          exact k_L_law_l841 hT he
                        · have hT := oifn c286 hT
                          by_cases c315 : (z21 &&& 63) = 11
                          · have hT := oifp c315 hT
                            refine a_tswIn 916 dL_law_44 (by rw [c315]; decide) (by rw [c315]; decide) (off := 872) (by rw [c315]; rfl) rfl ?_
                            exact k_L_law_l916 hT he
                          · have hT := oifn c315 hT
                            by_cases c343 : (z21 &&& 63) = 12
                            · have hT := oifp c343 hT
                              refine a_tswIn 984 dL_law_44 (by rw [c343]; decide) (by rw [c343]; decide) (off := 940) (by rw [c343]; rfl) rfl ?_
                              exact k_L_law_l984 hT he
                            · have hT := oifn c343 hT
                              by_cases c371 : (z21 &&& 63) = 13
                              · have hT := oifp c371 hT
                                refine a_tswIn 1052 dL_law_44 (by rw [c371]; decide) (by rw [c371]; decide) (off := 1008) (by rw [c371]; rfl) rfl ?_
                                exact k_L_law_l1052 hT he
                              · have hT := oifn c371 hT
                                by_cases c395 : (z21 &&& 63) = 14
                                · have hT := oifp c395 hT
                                  refine a_tswIn 1108 dL_law_44 (by rw [c395]; decide) (by rw [c395]; decide) (off := 1064) (by rw [c395]; rfl) rfl ?_
                                  exact k_L_law_l1108 hT he
                                · have hT := oifn c395 hT
                                  by_cases c419 : (z21 &&& 63) = 15
                                  · have hT := oifp c419 hT
                                    refine a_tswIn 1164 dL_law_44 (by rw [c419]; decide) (by rw [c419]; decide) (off := 1120) (by rw [c419]; rfl) rfl ?_
                                    exact k_L_law_l1164 hT he
                                  · have hT := oifn c419 hT
                                    by_cases c443 : (z21 &&& 63) = 16
                                    · have hT := oifp c443 hT
                                      refine a_tswIn 1220 dL_law_44 (by rw [c443]; decide) (by rw [c443]; decide) (off := 1176) (by rw [c443]; rfl) rfl ?_
                                      exact k_L_law_l1220 hT he
                                    · have hT := oifn c443 hT
                                      by_cases c467 : (z21 &&& 63) = 17
                                      · have hT := oifp c467 hT
                                        refine a_tswIn 1276 dL_law_44 (by rw [c467]; decide) (by rw [c467]; decide) (off := 1232) (by rw [c467]; rfl) rfl ?_
                                        exact k_L_law_l1276 hT he
                                      · have hT := oifn c467 hT
                                        by_cases c496 : (z21 &&& 63) = 18
                                        · have hT := oifp c496 hT
                                          refine a_tswIn 1351 dL_law_44 (by rw [c496]; decide) (by rw [c496]; decide) (off := 1307) (by rw [c496]; rfl) rfl ?_
                                          exact k_L_law_l1351 hT he
                                        · have hT := oifn c496 hT
                                          by_cases c524 : (z21 &&& 63) = 19
                                          · have hT := oifp c524 hT
                                            refine a_tswIn 1419 dL_law_44 (by rw [c524]; decide) (by rw [c524]; decide) (off := 1375) (by rw [c524]; rfl) rfl ?_
                                            exact k_L_law_l1419 hT he
                                          · have hT := oifn c524 hT
                                            by_cases c536 : (z21 &&& 63) = 20
                                            · have hT := oifp c536 hT
                                              refine a_tswIn 1432 dL_law_44 (by rw [c536]; decide) (by rw [c536]; decide) (off := 1388) (by rw [c536]; rfl) rfl ?_
                                              exact k_L_law_l1432 hT he
                                            · have hT := oifn c536 hT
                                              by_cases c564 : (z21 &&& 63) = 21
                                              · have hT := oifp c564 hT
                                                refine a_tswIn 1500 dL_law_44 (by rw [c564]; decide) (by rw [c564]; decide) (off := 1456) (by rw [c564]; rfl) rfl ?_
                                                exact k_L_law_l1500 hT he
                                              · have hT := oifn c564 hT
                                                by_cases c592 : (z21 &&& 63) = 22
                                                · have hT := oifp c592 hT
                                                  refine a_tswIn 1568 dL_law_44 (by rw [c592]; decide) (by rw [c592]; decide) (off := 1524) (by rw [c592]; rfl) rfl ?_
                                                  exact k_L_law_l1568 hT he
                                                · have hT := oifn c592 hT
                                                  by_cases c616 : (z21 &&& 63) = 23
                                                  · have hT := oifp c616 hT
                                                    refine a_tswIn 1624 dL_law_44 (by rw [c616]; decide) (by rw [c616]; decide) (off := 1580) (by rw [c616]; rfl) rfl ?_
                                                    exact k_L_law_l1624 hT he
                                                  · have hT := oifn c616 hT
                                                    by_cases c640 : (z21 &&& 63) = 24
                                                    · have hT := oifp c640 hT
                                                      refine a_tswIn 1680 dL_law_44 (by rw [c640]; decide) (by rw [c640]; decide) (off := 1636) (by rw [c640]; rfl) rfl ?_
                                                      exact k_L_law_l1680 hT he
                                                    · have hT := oifn c640 hT
                                                      by_cases c668 : (z21 &&& 63) = 25
                                                      · have hT := oifp c668 hT
                                                        refine a_tswIn 1748 dL_law_44 (by rw [c668]; decide) (by rw [c668]; decide) (off := 1704) (by rw [c668]; rfl) rfl ?_
                                                        exact k_L_law_l1748 hT he
                                                      · have hT := oifn c668 hT
                                                        by_cases c692 : (z21 &&& 63) = 26
                                                        · have hT := oifp c692 hT
                                                          refine a_tswIn 1804 dL_law_44 (by rw [c692]; decide) (by rw [c692]; decide) (off := 1760) (by rw [c692]; rfl) rfl ?_
                                                          exact k_L_law_l1804 hT he
                                                        · have hT := oifn c692 hT
                                                          by_cases c716 : (z21 &&& 63) = 27
                                                          · have hT := oifp c716 hT
                                                            refine a_tswIn 1862 dL_law_44 (by rw [c716]; decide) (by rw [c716]; decide) (off := 1818) (by rw [c716]; rfl) rfl ?_
                                                            exact k_L_law_l1862 hT he
                                                          · have hT := oifn c716 hT
                                                            by_cases c736 : (z21 &&& 63) = 28
                                                            · have hT := oifp c736 hT
                                                              refine a_tswIn 1906 dL_law_44 (by rw [c736]; decide) (by rw [c736]; decide) (off := 1862) (by rw [c736]; rfl) rfl ?_
                                                              exact k_L_law_l1906 hT he
                                                            · have hT := oifn c736 hT
                                                              by_cases c748 : (z21 &&& 63) = 29
                                                              · have hT := oifp c748 hT
                                                                refine a_tswIn 1919 dL_law_44 (by rw [c748]; decide) (by rw [c748]; decide) (off := 1875) (by rw [c748]; rfl) rfl ?_
                                                                exact k_L_law_l1919 hT he
                                                              · have hT := oifn c748 hT
                                                                by_cases c772 : (z21 &&& 63) = 30
                                                                · have hT := oifp c772 hT
                                                                  refine a_tswIn 1975 dL_law_44 (by rw [c772]; decide) (by rw [c772]; decide) (off := 1931) (by rw [c772]; rfl) rfl ?_
                                                                  exact k_L_law_l1975 hT he
                                                                · have hT := oifn c772 hT
                                                                  by_cases c796 : (z21 &&& 63) = 31
                                                                  · have hT := oifp c796 hT
                                                                    refine a_tswIn 2031 dL_law_44 (by rw [c796]; decide) (by rw [c796]; decide) (off := 1987) (by rw [c796]; rfl) rfl ?_
                                                                    exact k_L_law_l2031 hT he
                                                                  · have hT := oifn c796 hT
                                                                    by_cases c820 : (z21 &&& 63) = 32
                                                                    · have hT := oifp c820 hT
                                                                      refine a_tswIn 2087 dL_law_44 (by rw [c820]; decide) (by rw [c820]; decide) (off := 2043) (by rw [c820]; rfl) rfl ?_
                                                                      exact k_L_law_l2087 hT he
                                                                    · have hT := oifn c820 hT
                                                                      by_cases c844 : (z21 &&& 63) = 33
                                                                      · have hT := oifp c844 hT
                                                                        refine a_tswIn 2143 dL_law_44 (by rw [c844]; decide) (by rw [c844]; decide) (off := 2099) (by rw [c844]; rfl) rfl ?_
                                                                        exact k_L_law_l2143 hT he
                                                                      · have hT := oifn c844 hT
                                                                        by_cases c870 : (z21 &&& 63) = 34
                                                                        · have hT := oifp c870 hT
                                                                          refine a_tswIn 2208 dL_law_44 (by rw [c870]; decide) (by rw [c870]; decide) (off := 2164) (by rw [c870]; rfl) rfl ?_
                                                                          exact k_L_law_l2208 hT he
                                                                        · have hT := oifn c870 hT
                                                                          by_cases c886 : (z21 &&& 63) = 35
                                                                          · have hT := oifp c886 hT
                                                                            refine a_tswIn 2251 dL_law_44 (by rw [c886]; decide) (by rw [c886]; decide) (off := 2207) (by rw [c886]; rfl) rfl ?_
                                                                            exact k_L_law_l2251 hT he
                                                                          · have hT := oifn c886 hT
                                                                            by_cases c910 : (z21 &&& 63) = 36
                                                                            · have hT := oifp c910 hT
                                                                              refine a_tswIn 2307 dL_law_44 (by rw [c910]; decide) (by rw [c910]; decide) (off := 2263) (by rw [c910]; rfl) rfl ?_
                                                                              exact k_L_law_l2307 hT he
                                                                            · have hT := oifn c910 hT
                                                                              by_cases c930 : (z21 &&& 63) = 37
                                                                              · have hT := oifp c930 hT
                                                                                refine a_tswIn 2351 dL_law_44 (by rw [c930]; decide) (by rw [c930]; decide) (off := 2307) (by rw [c930]; rfl) rfl ?_
                                                                                exact k_L_law_l2351 hT he
                                                                              · have hT := oifn c930 hT
                                                                                by_cases c942 : (z21 &&& 63) = 38
                                                                                · have hT := oifp c942 hT
                                                                                  refine a_tswIn 2364 dL_law_44 (by rw [c942]; decide) (by rw [c942]; decide) (off := 2320) (by rw [c942]; rfl) rfl ?_
                                                                                  exact k_L_law_l2364 hT he
                                                                                · have hT := oifn c942 hT
                                                                                  refine aTsw 2408 dL_law_44 rfl (cs := [0, 1, 2, 3, 4, 5, 6, 7, 8, 9, 10, 11, 12, 13, 14, 15, 16, 17, 18, 19, 20, 21, 22, 23, 24, 25, 26, 27, 28, 29, 30, 31, 32, 33, 34, 35, 36, 37, 38]) (by decide +kernel) (by simp only [List.mem_cons, List.not_mem_nil, or_false]; rintro z9 (rfl | rfl | rfl | rfl | rfl | rfl | rfl | rfl | rfl | rfl | rfl | rfl | rfl | rfl | rfl | rfl | rfl | rfl | rfl | rfl | rfl | rfl | rfl | rfl | rfl | rfl | rfl | rfl | rfl | rfl | rfl | rfl | rfl | rfl | rfl | rfl | rfl | rfl | rfl) <;> assumption) ?_
                                                                                  exact k_L_law_l2408 hT he
theorem k_L_law_b28 {G : aG} {h0 : aH} {K : aRes → aH → Prop} {T : Nat → Nat} {n9 : Nat} {x9 : (Nat × Nat × Nat × Nat × Nat × Int32 × aH)} {e : (Int32 × aH)} (hT : wlo (t_L_law_b28 (gZ G) T) n9 x9 = some e) (he : (fun e => aTo (aEI e.1 e.2) K) e) : p_L_law_b28 G h0 K x9 := wlo_W kb_L_law_b28 n9 x9 e hT he
noncomputable def t_L_law (Z : aZ) (T : Nat → Nat) (h : aH) (x0 : Nat) : Option (Int32 × aH) :=
  (nw Z h (.inr (0, [.null, .null, .null, .null, .null, .int 0, .int 0, .null])) 8).bind fun h1 =>
  (t_X1_init Z h1 h.2.1).bind fun r5 =>
  (nw Z r5.2 (.inr (2, [.null, .null, .null, .int 0, .null, .int 0, .int 0, .int 0, .int 0, .int 0, .null, .int 0, .int 0, .null, .null, .int 0, .int 0, .int 0, .int 0, .null, .int 0])) 21).bind fun h7 =>
  (t_X3_init Z h7 r5.2.2.1).bind fun r11 =>
  (nwA Z r11.2 1 (fun N => .inl (zJ Z, N, .inr (.inl fun _ => 0)))).bind fun h13 =>
  (nwA Z h13 1 (fun N => .inl (zD Z, N, .inr (.inr (.inr (.inl fun _ => 0)))))).bind fun h15 =>
  wlo (t_L_law_b28 Z T) 100 (x0, h.2.1, r5.2.2.1, r11.2.2.1, h13.2.1, 0, h15)
theorem k_L_law {G : aG} {h0 : aH} {K : aRes → aH → Prop} {T : Nat → Nat} {h : aH} {x0 : Nat} {e : (Int32 × aH)} (hT : t_L_law (gZ G) T h x0 = some e) (he : (fun e => aTo (aEI e.1 e.2) K) e) : aW G M_L_law 8192 104096 h0 K h 0 [some (.ref x0), none, none, none, none, none, none, none, none, none] [] := by
  unfold t_L_law at hT
  obtain ⟨h1, e2, hT⟩ := obnd hT
  refine a_new fn_X0_8 e2 dL_law_0 ?_
  refine a_dup dL_law_3 rfl ?_
  obtain ⟨r5, e6, hT⟩ := obnd hT
  refine a_callI ki_X0_131 (k_X1_init e6) ⟨Nat.le_of_ble_eq_true rfl, Nat.le_of_ble_eq_true rfl⟩ (As := []) (rest := [.ref h.2.1]) rfl rfl (Nat.le_of_ble_eq_true rfl) dL_law_4 (kV ?_) xV
  refine a_astore_n (lv' := [some (.ref x0), some (.ref h.2.1), none, none, none, none, none, none, none, none]) dL_law_7 rfl (by decide) rfl ?_
  obtain ⟨h7, e8, hT⟩ := obnd hT
  refine a_new fn_X0_132 e8 dL_law_8 ?_
  refine a_dup dL_law_11 rfl ?_
  obtain ⟨r11, e12, hT⟩ := obnd hT
  refine a_callI ki_X0_134 (k_X3_init e12) ⟨Nat.le_of_ble_eq_true rfl, Nat.le_of_ble_eq_true rfl⟩ (As := []) (rest := [.ref r5.2.2.1]) rfl rfl (Nat.le_of_ble_eq_true rfl) dL_law_12 (kV ?_) xV
  refine a_astore_n (lv' := [some (.ref x0), some (.ref h.2.1), some (.ref r5.2.2.1), none, none, none, none, none, none, none]) dL_law_15 rfl (by decide) rfl ?_
  refine a_iconst (v := 1) dL_law_16 (by decide) ?_
  obtain ⟨h13, e14, hT⟩ := obnd hT
  refine a_newJ q2133 e14 dL_law_17 ?_
  refine a_astore_n (lv' := [some (.ref x0), some (.ref h.2.1), some (.ref r5.2.2.1), some (.ref r11.2.2.1), none, none, none, none, none, none]) dL_law_19 rfl (by decide) rfl ?_
  refine a_iconst (v := 1) dL_law_20 (by decide) ?_
  obtain ⟨h15, e16, hT⟩ := obnd hT
  refine a_newD q2134 e16 dL_law_21 ?_
  refine a_astore (lv' := [some (.ref x0), some (.ref h.2.1), some (.ref r5.2.2.1), some (.ref r11.2.2.1), some (.ref h13.2.1), none, none, none, none, none]) dL_law_23 rfl (by decide) rfl ?_
  refine a_iconst (v := 0) dL_law_25 (by decide) ?_
  refine a_istore (lv' := [some (.ref x0), some (.ref h.2.1), some (.ref r5.2.2.1), some (.ref r11.2.2.1), some (.ref h13.2.1), some (.int 0), none, none, none, none]) dL_law_26 rfl (by decide) rfl ?_
  exact k_L_law_b28 hT he
