/-! references of fields, classes and methods, by class and place in its pool -/
set_option maxRecDepth 100000
theorem mr_X3_1 : MRefI RX3 1 yJ38_init cJ38_init 1 0 := ⟨q2061, q147, rfl, q2539, q148, ⟨by decide, by decide⟩, by decide +kernel⟩
theorem fr_X3_9 : FRef RX3 9 0 0 (.array .int) true := ⟨RX3, TX3, 25, _, tyX3, rfl, in_X3, by decide, q2062, fun _ _ _ _ h9 => h9, tyX3_ok, nmX3, rfl, rfl, (fun _ => rfl)⟩
theorem fr_X3_13 : FRef RX3 13 0 1 (.array .int) true := ⟨RX3, TX3, 25, _, tyX3, rfl, in_X3, by decide, q2063, fun _ _ _ _ h9 => h9, tyX3_ok, nmX3, rfl, rfl, (fun _ => rfl)⟩
theorem fr_X3_16 : FRef RX3 16 0 2 (.array .int) true := ⟨RX3, TX3, 25, _, tyX3, rfl, in_X3, by decide, q2064, fun _ _ _ _ h9 => h9, tyX3_ok, nmX3, rfl, rfl, (fun _ => rfl)⟩
theorem fr_X3_19 : FRef RX3 19 0 3 (.array .int) true := ⟨RX3, TX3, 25, _, tyX3, rfl, in_X3, by decide, q2065, fun _ _ _ _ h9 => h9, tyX3_ok, nmX3, rfl, rfl, (fun _ => rfl)⟩
theorem fr_X3_284 : FRef RX3 284 0 4 .boolean false := ⟨RX3, TX3, 25, _, tyX3, rfl, in_X3, by decide, q2066, fun _ _ _ _ h9 => h9, tyX3_ok, nmX3, rfl, rfl, (fun h9 => nomatch h9)⟩
theorem fr_X3_22 : FRef RX3 22 0 5 (.array .int) true := ⟨RX3, TX3, 25, _, tyX3, rfl, in_X3, by decide, q2067, fun _ _ _ _ h9 => h9, tyX3_ok, nmX3, rfl, rfl, (fun _ => rfl)⟩
theorem fr_X3_68 : FRef RX3 68 0 6 .int false := ⟨RX3, TX3, 25, _, tyX3, rfl, in_X3, by decide, q2068, fun _ _ _ _ h9 => h9, tyX3_ok, nmX3, rfl, rfl, (fun h9 => nomatch h9)⟩
theorem fr_X3_52 : FRef RX3 52 0 7 .int false := ⟨RX3, TX3, 25, _, tyX3, rfl, in_X3, by decide, q2069, fun _ _ _ _ h9 => h9, tyX3_ok, nmX3, rfl, rfl, (fun h9 => nomatch h9)⟩
theorem fr_X3_55 : FRef RX3 55 0 8 .int false := ⟨RX3, TX3, 25, _, tyX3, rfl, in_X3, by decide, q2070, fun _ _ _ _ h9 => h9, tyX3_ok, nmX3, rfl, rfl, (fun h9 => nomatch h9)⟩
theorem fr_X3_58 : FRef RX3 58 0 9 .int false := ⟨RX3, TX3, 25, _, tyX3, rfl, in_X3, by decide, q2071, fun _ _ _ _ h9 => h9, tyX3_ok, nmX3, rfl, rfl, (fun h9 => nomatch h9)⟩
theorem fr_X3_61 : FRef RX3 61 0 10 .int false := ⟨RX3, TX3, 25, _, tyX3, rfl, in_X3, by decide, q2072, fun _ _ _ _ h9 => h9, tyX3_ok, nmX3, rfl, rfl, (fun h9 => nomatch h9)⟩
theorem fr_X3_25 : FRef RX3 25 0 11 .int false := ⟨RX3, TX3, 25, _, tyX3, rfl, in_X3, by decide, q2073, fun _ _ _ _ h9 => h9, tyX3_ok, nmX3, rfl, rfl, (fun h9 => nomatch h9)⟩
theorem fr_X3_29 : FRef RX3 29 0 12 (.array .int) true := ⟨RX3, TX3, 25, _, tyX3, rfl, in_X3, by decide, q2074, fun _ _ _ _ h9 => h9, tyX3_ok, nmX3, rfl, rfl, (fun _ => rfl)⟩
theorem fr_X3_228 : FRef RX3 228 0 13 .int false := ⟨RX3, TX3, 25, _, tyX3, rfl, in_X3, by decide, q2075, fun _ _ _ _ h9 => h9, tyX3_ok, nmX3, rfl, rfl, (fun h9 => nomatch h9)⟩
theorem fr_X3_32 : FRef RX3 32 0 14 (.array .int) true := ⟨RX3, TX3, 25, _, tyX3, rfl, in_X3, by decide, q2076, fun _ _ _ _ h9 => h9, tyX3_ok, nmX3, rfl, rfl, (fun _ => rfl)⟩
theorem fr_X3_35 : FRef RX3 35 0 15 (.array .boolean) true := ⟨RX3, TX3, 25, _, tyX3, rfl, in_X3, by decide, q2077, fun _ _ _ _ h9 => h9, tyX3_ok, nmX3, rfl, rfl, (fun _ => rfl)⟩
theorem fr_X3_39 : FRef RX3 39 0 16 (.array .char) true := ⟨RX3, TX3, 25, _, tyX3, rfl, in_X3, by decide, q2078, fun _ _ _ _ h9 => h9, tyX3_ok, nmX3, rfl, rfl, (fun _ => rfl)⟩
theorem fr_X3_43 : FRef RX3 43 0 17 (.array .int) true := ⟨RX3, TX3, 25, _, tyX3, rfl, in_X3, by decide, q2079, fun _ _ _ _ h9 => h9, tyX3_ok, nmX3, rfl, rfl, (fun _ => rfl)⟩
theorem fr_X3_46 : FRef RX3 46 0 18 (.array .int) true := ⟨RX3, TX3, 25, _, tyX3, rfl, in_X3, by decide, q2080, fun _ _ _ _ h9 => h9, tyX3_ok, nmX3, rfl, rfl, (fun _ => rfl)⟩
theorem fr_X3_257 : FRef RX3 257 0 19 .int false := ⟨RX3, TX3, 25, _, tyX3, rfl, in_X3, by decide, q2081, fun _ _ _ _ h9 => h9, tyX3_ok, nmX3, rfl, rfl, (fun h9 => nomatch h9)⟩
theorem fr_X3_231 : FRef RX3 231 0 20 .int false := ⟨RX3, TX3, 25, _, tyX3, rfl, in_X3, by decide, q2082, fun _ _ _ _ h9 => h9, tyX3_ok, nmX3, rfl, rfl, (fun h9 => nomatch h9)⟩
theorem fr_X3_234 : FRef RX3 234 0 21 .int false := ⟨RX3, TX3, 25, _, tyX3, rfl, in_X3, by decide, q2083, fun _ _ _ _ h9 => h9, tyX3_ok, nmX3, rfl, rfl, (fun h9 => nomatch h9)⟩
theorem fr_X3_237 : FRef RX3 237 0 22 .boolean false := ⟨RX3, TX3, 25, _, tyX3, rfl, in_X3, by decide, q2084, fun _ _ _ _ h9 => h9, tyX3_ok, nmX3, rfl, rfl, (fun h9 => nomatch h9)⟩
theorem fr_X3_49 : FRef RX3 49 0 23 (.array .int) true := ⟨RX3, TX3, 25, _, tyX3, rfl, in_X3, by decide, q2085, fun _ _ _ _ h9 => h9, tyX3_ok, nmX3, rfl, rfl, (fun _ => rfl)⟩
theorem fr_X3_272 : FRef RX3 272 0 24 .int false := ⟨RX3, TX3, 25, _, tyX3, rfl, in_X3, by decide, q2086, fun _ _ _ _ h9 => h9, tyX3_ok, nmX3, rfl, rfl, (fun h9 => nomatch h9)⟩
theorem mr_X3_89 : MRefV RX3 89 yX3_layAside cX3_layAside 2 none 0 := ⟨q2149, q2151, qs42, q102, q2152, ⟨by decide, by decide⟩, by decide +kernel⟩
theorem mr_X3_71 : MRefS RX3 71 yX3_in cX3_in 6 (some .boolean) 3 := ⟨q2154, q2155, q102, q2156, ⟨by decide, by decide⟩, by decide +kernel⟩
theorem mr_X3_94 : MRefV RX3 94 yX3_refuse cX3_refuse 3 (some .int) 2 := ⟨q2157, q2159, qs43, q102, q2160, ⟨by decide, by decide⟩, by decide +kernel⟩
theorem mr_X3_64 : MRefV RX3 64 yX3_throwing cX3_throwing 2 (some .int) 1 := ⟨q2161, q2163, qs44, q102, q2164, ⟨by decide, by decide⟩, by decide +kernel⟩
theorem mr_X3_86 : MRefS RX3 86 yX3_at cX3_at 1 (some .int) 1 := ⟨q2166, q2167, q102, q2168, ⟨by decide, by decide⟩, by decide +kernel⟩
theorem mr_X3_100 : MRefV RX3 100 yX3_changed cX3_changed 3 (some .int) 1 := ⟨q2169, q2171, qs45, q102, q2172, ⟨by decide, by decide⟩, by decide +kernel⟩
theorem mr_X3_103 : MRefV RX3 103 yX3_isReach cX3_isReach 2 (some .boolean) 1 := ⟨q2177, q2179, qs46, q102, q2180, ⟨by decide, by decide⟩, by decide +kernel⟩
theorem mr_X3_106 : MRefV RX3 106 yX3_hasHolt cX3_hasHolt 2 (some .boolean) 1 := ⟨q2181, q2183, qs47, q102, q2184, ⟨by decide, by decide⟩, by decide +kernel⟩
theorem mr_X3_109 : MRefV RX3 109 yX3_otters cX3_otters 4 (some .int) 1 := ⟨q2185, q2187, qs48, q102, q2188, ⟨by decide, by decide⟩, by decide +kernel⟩
theorem mr_X3_82 : MRefV RX3 82 yX3_livesAt cX3_livesAt 3 (some .boolean) 2 := ⟨q2189, q2191, qs49, q102, q2192, ⟨by decide, by decide⟩, by decide +kernel⟩
theorem mr_X3_78 : MRefV RX3 78 yX3_lives cX3_lives 2 (some .boolean) 1 := ⟨q2193, q2195, qs50, q102, q2196, ⟨by decide, by decide⟩, by decide +kernel⟩
theorem mr_X3_75 : MRefS RX3 75 yX3_of cX3_of 1 (some .int) 1 := ⟨q2197, q2198, q102, q2199, ⟨by decide, by decide⟩, by decide +kernel⟩
theorem mr_X3_112 : MRefV RX3 112 yX3_quality cX3_quality 3 (some .int) 1 := ⟨q2200, q2202, qs51, q102, q2203, ⟨by decide, by decide⟩, by decide +kernel⟩
theorem mr_X3_115 : MRefV RX3 115 yX3_lowestAt cX3_lowestAt 3 (some .int) 1 := ⟨q2208, q2210, qs52, q102, q2211, ⟨by decide, by decide⟩, by decide +kernel⟩
theorem mr_X3_118 : MRefV RX3 118 yX3_comes cX3_comes 3 (some .int) 1 := ⟨q2212, q2214, qs53, q102, q2215, ⟨by decide, by decide⟩, by decide +kernel⟩
theorem mr_X3_121 : MRefS RX3 121 yX3_by cX3_by 1 (some .int) 1 := ⟨q2220, q2221, q102, q2222, ⟨by decide, by decide⟩, by decide +kernel⟩
theorem mr_X3_124 : MRefV RX3 124 yX3_levelIt cX3_levelIt 3 (some .int) 1 := ⟨q2227, q2229, qs54, q102, q2230, ⟨by decide, by decide⟩, by decide +kernel⟩
theorem mr_X3_129 : MRefV RX3 129 yX3_giveIt cX3_giveIt 2 (some .int) 1 := ⟨q2235, q2237, qs55, q102, q2238, ⟨by decide, by decide⟩, by decide +kernel⟩
theorem mr_X3_139 : MRefV RX3 139 yX3_shutIt cX3_shutIt 3 (some .int) 1 := ⟨q2244, q2246, qs56, q102, q2247, ⟨by decide, by decide⟩, by decide +kernel⟩
theorem mr_X3_132 : MRefV RX3 132 yX3_hasBridge cX3_hasBridge 2 (some .boolean) 1 := ⟨q2248, q2250, qs57, q102, q2251, ⟨by decide, by decide⟩, by decide +kernel⟩
theorem mr_X3_135 : MRefV RX3 135 yX3_openDips cX3_openDips 3 (some .int) 0 := ⟨q2252, q2254, qs58, q102, q2255, ⟨by decide, by decide⟩, by decide +kernel⟩
theorem mr_X3_195 : MRefV RX3 195 yX3_passIt cX3_passIt 4 (some .int) 1 := ⟨q2260, q2262, qs59, q102, q2263, ⟨by decide, by decide⟩, by decide +kernel⟩
theorem mr_X3_189 : MRefV RX3 189 yX3_inState cX3_inState 4 (some .int) 1 := ⟨q2264, q2266, qs60, q102, q2267, ⟨by decide, by decide⟩, by decide +kernel⟩
theorem mr_X3_192 : MRefV RX3 192 yX3_night cX3_night 2 none 0 := ⟨q2268, q2270, qs61, q102, q2271, ⟨by decide, by decide⟩, by decide +kernel⟩
theorem mr_X3_180 : MRefV RX3 180 yX3_goesOut cX3_goesOut 5 none 1 := ⟨q2272, q2274, qs62, q102, q2275, ⟨by decide, by decide⟩, by decide +kernel⟩
theorem mr_X3_142 : MRefS RX3 142 yX3_waysOf cX3_waysOf 1 (some .int) 1 := ⟨q2276, q2277, q102, q2278, ⟨by decide, by decide⟩, by decide +kernel⟩
theorem mr_X3_145 : MRefS RX3 145 yX3_sideOf cX3_sideOf 1 (some .int) 1 := ⟨q2279, q2280, q102, q2281, ⟨by decide, by decide⟩, by decide +kernel⟩
theorem mr_X3_148 : MRefV RX3 148 yX3_isKilledAt cX3_isKilledAt 3 (some .boolean) 1 := ⟨q2282, q2284, qs63, q102, q2285, ⟨by decide, by decide⟩, by decide +kernel⟩
theorem mr_X3_151 : MRefV RX3 151 yX3_leavesSpraint cX3_leavesSpraint 3 none 2 := ⟨q2286, q2288, qs64, q102, q2289, ⟨by decide, by decide⟩, by decide +kernel⟩
theorem mr_X3_183 : MRefV RX3 183 yX3_washes cX3_washes 3 none 0 := ⟨q2290, q2292, qs65, q102, q2293, ⟨by decide, by decide⟩, by decide +kernel⟩
theorem mr_X3_186 : MRefV RX3 186 yX3_atHolt cX3_atHolt 5 none 1 := ⟨q2294, q2296, qs66, q102, q2297, ⟨by decide, by decide⟩, by decide +kernel⟩
theorem mr_X3_166 : MRefV RX3 166 yX3_growUp cX3_growUp 4 none 1 := ⟨q2298, q2300, qs67, q102, q2301, ⟨by decide, by decide⟩, by decide +kernel⟩
theorem mr_X3_163 : MRefV RX3 163 yX3_refugeOf cX3_refugeOf 3 (some .int) 1 := ⟨q2302, q2304, qs68, q102, q2305, ⟨by decide, by decide⟩, by decide +kernel⟩
theorem mr_X3_160 : MRefV RX3 160 yX3_nearest cX3_nearest 6 (some .int) 2 := ⟨q2306, q2308, qs69, q102, q2309, ⟨by decide, by decide⟩, by decide +kernel⟩
theorem mr_X3_155 : MRefS RX3 155 yJ17_abs cJ17_abs 1 (some .int) 1 := ⟨q2310, q1171, q112, q1172, ⟨by decide, by decide⟩, by decide +kernel⟩
theorem mr_X3_170 : MRefV RX3 170 yX3_month cX3_month 1 (some .int) 0 := ⟨q2311, q2313, qs70, q102, q2314, ⟨by decide, by decide⟩, by decide +kernel⟩
theorem mr_X3_177 : MRefS RX3 177 yJ17_min cJ17_min 2 (some .int) 2 := ⟨q2317, q499, q112, q500, ⟨by decide, by decide⟩, by decide +kernel⟩
theorem mr_X3_201 : MRefV RX3 201 yX3_walkIt cX3_walkIt 5 (some .int) 1 := ⟨q2322, q2324, qs71, q102, q2325, ⟨by decide, by decide⟩, by decide +kernel⟩
theorem mr_X3_198 : MRefV RX3 198 yX3_isInRound cX3_isInRound 3 (some .boolean) 2 := ⟨q2326, q2328, qs72, q102, q2329, ⟨by decide, by decide⟩, by decide +kernel⟩
theorem mr_X3_204 : MRefV RX3 204 yX3_censusIt cX3_censusIt 3 (some .int) 0 := ⟨q2334, q2336, qs73, q102, q2337, ⟨by decide, by decide⟩, by decide +kernel⟩
theorem mr_X3_207 : MRefV RX3 207 yX3_isOtter cX3_isOtter 2 (some .boolean) 1 := ⟨q2346, q2348, qs74, q102, q2349, ⟨by decide, by decide⟩, by decide +kernel⟩
theorem mr_X3_210 : MRefV RX3 210 yX3_refuge cX3_refuge 3 (some .int) 1 := ⟨q2362, q2355, q2356, q102, q2357, ⟨by decide, by decide⟩, by decide +kernel⟩
theorem mr_X3_213 : MRefS RX3 213 yJ17_max cJ17_max 2 (some .int) 2 := ⟨q2367, q481, q112, q482, ⟨by decide, by decide⟩, by decide +kernel⟩
theorem mr_X3_216 : MRefV RX3 216 yX3_thinks cX3_thinks 2 none 0 := ⟨q2372, q2374, qs75, q102, q2375, ⟨by decide, by decide⟩, by decide +kernel⟩
theorem mr_X3_219 : MRefV RX3 219 yX3_wakes cX3_wakes 2 none 0 := ⟨q2376, q2378, qs76, q102, q2379, ⟨by decide, by decide⟩, by decide +kernel⟩
theorem mr_X3_222 : MRefV RX3 222 yX3_seerOf cX3_seerOf 3 (some .int) 1 := ⟨q2392, q2394, qs77, q102, q2395, ⟨by decide, by decide⟩, by decide +kernel⟩
theorem mr_X3_225 : MRefV RX3 225 yX3_ahead cX3_ahead 4 (some .int) 1 := ⟨q2416, q2418, qs78, q102, q2419, ⟨by decide, by decide⟩, by decide +kernel⟩
theorem mr_X3_266 : MRefV RX3 266 yX3_readAll cX3_readAll 2 none 0 := ⟨q2428, q2430, qs79, q102, q2431, ⟨by decide, by decide⟩, by decide +kernel⟩
theorem mr_X3_263 : MRefV RX3 263 yX3_readOrder cX3_readOrder 3 none 0 := ⟨q2432, q2434, qs80, q102, q2435, ⟨by decide, by decide⟩, by decide +kernel⟩
theorem mr_X3_251 : MRefV RX3 251 yX3_wordHere cX3_wordHere 3 (some .int) 0 := ⟨q2436, q2438, qs81, q102, q2439, ⟨by decide, by decide⟩, by decide +kernel⟩
theorem mr_X3_241 : MRefV RX3 241 yX3_here cX3_here 1 (some .int) 0 := ⟨q2440, q2442, qs82, q102, q2443, ⟨by decide, by decide⟩, by decide +kernel⟩
theorem mr_X3_254 : MRefV RX3 254 yX3_takes cX3_takes 2 none 1 := ⟨q2444, q2446, qs83, q102, q2447, ⟨by decide, by decide⟩, by decide +kernel⟩
theorem mr_X3_248 : MRefV RX3 248 yX3_digit cX3_digit 2 (some .int) 0 := ⟨q2448, q2450, qs84, q102, q2451, ⟨by decide, by decide⟩, by decide +kernel⟩
theorem mr_X3_260 : MRefV RX3 260 yX3_number cX3_number 2 (some .int) 0 := ⟨q2454, q2456, qs85, q102, q2457, ⟨by decide, by decide⟩, by decide +kernel⟩
theorem mr_X3_269 : MRefV RX3 269 yX3_does cX3_does 3 (some .int) 2 := ⟨q2458, q2460, qs86, q102, q2461, ⟨by decide, by decide⟩, by decide +kernel⟩
theorem mr_X3_275 : MRefV RX3 275 yX3_sign cX3_sign 2 none 1 := ⟨q2474, q2476, qs87, q102, q2477, ⟨by decide, by decide⟩, by decide +kernel⟩
theorem mr_X3_278 : MRefV RX3 278 yX3_ofReaches cX3_ofReaches 4 (some .int) 1 := ⟨q2486, q2488, qs88, q102, q2489, ⟨by decide, by decide⟩, by decide +kernel⟩
theorem mr_X3_281 : MRefV RX3 281 yX3_marks cX3_marks 3 (some .int) 0 := ⟨q2502, q2504, qs89, q102, q2505, ⟨by decide, by decide⟩, by decide +kernel⟩
theorem mr_X1_28 : MRefI RX1 28 yJ38_init cJ38_init 1 0 := ⟨q146, q147, rfl, q2539, q148, ⟨by decide, by decide⟩, by decide +kernel⟩
theorem cr_X1_31 : CRef RX1 31 2 12 [.null, .null, .null, .null, .int 0, .int 0, .int 0, .int 0, .int 0, .int 0, .int 0, .int 0] := ⟨RX2, TX2, tyX2, rfl, in_X2, q149, q150, q92, tyX2_ok, fun j hj => match j, hj with | 0, _ => rfl | 1, _ => rfl | 2, _ => rfl | 3, _ => rfl | 4, _ => rfl | 5, _ => rfl | 6, _ => rfl | 7, _ => rfl | 8, _ => rfl | 9, _ => rfl | 10, _ => rfl | 11, _ => rfl | j + 12, hj => absurd hj (by omega)⟩
theorem mr_X1_33 : MRefI RX1 33 yX2_init cX2_init 1 0 := ⟨q151, q152, rfl, q92, q153, ⟨by decide, by decide⟩, by decide +kernel⟩
theorem fn_X1_109 : FRefN RX1 109 2 0 (.object "java/util/List") true := ⟨RX2, TX2, 12, _, _, tyX2, rfl, in_X2, by decide, q208, rfl, tyX2_ok, nmX2, rfl, rfl⟩
theorem fn_X1_126 : FRefN RX1 126 2 1 (.object "java/util/List") true := ⟨RX2, TX2, 12, _, _, tyX2, rfl, in_X2, by decide, q210, rfl, tyX2_ok, nmX2, rfl, rfl⟩
theorem fn_X1_191 : FRefN RX1 191 2 2 (.object "java/util/List") true := ⟨RX2, TX2, 12, _, _, tyX2, rfl, in_X2, by decide, q212, rfl, tyX2_ok, nmX2, rfl, rfl⟩
theorem fn_X1_178 : FRefN RX1 178 2 3 (.object "java/util/BitSet") true := ⟨RX2, TX2, 12, _, _, tyX2, rfl, in_X2, by decide, q214, rfl, tyX2_ok, nmX2, rfl, rfl⟩
theorem fn_X1_350 : FRefN RX1 350 2 4 .int false := ⟨RX2, TX2, 12, _, _, tyX2, rfl, in_X2, by decide, q216, rfl, tyX2_ok, nmX2, rfl, rfl⟩
theorem fn_X1_353 : FRefN RX1 353 2 5 .int false := ⟨RX2, TX2, 12, _, _, tyX2, rfl, in_X2, by decide, q218, rfl, tyX2_ok, nmX2, rfl, rfl⟩
theorem fn_X1_220 : FRefN RX1 220 2 6 .int false := ⟨RX2, TX2, 12, _, _, tyX2, rfl, in_X2, by decide, q220, rfl, tyX2_ok, nmX2, rfl, rfl⟩
theorem fn_X1_343 : FRefN RX1 343 2 7 .int false := ⟨RX2, TX2, 12, _, _, tyX2, rfl, in_X2, by decide, q222, rfl, tyX2_ok, nmX2, rfl, rfl⟩
theorem fn_X1_344 : FRefN RX1 344 2 8 .int false := ⟨RX2, TX2, 12, _, _, tyX2, rfl, in_X2, by decide, q224, rfl, tyX2_ok, nmX2, rfl, rfl⟩
theorem fn_X1_334 : FRefN RX1 334 2 9 .int false := ⟨RX2, TX2, 12, _, _, tyX2, rfl, in_X2, by decide, q226, rfl, tyX2_ok, nmX2, rfl, rfl⟩
theorem fn_X1_337 : FRefN RX1 337 2 10 .int false := ⟨RX2, TX2, 12, _, _, tyX2, rfl, in_X2, by decide, q228, rfl, tyX2_ok, nmX2, rfl, rfl⟩
theorem fn_X1_356 : FRefN RX1 356 2 11 .int false := ⟨RX2, TX2, 12, _, _, tyX2, rfl, in_X2, by decide, q230, rfl, tyX2_ok, nmX2, rfl, rfl⟩
theorem cr_X1_38 : CRef RX1 38 12 3 [.null, .int 0, .int 0] := ⟨RJ4, TJ4, tyJ4, rfl, in_J4, q256, q257, q97, tyJ4_ok, fun j hj => match j, hj with | 0, _ => rfl | 1, _ => rfl | 2, _ => rfl | j + 3, hj => absurd hj (by omega)⟩
theorem mr_X1_40 : MRefI RX1 40 yJ4_init cJ4_init 1 0 := ⟨q258, q259, rfl, q97, q260, ⟨by decide, by decide⟩, by decide +kernel⟩
theorem cr_X1_45 : CRef RX1 45 13 4 [.null, .int 0, .int 0, .int 0] := ⟨RJ6, TJ6, tyJ6, rfl, in_J6, q274, q275, q99, tyJ6_ok, fun j hj => match j, hj with | 0, _ => rfl | 1, _ => rfl | 2, _ => rfl | 3, _ => rfl | j + 4, hj => absurd hj (by omega)⟩
theorem mr_X1_47 : MRefI RX1 47 yJ6_init cJ6_init 1 0 := ⟨q276, q277, rfl, q99, q278, ⟨by decide, by decide⟩, by decide +kernel⟩
theorem fr_X1_34 : FRef RX1 34 1 0 (.object "OtterTrust$River") false := ⟨RX1, TX1, 8, _, tyX1, rfl, in_X1, by decide, q308, fun _ _ _ _ h9 => h9, tyX1_ok, nmX1, rfl, rfl, (fun h9 => nomatch h9)⟩
theorem fr_X1_368 : FRef RX1 368 1 1 (.object "OtterTrust$River") false := ⟨RX1, TX1, 8, _, tyX1, rfl, in_X1, by decide, q309, fun _ _ _ _ h9 => h9, tyX1_ok, nmX1, rfl, rfl, (fun h9 => nomatch h9)⟩
theorem fr_X1_41 : FRef RX1 41 1 2 (.object "java/util/Deque") true := ⟨RX1, TX1, 8, _, tyX1, rfl, in_X1, by decide, q310, fun _ _ _ _ h9 => h9, tyX1_ok, nmX1, rfl, rfl, (fun _ => rfl)⟩
theorem fr_X1_48 : FRef RX1 48 1 3 (.object "java/lang/StringBuilder") true := ⟨RX1, TX1, 8, _, tyX1, rfl, in_X1, by decide, q311, fun _ _ _ _ h9 => h9, tyX1_ok, nmX1, rfl, rfl, (fun _ => rfl)⟩
theorem fr_X1_54 : FRef RX1 54 1 4 (.object "java/lang/String") false := ⟨RX1, TX1, 8, _, tyX1, rfl, in_X1, by decide, q312, fun _ _ _ _ h9 => h9, tyX1_ok, nmX1, rfl, rfl, (fun h9 => nomatch h9)⟩
theorem fr_X1_58 : FRef RX1 58 1 5 .int false := ⟨RX1, TX1, 8, _, tyX1, rfl, in_X1, by decide, q313, fun _ _ _ _ h9 => h9, tyX1_ok, nmX1, rfl, rfl, (fun h9 => nomatch h9)⟩
theorem fr_X1_76 : FRef RX1 76 1 6 (.object "OtterTrust$Refused") false := ⟨RX1, TX1, 8, _, tyX1, rfl, in_X1, by decide, q314, fun _ _ _ _ h9 => h9, tyX1_ok, nmX1, rfl, rfl, (fun h9 => nomatch h9)⟩
theorem fr_X1_80 : FRef RX1 80 1 7 .int false := ⟨RX1, TX1, 8, _, tyX1, rfl, in_X1, by decide, q315, fun _ _ _ _ h9 => h9, tyX1_ok, nmX1, rfl, rfl, (fun h9 => nomatch h9)⟩
theorem cr_X1_13 : CRef RX1 13 7 8 [.null, .null, .null, .null, .null, .int 0, .int 0, .int 0] := ⟨RX8, TX8, tyX8, rfl, in_X8, q341, q1048, q124, tyX8_ok, fun j hj => match j, hj with | 0, _ => rfl | 1, _ => rfl | 2, _ => rfl | 3, _ => rfl | 4, _ => rfl | 5, _ => rfl | 6, _ => rfl | 7, _ => rfl | j + 8, hj => absurd hj (by omega)⟩
theorem mr_X1_86 : MRefI RX1 86 yX2_init_2 cX2_init_2 3 1 := ⟨q342, q343, rfl, q92, q344, ⟨by decide, by decide⟩, by decide +kernel⟩
theorem fn_X1_135 : FRefN RX1 135 3 0 .int true := ⟨RX4, TX4, 10, _, _, tyX4, rfl, in_X4, by decide, q760, rfl, tyX4_ok, nmX4, rfl, rfl⟩
theorem fn_X1_138 : FRefN RX1 138 3 1 .int true := ⟨RX4, TX4, 10, _, _, tyX4, rfl, in_X4, by decide, q762, rfl, tyX4_ok, nmX4, rfl, rfl⟩
theorem fn_X1_141 : FRefN RX1 141 3 3 .int false := ⟨RX4, TX4, 10, _, _, tyX4, rfl, in_X4, by decide, q767, rfl, tyX4_ok, nmX4, rfl, rfl⟩
theorem fn_X1_144 : FRefN RX1 144 3 4 .int false := ⟨RX4, TX4, 10, _, _, tyX4, rfl, in_X4, by decide, q769, rfl, tyX4_ok, nmX4, rfl, rfl⟩
theorem fn_X1_237 : FRefN RX1 237 3 5 .int false := ⟨RX4, TX4, 10, _, _, tyX4, rfl, in_X4, by decide, q773, rfl, tyX4_ok, nmX4, rfl, rfl⟩
theorem fn_X1_151 : FRefN RX1 151 3 6 .boolean false := ⟨RX4, TX4, 10, _, _, tyX4, rfl, in_X4, by decide, q776, rfl, tyX4_ok, nmX4, rfl, rfl⟩
theorem fn_X1_162 : FRefN RX1 162 3 7 .int false := ⟨RX4, TX4, 10, _, _, tyX4, rfl, in_X4, by decide, q779, rfl, tyX4_ok, nmX4, rfl, rfl⟩
theorem fn_X1_230 : FRefN RX1 230 3 8 .int false := ⟨RX4, TX4, 10, _, _, tyX4, rfl, in_X4, by decide, q782, rfl, tyX4_ok, nmX4, rfl, rfl⟩
theorem fn_X1_188 : FRefN RX1 188 4 0 .int true := ⟨RX5, TX5, 4, _, _, tyX5, rfl, in_X5, by decide, q939, rfl, tyX5_ok, nmX5, rfl, rfl⟩
theorem fn_X1_175 : FRefN RX1 175 4 1 .int false := ⟨RX5, TX5, 4, _, _, tyX5, rfl, in_X5, by decide, q942, rfl, tyX5_ok, nmX5, rfl, rfl⟩
theorem fn_X1_172 : FRefN RX1 172 4 2 .int false := ⟨RX5, TX5, 4, _, _, tyX5, rfl, in_X5, by decide, q945, rfl, tyX5_ok, nmX5, rfl, rfl⟩
theorem fn_X1_187 : FRefN RX1 187 4 3 .int false := ⟨RX5, TX5, 4, _, _, tyX5, rfl, in_X5, by decide, q948, rfl, tyX5_ok, nmX5, rfl, rfl⟩
theorem fn_X1_196 : FRefN RX1 196 5 0 .int true := ⟨RX6, TX6, 5, _, _, tyX6, rfl, in_X6, by decide, q968, rfl, tyX6_ok, nmX6, rfl, rfl⟩
theorem fn_X1_199 : FRefN RX1 199 5 1 .int true := ⟨RX6, TX6, 5, _, _, tyX6, rfl, in_X6, by decide, q971, rfl, tyX6_ok, nmX6, rfl, rfl⟩
theorem fn_X1_202 : FRefN RX1 202 5 2 .int false := ⟨RX6, TX6, 5, _, _, tyX6, rfl, in_X6, by decide, q974, rfl, tyX6_ok, nmX6, rfl, rfl⟩
theorem fn_X1_203 : FRefN RX1 203 5 3 .int false := ⟨RX6, TX6, 5, _, _, tyX6, rfl, in_X6, by decide, q977, rfl, tyX6_ok, nmX6, rfl, rfl⟩
theorem fn_X1_205 : FRefN RX1 205 5 4 .int false := ⟨RX6, TX6, 5, _, _, tyX6, rfl, in_X6, by decide, q980, rfl, tyX6_ok, nmX6, rfl, rfl⟩
theorem cr_X1_89 : CRef RX1 89 6 3 [.int 0, .int 0, .int 0] := ⟨RX7, TX7, tyX7, rfl, in_X7, q1018, q1019, q123, tyX7_ok, fun j hj => match j, hj with | 0, _ => rfl | 1, _ => rfl | 2, _ => rfl | j + 3, hj => absurd hj (by omega)⟩
theorem mr_X1_91 : MRefI RX1 91 yX7_init cX7_init 4 3 := ⟨q1020, q1021, rfl, q123, q1022, ⟨by decide, by decide⟩, by decide +kernel⟩
theorem mr_X1_94 : MRefV RX1 94 yX7_does cX7_does 2 (some .int) 1 := ⟨q1034, q1035, q1036, q123, q1037, ⟨by decide, by decide⟩, by decide +kernel⟩
theorem mr_X1_15 : MRefI RX1 15 yX8_init cX8_init 3 2 := ⟨q1056, q1057, rfl, q124, q1058, ⟨by decide, by decide⟩, by decide +kernel⟩
theorem fn_X1_291 : FRefN RX1 291 7 6 .int true := ⟨RX8, TX8, 8, _, _, tyX8, rfl, in_X8, by decide, q1061, rfl, tyX8_ok, nmX8, rfl, rfl⟩
theorem fn_X1_300 : FRefN RX1 300 7 7 .int true := ⟨RX8, TX8, 8, _, _, tyX8, rfl, in_X8, by decide, q1063, rfl, tyX8_ok, nmX8, rfl, rfl⟩
theorem mr_X1_18 : MRefS RX1 18 yX1_isBetween cX1_isBetween 3 (some .boolean) 3 := ⟨q1102, q1043, q91, q1044, ⟨by decide, by decide⟩, by decide +kernel⟩
theorem mr_X1_24 : MRefS RX1 24 yX1_check cX1_check 3 none 3 := ⟨q1103, q1046, q91, q1047, ⟨by decide, by decide⟩, by decide +kernel⟩
theorem mr_X1_98 : MRefV RX1 98 yX1_remember cX1_remember 2 none 1 := ⟨q1251, q1253, qs24, q91, q1254, ⟨by decide, by decide⟩, by decide +kernel⟩
theorem mr_X1_101 : MRefV RX1 101 yX1_kept cX1_kept 3 (some (.object "java/lang/UnsupportedOperationException")) 2 := ⟨q1357, q1359, qs28, q91, q1360, ⟨by decide, by decide⟩, by decide +kernel⟩
theorem mr_X1_85 : MRefI RX1 85 yJ23_init cJ23_init 1 0 := ⟨q1362, q888, rfl, q119, q889, ⟨by decide, by decide⟩, by decide +kernel⟩
theorem mr_X1_240 : MRefV RX1 240 yX2_unseen cX2_unseen 6 (some .int) 0 := ⟨q1367, q1368, q1369, q92, q1370, ⟨by decide, by decide⟩, by decide +kernel⟩
theorem cr_X1_124 : CRef RX1 124 3 10 [.int 0, .int 0, .int 0, .int 0, .int 0, .int 0, .int 0, .int 0, .int 0, .int 0] := ⟨RX4, TX4, tyX4, rfl, in_X4, q1379, q376, q104, tyX4_ok, fun j hj => match j, hj with | 0, _ => rfl | 1, _ => rfl | 2, _ => rfl | 3, _ => rfl | 4, _ => rfl | 5, _ => rfl | 6, _ => rfl | 7, _ => rfl | 8, _ => rfl | 9, _ => rfl | j + 10, hj => absurd hj (by omega)⟩
theorem mr_X1_159 : MRefV RX1 159 yX2_countAt cX2_countAt 4 (some .int) 1 := ⟨q1380, q1147, q1148, q92, q1149, ⟨by decide, by decide⟩, by decide +kernel⟩
theorem mr_X1_147 : MRefV RX1 147 yX4_hasOpenDip cX4_hasOpenDip 1 (some .boolean) 0 := ⟨q1385, q1203, q1204, q104, q1205, ⟨by decide, by decide⟩, by decide +kernel⟩
theorem mr_X1_243 : MRefS RX1 243 yJ17_min cJ17_min 2 (some .int) 2 := ⟨q1386, q499, q112, q500, ⟨by decide, by decide⟩, by decide +kernel⟩
theorem mr_X1_310 : MRefV RX1 310 yX4_hasBridge cX4_hasBridge 1 (some .boolean) 0 := ⟨q1391, q1127, q1128, q104, q1129, ⟨by decide, by decide⟩, by decide +kernel⟩
theorem mr_X1_256 : MRefV RX1 256 yJ6_append_3 cJ6_append_3 2 (some (.object "java/lang/StringBuilder")) 1 := ⟨q1392, q1393, q1394, q99, q1395, ⟨by decide, by decide⟩, by decide +kernel⟩
theorem mr_X1_313 : MRefV RX1 313 yJ6_append_2 cJ6_append_2 2 (some (.object "java/lang/StringBuilder")) 1 := ⟨q1412, q579, q580, q99, q581, ⟨by decide, by decide⟩, by decide +kernel⟩
theorem mr_X1_318 : MRefV RX1 318 yJ6_append cJ6_append 2 (some (.object "java/lang/StringBuilder")) 1 := ⟨q1414, q459, q460, q99, q461, ⟨by decide, by decide⟩, by decide +kernel⟩
theorem mr_X1_262 : MRefV RX1 262 yJ6_toString cJ6_toString 1 (some (.object "java/lang/String")) 0 := ⟨q1415, q610, q611, q99, q612, ⟨by decide, by decide⟩, by decide +kernel⟩
theorem mr_X1_321 : MRefV RX1 321 yJ7_length cJ7_length 1 (some .int) 0 := ⟨q1416, q536, q537, q100, q538, ⟨by decide, by decide⟩, by decide +kernel⟩
theorem mr_X1_361 : MRefV RX1 361 yJ3_cardinality cJ3_cardinality 3 (some .int) 0 := ⟨q1421, q1422, q1423, q96, q1424, ⟨by decide, by decide⟩, by decide +kernel⟩
theorem mr_X1_131 : MRefV RX1 131 yX1_requiredReach cX1_requiredReach 2 (some (.object "OtterTrust$Reach")) 1 := ⟨q1523, q1525, qs29, q91, q1526, ⟨by decide, by decide⟩, by decide +kernel⟩
theorem mr_X1_116 : MRefS RX1 116 yX1_requireIndex cX1_requireIndex 1 none 1 := ⟨q1527, q1528, q91, q1529, ⟨by decide, by decide⟩, by decide +kernel⟩
theorem mr_X1_3 : MRefI RX1 3 yJ15_init_2 cJ15_init_2 1 0 := ⟨q1531, q1532, rfl, q110, q1533, ⟨by decide, by decide⟩, by decide +kernel⟩
theorem mr_X1_155 : MRefV RX1 155 yX2_quality cX2_quality 2 (some .int) 1 := ⟨q1535, q1183, q1184, q92, q1185, ⟨by decide, by decide⟩, by decide +kernel⟩
theorem mr_X1_167 : MRefI RX1 167 yJ22_init_2 cJ22_init_2 1 0 := ⟨q1537, q1538, rfl, q118, q1539, ⟨by decide, by decide⟩, by decide +kernel⟩
theorem mr_X1_168 : MRefV RX1 168 yX1_requiredOtter cX1_requiredOtter 2 (some (.object "OtterTrust$Otter")) 1 := ⟨q1548, q1550, qs30, q91, q1551, ⟨by decide, by decide⟩, by decide +kernel⟩
theorem cr_X1_129 : CRef RX1 129 4 4 [.int 0, .int 0, .int 0, .int 0] := ⟨RX5, TX5, tyX5, rfl, in_X5, q1552, q930, q121, tyX5_ok, fun j hj => match j, hj with | 0, _ => rfl | 1, _ => rfl | 2, _ => rfl | 3, _ => rfl | j + 4, hj => absurd hj (by omega)⟩
theorem mr_X1_182 : MRefV RX1 182 yJ3_get cJ3_get 3 (some .boolean) 1 := ⟨q1553, q1076, q1077, q96, q1078, ⟨by decide, by decide⟩, by decide +kernel⟩
theorem cr_X1_194 : CRef RX1 194 5 5 [.int 0, .int 0, .int 0, .int 0, .int 0] := ⟨RX6, TX6, tyX6, rfl, in_X6, q1561, q959, q122, tyX6_ok, fun j hj => match j, hj with | 0, _ => rfl | 1, _ => rfl | 2, _ => rfl | 3, _ => rfl | 4, _ => rfl | j + 5, hj => absurd hj (by omega)⟩
theorem mr_X1_208 : MRefV RX1 208 yX2_refuge cX2_refuge 3 (some .int) 1 := ⟨q1570, q1159, q1160, q92, q1161, ⟨by decide, by decide⟩, by decide +kernel⟩
theorem mr_X1_211 : MRefS RX1 211 yX1_requireElement cX1_requireElement 1 none 1 := ⟨q1571, q1572, q91, q1573, ⟨by decide, by decide⟩, by decide +kernel⟩
theorem mr_X1_12 : MRefI RX1 12 yJ25_init cJ25_init 1 0 := ⟨q1575, q1299, rfl, q125, q1300, ⟨by decide, by decide⟩, by decide +kernel⟩
theorem mr_X1_214 : MRefV RX1 214 yX2_refugeAgain cX2_refugeAgain 3 (some .int) 1 := ⟨q1583, q1584, q1585, q92, q1586, ⟨by decide, by decide⟩, by decide +kernel⟩
theorem mr_X1_217 : MRefS RX1 217 yX1_requireState cX1_requireState 1 none 1 := ⟨q1599, q1600, q91, q1601, ⟨by decide, by decide⟩, by decide +kernel⟩
theorem mr_X1_9 : MRefI RX1 9 yJ26_init_2 cJ26_init_2 1 0 := ⟨q1603, q1604, rfl, q126, q1605, ⟨by decide, by decide⟩, by decide +kernel⟩
theorem mr_X1_223 : MRefV RX1 223 yX2_goal cX2_goal 6 (some .int) 2 := ⟨q1607, q1117, q1118, q92, q1119, ⟨by decide, by decide⟩, by decide +kernel⟩
theorem mr_X1_227 : MRefV RX1 227 yX2_night cX2_night 2 none 0 := ⟨q1615, q1109, q1110, q92, q1111, ⟨by decide, by decide⟩, by decide +kernel⟩
theorem mr_X1_233 : MRefS RX1 233 yX1_areBorn cX1_areBorn 3 (some .boolean) 2 := ⟨q1623, q1624, q91, q1625, ⟨by decide, by decide⟩, by decide +kernel⟩
theorem mr_X1_248 : MRefV RX1 248 yX6_reaches cX6_reaches 2 (some .boolean) 1 := ⟨q1640, q1071, q1072, q122, q1073, ⟨by decide, by decide⟩, by decide +kernel⟩
theorem mr_X1_250 : MRefV RX1 250 yX1_countBetter cX1_countBetter 5 (some .int) 1 := ⟨q1655, q1657, qs32, q91, q1658, ⟨by decide, by decide⟩, by decide +kernel⟩
theorem mr_X1_253 : MRefV RX1 253 yJ6_length cJ6_length 1 (some .int) 0 := ⟨q1666, q631, q2529, q99, q632, ⟨by decide, by decide⟩, by decide +kernel⟩
theorem cr_X1_277 : CRef RX1 277 9 7 [.null, .null, .null, .null, .null, .int 0, .int 0] := ⟨RX10, TX10, tyX10, rfl, in_X10, q1678, q1805, q132, tyX10_ok, fun j hj => match j, hj with | 0, _ => rfl | 1, _ => rfl | 2, _ => rfl | 3, _ => rfl | 4, _ => rfl | 5, _ => rfl | 6, _ => rfl | j + 7, hj => absurd hj (by omega)⟩
theorem cr_X1_260 : CRef RX1 260 8 2 [.null, .int 0] := ⟨RX9, TX9, tyX9, rfl, in_X9, q1679, q1680, q128, tyX9_ok, fun j hj => match j, hj with | 0, _ => rfl | 1, _ => rfl | j + 2, hj => absurd hj (by omega)⟩
theorem mr_X1_266 : MRefI RX1 266 yX9_init cX9_init 2 1 := ⟨q1681, q1682, rfl, q128, q1683, ⟨by decide, by decide⟩, by decide +kernel⟩
theorem mr_X1_269 : MRefV RX1 269 yJ6_setLength cJ6_setLength 2 none 1 := ⟨q1692, q1693, q1694, q99, q1695, ⟨by decide, by decide⟩, by decide +kernel⟩
theorem mr_X1_273 : MRefV RX1 273 yX9_whole cX9_whole 2 (some (.object "java/util/LinkedList")) 0 := ⟨q1744, q1745, q1746, q128, q1747, ⟨by decide, by decide⟩, by decide +kernel⟩
theorem fn_X1_279 : FRefN RX1 279 9 6 .int true := ⟨RX10, TX10, 7, _, _, tyX10, rfl, in_X10, by decide, q1818, rfl, tyX10_ok, nmX10, rfl, rfl⟩
theorem mr_X1_290 : MRefV RX1 290 yJ30_removeFirst cJ30_removeFirst 2 (some (.object "java/lang/Object")) 0 := ⟨q1846, q1306, q2538, q131, q1308, ⟨by decide, by decide⟩, by decide +kernel⟩
theorem mr_X1_294 : MRefS RX1 294 yJ21_valueOf cJ21_valueOf 1 (some (.object "java/lang/Integer")) 1 := ⟨q1861, q1862, q117, q1863, ⟨by decide, by decide⟩, by decide +kernel⟩
theorem mr_X1_303 : MRefS RX1 303 yJ31_of cJ31_of 3 (some (.object "java/util/List")) 3 := ⟨q1881, q1882, q134, q1883, ⟨by decide, by decide⟩, by decide +kernel⟩
theorem cr_X1_295 : CRef RX1 295 17 1 [.int 0] := ⟨RJ21, TJ21, tyJ21, rfl, in_J21, q1933, q1869, q117, tyJ21_ok, fun j hj => match j, hj with | 0, _ => rfl | j + 1, hj => absurd hj (by omega)⟩
theorem mr_X1_307 : MRefV RX1 307 yJ21_intValue cJ21_intValue 1 (some .int) 0 := ⟨q1934, q1935, q1936, q117, q1937, ⟨by decide, by decide⟩, by decide +kernel⟩
theorem mr_X1_324 : MRefV RX1 324 yJ7_charAt cJ7_charAt 2 (some .char) 1 := ⟨q1945, q1781, q1782, q100, q1783, ⟨by decide, by decide⟩, by decide +kernel⟩
theorem mr_X1_328 : MRefV RX1 328 yX2_sum cX2_sum 5 (some .int) 1 := ⟨q1967, q1199, q1200, q92, q1201, ⟨by decide, by decide⟩, by decide +kernel⟩
theorem mr_X1_333 : MRefI RX1 333 yJ36_init_2 cJ36_init_2 1 0 := ⟨q1969, q1970, rfl, q139, q1971, ⟨by decide, by decide⟩, by decide +kernel⟩
theorem mr_X1_340 : MRefV RX1 340 yX2_countIn cX2_countIn 4 (some .int) 1 := ⟨q1987, q1105, q1106, q92, q1107, ⟨by decide, by decide⟩, by decide +kernel⟩
theorem mr_X1_347 : MRefV RX1 347 yX2_month cX2_month 1 (some .int) 0 := ⟨q1988, q1179, q1180, q92, q1181, ⟨by decide, by decide⟩, by decide +kernel⟩
theorem mr_X1_359 : MRefV RX1 359 yX2_inCensus cX2_inCensus 3 (some .int) 0 := ⟨q1989, q1220, q1221, q92, q1222, ⟨by decide, by decide⟩, by decide +kernel⟩
theorem mr_X2_3 : MRefI RX2 3 yJ38_init cJ38_init 1 0 := ⟨q154, q147, rfl, q2539, q148, ⟨by decide, by decide⟩, by decide +kernel⟩
theorem cr_X2_9 : CRef RX2 9 10 3 [.int 0, .null, .int 0] := ⟨RJ2, TJ2, tyJ2, rfl, in_J2, q155, q156, q95, tyJ2_ok, fun j hj => match j, hj with | 0, _ => rfl | 1, _ => rfl | 2, _ => rfl | j + 3, hj => absurd hj (by omega)⟩
theorem mr_X2_11 : MRefI RX2 11 yJ2_init cJ2_init 1 0 := ⟨q157, q158, rfl, q95, q159, ⟨by decide, by decide⟩, by decide +kernel⟩
theorem cr_X2_24 : CRef RX2 24 11 3 [.null, .int 0, .int 0] := ⟨RJ3, TJ3, tyJ3, rfl, in_J3, q183, q184, q96, tyJ3_ok, fun j hj => match j, hj with | 0, _ => rfl | 1, _ => rfl | 2, _ => rfl | j + 3, hj => absurd hj (by omega)⟩
theorem mr_X2_26 : MRefI RX2 26 yJ3_init cJ3_init 1 0 := ⟨q185, q186, rfl, q96, q187, ⟨by decide, by decide⟩, by decide +kernel⟩
theorem fr_X2_12 : FRef RX2 12 2 0 (.object "java/util/List") true := ⟨RX2, TX2, 12, _, tyX2, rfl, in_X2, by decide, q207, fun _ _ _ _ h9 => h9, tyX2_ok, nmX2, rfl, rfl, (fun _ => rfl)⟩
theorem fr_X2_18 : FRef RX2 18 2 1 (.object "java/util/List") true := ⟨RX2, TX2, 12, _, tyX2, rfl, in_X2, by decide, q209, fun _ _ _ _ h9 => h9, tyX2_ok, nmX2, rfl, rfl, (fun _ => rfl)⟩
theorem fr_X2_21 : FRef RX2 21 2 2 (.object "java/util/List") true := ⟨RX2, TX2, 12, _, tyX2, rfl, in_X2, by decide, q211, fun _ _ _ _ h9 => h9, tyX2_ok, nmX2, rfl, rfl, (fun _ => rfl)⟩
theorem fr_X2_27 : FRef RX2 27 2 3 (.object "java/util/BitSet") true := ⟨RX2, TX2, 12, _, tyX2, rfl, in_X2, by decide, q213, fun _ _ _ _ h9 => h9, tyX2_ok, nmX2, rfl, rfl, (fun _ => rfl)⟩
theorem fr_X2_31 : FRef RX2 31 2 4 .int false := ⟨RX2, TX2, 12, _, tyX2, rfl, in_X2, by decide, q215, fun _ _ _ _ h9 => h9, tyX2_ok, nmX2, rfl, rfl, (fun h9 => nomatch h9)⟩
theorem fr_X2_35 : FRef RX2 35 2 5 .int false := ⟨RX2, TX2, 12, _, tyX2, rfl, in_X2, by decide, q217, fun _ _ _ _ h9 => h9, tyX2_ok, nmX2, rfl, rfl, (fun h9 => nomatch h9)⟩
theorem fr_X2_71 : FRef RX2 71 2 6 .int false := ⟨RX2, TX2, 12, _, tyX2, rfl, in_X2, by decide, q219, fun _ _ _ _ h9 => h9, tyX2_ok, nmX2, rfl, rfl, (fun h9 => nomatch h9)⟩
theorem fr_X2_74 : FRef RX2 74 2 7 .int false := ⟨RX2, TX2, 12, _, tyX2, rfl, in_X2, by decide, q221, fun _ _ _ _ h9 => h9, tyX2_ok, nmX2, rfl, rfl, (fun h9 => nomatch h9)⟩
theorem fr_X2_77 : FRef RX2 77 2 8 .int false := ⟨RX2, TX2, 12, _, tyX2, rfl, in_X2, by decide, q223, fun _ _ _ _ h9 => h9, tyX2_ok, nmX2, rfl, rfl, (fun h9 => nomatch h9)⟩
theorem fr_X2_80 : FRef RX2 80 2 9 .int false := ⟨RX2, TX2, 12, _, tyX2, rfl, in_X2, by decide, q225, fun _ _ _ _ h9 => h9, tyX2_ok, nmX2, rfl, rfl, (fun h9 => nomatch h9)⟩
theorem fr_X2_83 : FRef RX2 83 2 10 .int false := ⟨RX2, TX2, 12, _, tyX2, rfl, in_X2, by decide, q227, fun _ _ _ _ h9 => h9, tyX2_ok, nmX2, rfl, rfl, (fun h9 => nomatch h9)⟩
theorem fr_X2_86 : FRef RX2 86 2 11 .int false := ⟨RX2, TX2, 12, _, tyX2, rfl, in_X2, by decide, q229, fun _ _ _ _ h9 => h9, tyX2_ok, nmX2, rfl, rfl, (fun h9 => nomatch h9)⟩
theorem cr_X2_44 : CRef RX2 44 3 10 [.int 0, .int 0, .int 0, .int 0, .int 0, .int 0, .int 0, .int 0, .int 0, .int 0] := ⟨RX4, TX4, tyX4, rfl, in_X4, q375, q376, q104, tyX4_ok, fun j hj => match j, hj with | 0, _ => rfl | 1, _ => rfl | 2, _ => rfl | 3, _ => rfl | 4, _ => rfl | 5, _ => rfl | 6, _ => rfl | 7, _ => rfl | 8, _ => rfl | 9, _ => rfl | j + 10, hj => absurd hj (by omega)⟩
theorem mr_X2_50 : MRefI RX2 50 yX4_init cX4_init 2 1 := ⟨q751, q752, rfl, q104, q753, ⟨by decide, by decide⟩, by decide +kernel⟩
theorem fn_X2_93 : FRefN RX2 93 3 0 .int true := ⟨RX4, TX4, 10, _, _, tyX4, rfl, in_X4, by decide, q759, rfl, tyX4_ok, nmX4, rfl, rfl⟩
theorem fn_X2_222 : FRefN RX2 222 3 2 .boolean false := ⟨RX4, TX4, 10, _, _, tyX4, rfl, in_X4, by decide, q764, rfl, tyX4_ok, nmX4, rfl, rfl⟩
theorem fn_X2_156 : FRefN RX2 156 3 3 .int false := ⟨RX4, TX4, 10, _, _, tyX4, rfl, in_X4, by decide, q766, rfl, tyX4_ok, nmX4, rfl, rfl⟩
theorem fn_X2_225 : FRefN RX2 225 3 4 .int false := ⟨RX4, TX4, 10, _, _, tyX4, rfl, in_X4, by decide, q770, rfl, tyX4_ok, nmX4, rfl, rfl⟩
theorem fn_X2_142 : FRefN RX2 142 3 5 .int false := ⟨RX4, TX4, 10, _, _, tyX4, rfl, in_X4, by decide, q772, rfl, tyX4_ok, nmX4, rfl, rfl⟩
theorem fn_X2_107 : FRefN RX2 107 3 6 .boolean false := ⟨RX4, TX4, 10, _, _, tyX4, rfl, in_X4, by decide, q775, rfl, tyX4_ok, nmX4, rfl, rfl⟩
theorem fn_X2_114 : FRefN RX2 114 3 7 .int false := ⟨RX4, TX4, 10, _, _, tyX4, rfl, in_X4, by decide, q778, rfl, tyX4_ok, nmX4, rfl, rfl⟩
theorem fn_X2_182 : FRefN RX2 182 3 8 .int false := ⟨RX4, TX4, 10, _, _, tyX4, rfl, in_X4, by decide, q781, rfl, tyX4_ok, nmX4, rfl, rfl⟩
theorem fn_X2_176 : FRefN RX2 176 3 9 .int false := ⟨RX4, TX4, 10, _, _, tyX4, rfl, in_X4, by decide, q784, rfl, tyX4_ok, nmX4, rfl, rfl⟩
theorem cr_X2_57 : CRef RX2 57 4 4 [.int 0, .int 0, .int 0, .int 0] := ⟨RX5, TX5, tyX5, rfl, in_X5, q929, q930, q121, tyX5_ok, fun j hj => match j, hj with | 0, _ => rfl | 1, _ => rfl | 2, _ => rfl | 3, _ => rfl | j + 4, hj => absurd hj (by omega)⟩
theorem mr_X2_59 : MRefI RX2 59 yX5_init cX5_init 2 1 := ⟨q931, q932, rfl, q121, q933, ⟨by decide, by decide⟩, by decide +kernel⟩
theorem fn_X2_133 : FRefN RX2 133 4 1 .int false := ⟨RX5, TX5, 4, _, _, tyX5, rfl, in_X5, by decide, q941, rfl, tyX5_ok, nmX5, rfl, rfl⟩
theorem fn_X2_104 : FRefN RX2 104 4 2 .int false := ⟨RX5, TX5, 4, _, _, tyX5, rfl, in_X5, by decide, q944, rfl, tyX5_ok, nmX5, rfl, rfl⟩
theorem fn_X2_159 : FRefN RX2 159 4 3 .int false := ⟨RX5, TX5, 4, _, _, tyX5, rfl, in_X5, by decide, q947, rfl, tyX5_ok, nmX5, rfl, rfl⟩
theorem cr_X2_62 : CRef RX2 62 5 5 [.int 0, .int 0, .int 0, .int 0, .int 0] := ⟨RX6, TX6, tyX6, rfl, in_X6, q958, q959, q122, tyX6_ok, fun j hj => match j, hj with | 0, _ => rfl | 1, _ => rfl | 2, _ => rfl | 3, _ => rfl | 4, _ => rfl | j + 5, hj => absurd hj (by omega)⟩
theorem mr_X2_64 : MRefI RX2 64 yX6_init cX6_init 2 1 := ⟨q960, q961, rfl, q122, q962, ⟨by decide, by decide⟩, by decide +kernel⟩
theorem fn_X2_237 : FRefN RX2 237 5 0 .int true := ⟨RX6, TX6, 5, _, _, tyX6, rfl, in_X6, by decide, q969, rfl, tyX6_ok, nmX6, rfl, rfl⟩
theorem fn_X2_240 : FRefN RX2 240 5 1 .int true := ⟨RX6, TX6, 5, _, _, tyX6, rfl, in_X6, by decide, q972, rfl, tyX6_ok, nmX6, rfl, rfl⟩
theorem fn_X2_243 : FRefN RX2 243 5 2 .int false := ⟨RX6, TX6, 5, _, _, tyX6, rfl, in_X6, by decide, q975, rfl, tyX6_ok, nmX6, rfl, rfl⟩
theorem fn_X2_251 : FRefN RX2 251 5 3 .int false := ⟨RX6, TX6, 5, _, _, tyX6, rfl, in_X6, by decide, q978, rfl, tyX6_ok, nmX6, rfl, rfl⟩
theorem fn_X2_253 : FRefN RX2 253 5 4 .int false := ⟨RX6, TX6, 5, _, _, tyX6, rfl, in_X6, by decide, q981, rfl, tyX6_ok, nmX6, rfl, rfl⟩
theorem mr_X2_67 : MRefV RX2 67 yJ3_or cJ3_or 4 none 1 := ⟨q993, q994, q995, q96, q996, ⟨by decide, by decide⟩, by decide +kernel⟩
theorem mr_X2_244 : MRefV RX2 244 yX6_reaches cX6_reaches 2 (some .boolean) 1 := ⟨q1070, q1071, q1072, q122, q1073, ⟨by decide, by decide⟩, by decide +kernel⟩
theorem mr_X2_246 : MRefV RX2 246 yJ3_get cJ3_get 3 (some .boolean) 1 := ⟨q1075, q1076, q1077, q96, q1078, ⟨by decide, by decide⟩, by decide +kernel⟩
theorem mr_X2_248 : MRefV RX2 248 yJ3_set cJ3_set 3 none 1 := ⟨q1087, q1088, q1089, q96, q1090, ⟨by decide, by decide⟩, by decide +kernel⟩
theorem mr_X2_231 : MRefV RX2 231 yX2_countIn cX2_countIn 4 (some .int) 1 := ⟨q1104, q1105, q1106, q92, q1107, ⟨by decide, by decide⟩, by decide +kernel⟩
theorem mr_X2_234 : MRefV RX2 234 yX2_night cX2_night 2 none 0 := ⟨q1108, q1109, q1110, q92, q1111, ⟨by decide, by decide⟩, by decide +kernel⟩
theorem mr_X2_190 : MRefV RX2 190 yX2_goesOut cX2_goesOut 7 none 1 := ⟨q1112, q1114, qs12, q92, q1115, ⟨by decide, by decide⟩, by decide +kernel⟩
theorem mr_X2_160 : MRefV RX2 160 yX2_goal cX2_goal 6 (some .int) 2 := ⟨q1116, q1117, q1118, q92, q1119, ⟨by decide, by decide⟩, by decide +kernel⟩
theorem mr_X2_136 : MRefS RX2 136 yJ17_min cJ17_min 2 (some .int) 2 := ⟨q1120, q499, q112, q500, ⟨by decide, by decide⟩, by decide +kernel⟩
theorem mr_X2_139 : MRefS RX2 139 yJ17_max cJ17_max 2 (some .int) 2 := ⟨q1121, q481, q112, q482, ⟨by decide, by decide⟩, by decide +kernel⟩
theorem mr_X2_163 : MRefV RX2 163 yX2_comesTo cX2_comesTo 4 (some .boolean) 2 := ⟨q1122, q1124, qs13, q92, q1125, ⟨by decide, by decide⟩, by decide +kernel⟩
theorem mr_X2_145 : MRefV RX2 145 yX4_hasBridge cX4_hasBridge 1 (some .boolean) 0 := ⟨q1126, q1127, q1128, q104, q1129, ⟨by decide, by decide⟩, by decide +kernel⟩
theorem mr_X2_149 : MRefV RX2 149 yX4_isDeadly cX4_isDeadly 2 (some .boolean) 1 := ⟨q1130, q1131, q1132, q104, q1133, ⟨by decide, by decide⟩, by decide +kernel⟩
theorem mr_X2_152 : MRefV RX2 152 yX2_isKilled cX2_isKilled 3 none 2 := ⟨q1134, q1136, qs14, q92, q1137, ⟨by decide, by decide⟩, by decide +kernel⟩
theorem mr_X2_193 : MRefV RX2 193 yX2_washes cX2_washes 2 none 1 := ⟨q1138, q1140, qs15, q92, q1141, ⟨by decide, by decide⟩, by decide +kernel⟩
theorem mr_X2_196 : MRefV RX2 196 yX2_breeds cX2_breeds 3 none 1 := ⟨q1142, q1144, qs16, q92, q1145, ⟨by decide, by decide⟩, by decide +kernel⟩
theorem mr_X2_111 : MRefV RX2 111 yX2_countAt cX2_countAt 4 (some .int) 1 := ⟨q1146, q1147, q1148, q92, q1149, ⟨by decide, by decide⟩, by decide +kernel⟩
theorem mr_X2_100 : MRefV RX2 100 yX5_livesAt cX5_livesAt 2 (some .boolean) 1 := ⟨q1150, q1151, q1152, q121, q1153, ⟨by decide, by decide⟩, by decide +kernel⟩
theorem mr_X2_183 : MRefV RX2 183 yX2_growUp cX2_growUp 5 none 1 := ⟨q1154, q1156, qs17, q92, q1157, ⟨by decide, by decide⟩, by decide +kernel⟩
theorem mr_X2_167 : MRefV RX2 167 yX2_refuge cX2_refuge 3 (some .int) 1 := ⟨q1158, q1159, q1160, q92, q1161, ⟨by decide, by decide⟩, by decide +kernel⟩
theorem mr_X2_126 : MRefV RX2 126 yX2_nearest cX2_nearest 5 (some .int) 2 := ⟨q1162, q1164, qs18, q92, q1165, ⟨by decide, by decide⟩, by decide +kernel⟩
theorem mr_X2_117 : MRefV RX2 117 yX2_isFree cX2_isFree 4 (some .boolean) 2 := ⟨q1166, q1168, qs19, q92, q1169, ⟨by decide, by decide⟩, by decide +kernel⟩
theorem mr_X2_121 : MRefS RX2 121 yJ17_abs cJ17_abs 1 (some .int) 1 := ⟨q1170, q1171, q112, q1172, ⟨by decide, by decide⟩, by decide +kernel⟩
theorem mr_X2_170 : MRefI RX2 170 yX5_init_2 cX5_init_2 3 2 := ⟨q1173, q935, rfl, q121, q936, ⟨by decide, by decide⟩, by decide +kernel⟩
theorem mr_X2_187 : MRefV RX2 187 yX2_canBreed cX2_canBreed 4 (some .boolean) 1 := ⟨q1174, q1176, qs20, q92, q1177, ⟨by decide, by decide⟩, by decide +kernel⟩
theorem mr_X2_173 : MRefV RX2 173 yX2_month cX2_month 1 (some .int) 0 := ⟨q1178, q1179, q1180, q92, q1181, ⟨by decide, by decide⟩, by decide +kernel⟩
theorem mr_X2_179 : MRefV RX2 179 yX2_quality cX2_quality 2 (some .int) 1 := ⟨q1182, q1183, q1184, q92, q1185, ⟨by decide, by decide⟩, by decide +kernel⟩
theorem mr_X2_96 : MRefV RX2 96 yX2_coverAt cX2_coverAt 2 (some .int) 1 := ⟨q1186, q1188, qs21, q92, q1189, ⟨by decide, by decide⟩, by decide +kernel⟩
theorem mr_X2_211 : MRefV RX2 211 yX2_checkReach cX2_checkReach 2 (some (.object "OtterTrust$Reach")) 1 := ⟨q1194, q1196, qs22, q92, q1197, ⟨by decide, by decide⟩, by decide +kernel⟩
theorem mr_X2_228 : MRefV RX2 228 yX2_sum cX2_sum 5 (some .int) 1 := ⟨q1198, q1199, q1200, q92, q1201, ⟨by decide, by decide⟩, by decide +kernel⟩
theorem mr_X2_199 : MRefV RX2 199 yX4_hasOpenDip cX4_hasOpenDip 1 (some .boolean) 0 := ⟨q1202, q1203, q1204, q104, q1205, ⟨by decide, by decide⟩, by decide +kernel⟩
theorem mr_X2_256 : MRefV RX2 256 yX2_inCensus cX2_inCensus 3 (some .int) 0 := ⟨q1219, q1220, q1221, q92, q1222, ⟨by decide, by decide⟩, by decide +kernel⟩
theorem mr_X2_258 : MRefV RX2 258 yJ3_clear cJ3_clear 1 none 0 := ⟨q1223, q1224, q1225, q96, q1226, ⟨by decide, by decide⟩, by decide +kernel⟩
theorem mr_X2_210 : MRefI RX2 210 yX4_init_2 cX4_init_2 3 2 := ⟨q1231, q755, rfl, q104, q756, ⟨by decide, by decide⟩, by decide +kernel⟩
theorem cr_X2_215 : CRef RX2 215 7 8 [.null, .null, .null, .null, .null, .int 0, .int 0, .int 0] := ⟨RX8, TX8, tyX8, rfl, in_X8, q1240, q1048, q124, tyX8_ok, fun j hj => match j, hj with | 0, _ => rfl | 1, _ => rfl | 2, _ => rfl | 3, _ => rfl | 4, _ => rfl | 5, _ => rfl | 6, _ => rfl | 7, _ => rfl | j + 8, hj => absurd hj (by omega)⟩
theorem mr_X2_217 : MRefV RX2 217 yX2_lowestAt cX2_lowestAt 3 (some .int) 1 := ⟨q1241, q1243, qs23, q92, q1244, ⟨by decide, by decide⟩, by decide +kernel⟩
theorem mr_X2_220 : MRefI RX2 220 yX8_init cX8_init 3 2 := ⟨q1245, q1057, rfl, q124, q1058, ⟨by decide, by decide⟩, by decide +kernel⟩
theorem mr_X2_221 : MRefI RX2 221 yX6_init_2 cX6_init_2 3 2 := ⟨q1250, q964, rfl, q122, q965, ⟨by decide, by decide⟩, by decide +kernel⟩
theorem mr_X2_130 : MRefV RX2 130 yX2_widening cX2_widening 4 (some .int) 2 := ⟨q1587, q1589, qs31, q92, q1590, ⟨by decide, by decide⟩, by decide +kernel⟩
theorem mr_X4_21 : MRefI RX4 21 yX4_init_2 cX4_init_2 3 2 := ⟨q754, q755, rfl, q104, q756, ⟨by decide, by decide⟩, by decide +kernel⟩
theorem mr_X4_3 : MRefI RX4 3 yJ38_init cJ38_init 1 0 := ⟨q757, q147, rfl, q2539, q148, ⟨by decide, by decide⟩, by decide +kernel⟩
theorem fr_X4_9 : FRef RX4 9 3 0 .int true := ⟨RX4, TX4, 10, _, tyX4, rfl, in_X4, by decide, q758, fun _ _ _ _ h9 => h9, tyX4_ok, nmX4, rfl, rfl, (fun _ => rfl)⟩
theorem fr_X4_15 : FRef RX4 15 3 1 .int true := ⟨RX4, TX4, 10, _, tyX4, rfl, in_X4, by decide, q761, fun _ _ _ _ h9 => h9, tyX4_ok, nmX4, rfl, rfl, (fun _ => rfl)⟩
theorem fr_X4_24 : FRef RX4 24 3 2 .boolean false := ⟨RX4, TX4, 10, _, tyX4, rfl, in_X4, by decide, q763, fun _ _ _ _ h9 => h9, tyX4_ok, nmX4, rfl, rfl, (fun h9 => nomatch h9)⟩
theorem fr_X4_28 : FRef RX4 28 3 3 .int false := ⟨RX4, TX4, 10, _, tyX4, rfl, in_X4, by decide, q765, fun _ _ _ _ h9 => h9, tyX4_ok, nmX4, rfl, rfl, (fun h9 => nomatch h9)⟩
theorem fr_X4_31 : FRef RX4 31 3 4 .int false := ⟨RX4, TX4, 10, _, tyX4, rfl, in_X4, by decide, q768, fun _ _ _ _ h9 => h9, tyX4_ok, nmX4, rfl, rfl, (fun h9 => nomatch h9)⟩
theorem fr_X4_34 : FRef RX4 34 3 5 .int false := ⟨RX4, TX4, 10, _, tyX4, rfl, in_X4, by decide, q771, fun _ _ _ _ h9 => h9, tyX4_ok, nmX4, rfl, rfl, (fun h9 => nomatch h9)⟩
theorem fr_X4_37 : FRef RX4 37 3 6 .boolean false := ⟨RX4, TX4, 10, _, tyX4, rfl, in_X4, by decide, q774, fun _ _ _ _ h9 => h9, tyX4_ok, nmX4, rfl, rfl, (fun h9 => nomatch h9)⟩
theorem fr_X4_40 : FRef RX4 40 3 7 .int false := ⟨RX4, TX4, 10, _, tyX4, rfl, in_X4, by decide, q777, fun _ _ _ _ h9 => h9, tyX4_ok, nmX4, rfl, rfl, (fun h9 => nomatch h9)⟩
theorem fr_X4_43 : FRef RX4 43 3 8 .int false := ⟨RX4, TX4, 10, _, tyX4, rfl, in_X4, by decide, q780, fun _ _ _ _ h9 => h9, tyX4_ok, nmX4, rfl, rfl, (fun h9 => nomatch h9)⟩
theorem fr_X4_18 : FRef RX4 18 3 9 .int false := ⟨RX4, TX4, 10, _, tyX4, rfl, in_X4, by decide, q783, fun _ _ _ _ h9 => h9, tyX4_ok, nmX4, rfl, rfl, (fun h9 => nomatch h9)⟩
theorem mr_X4_46 : MRefV RX4 46 yX4_hasBridge cX4_hasBridge 1 (some .boolean) 0 := ⟨q1206, q1127, q1128, q104, q1129, ⟨by decide, by decide⟩, by decide +kernel⟩
theorem mr_X5_21 : MRefI RX5 21 yX5_init_2 cX5_init_2 3 2 := ⟨q934, q935, rfl, q121, q936, ⟨by decide, by decide⟩, by decide +kernel⟩
theorem mr_X5_3 : MRefI RX5 3 yJ38_init cJ38_init 1 0 := ⟨q937, q147, rfl, q2539, q148, ⟨by decide, by decide⟩, by decide +kernel⟩
theorem fr_X5_15 : FRef RX5 15 4 0 .int true := ⟨RX5, TX5, 4, _, tyX5, rfl, in_X5, by decide, q938, fun _ _ _ _ h9 => h9, tyX5_ok, nmX5, rfl, rfl, (fun _ => rfl)⟩
theorem fr_X5_9 : FRef RX5 9 4 1 .int false := ⟨RX5, TX5, 4, _, tyX5, rfl, in_X5, by decide, q940, fun _ _ _ _ h9 => h9, tyX5_ok, nmX5, rfl, rfl, (fun h9 => nomatch h9)⟩
theorem fr_X5_18 : FRef RX5 18 4 2 .int false := ⟨RX5, TX5, 4, _, tyX5, rfl, in_X5, by decide, q943, fun _ _ _ _ h9 => h9, tyX5_ok, nmX5, rfl, rfl, (fun h9 => nomatch h9)⟩
theorem fr_X5_24 : FRef RX5 24 4 3 .int false := ⟨RX5, TX5, 4, _, tyX5, rfl, in_X5, by decide, q946, fun _ _ _ _ h9 => h9, tyX5_ok, nmX5, rfl, rfl, (fun h9 => nomatch h9)⟩
theorem mr_X6_16 : MRefI RX6 16 yX6_init_2 cX6_init_2 3 2 := ⟨q963, q964, rfl, q122, q965, ⟨by decide, by decide⟩, by decide +kernel⟩
theorem mr_X6_1 : MRefI RX6 1 yJ38_init cJ38_init 1 0 := ⟨q966, q147, rfl, q2539, q148, ⟨by decide, by decide⟩, by decide +kernel⟩
theorem fr_X6_7 : FRef RX6 7 5 0 .int true := ⟨RX6, TX6, 5, _, tyX6, rfl, in_X6, by decide, q967, fun _ _ _ _ h9 => h9, tyX6_ok, nmX6, rfl, rfl, (fun _ => rfl)⟩
theorem fr_X6_13 : FRef RX6 13 5 1 .int true := ⟨RX6, TX6, 5, _, tyX6, rfl, in_X6, by decide, q970, fun _ _ _ _ h9 => h9, tyX6_ok, nmX6, rfl, rfl, (fun _ => rfl)⟩
theorem fr_X6_19 : FRef RX6 19 5 2 .int false := ⟨RX6, TX6, 5, _, tyX6, rfl, in_X6, by decide, q973, fun _ _ _ _ h9 => h9, tyX6_ok, nmX6, rfl, rfl, (fun h9 => nomatch h9)⟩
theorem fr_X6_22 : FRef RX6 22 5 3 .int false := ⟨RX6, TX6, 5, _, tyX6, rfl, in_X6, by decide, q976, fun _ _ _ _ h9 => h9, tyX6_ok, nmX6, rfl, rfl, (fun h9 => nomatch h9)⟩
theorem fr_X6_25 : FRef RX6 25 5 4 .int false := ⟨RX6, TX6, 5, _, tyX6, rfl, in_X6, by decide, q979, fun _ _ _ _ h9 => h9, tyX6_ok, nmX6, rfl, rfl, (fun h9 => nomatch h9)⟩
theorem mr_X7_1 : MRefI RX7 1 yJ38_init cJ38_init 1 0 := ⟨q1023, q147, rfl, q2539, q148, ⟨by decide, by decide⟩, by decide +kernel⟩
theorem fr_X7_7 : FRef RX7 7 6 0 .int true := ⟨RX7, TX7, 3, _, tyX7, rfl, in_X7, by decide, q1024, fun _ _ _ _ h9 => h9, tyX7_ok, nmX7, rfl, rfl, (fun _ => rfl)⟩
theorem fr_X7_13 : FRef RX7 13 6 1 .int true := ⟨RX7, TX7, 3, _, tyX7, rfl, in_X7, by decide, q1025, fun _ _ _ _ h9 => h9, tyX7_ok, nmX7, rfl, rfl, (fun _ => rfl)⟩
theorem fr_X7_16 : FRef RX7 16 6 2 .int true := ⟨RX7, TX7, 3, _, tyX7, rfl, in_X7, by decide, q1026, fun _ _ _ _ h9 => h9, tyX7_ok, nmX7, rfl, rfl, (fun _ => rfl)⟩
theorem mr_X7_19 : MRefV RX7 19 yX2_walks cX2_walks 6 (some .int) 1 := ⟨q1038, q1039, q1040, q92, q1041, ⟨by decide, by decide⟩, by decide +kernel⟩
theorem mr_X7_25 : MRefV RX7 25 yX2_passes cX2_passes 4 (some .int) 1 := ⟨q1095, q1096, q1097, q92, q1098, ⟨by decide, by decide⟩, by decide +kernel⟩
theorem mr_X7_28 : MRefV RX7 28 yX2_shuts cX2_shuts 3 (some .int) 1 := ⟨q1190, q1191, q1192, q92, q1193, ⟨by decide, by decide⟩, by decide +kernel⟩
theorem mr_X7_31 : MRefV RX7 31 yX2_rises cX2_rises 3 (some .int) 1 := ⟨q1207, q1208, q1209, q92, q1210, ⟨by decide, by decide⟩, by decide +kernel⟩
theorem mr_X7_34 : MRefV RX7 34 yX2_gets cX2_gets 2 (some .int) 1 := ⟨q1211, q1212, q1213, q92, q1214, ⟨by decide, by decide⟩, by decide +kernel⟩
theorem mr_X7_37 : MRefV RX7 37 yX2_ends cX2_ends 3 (some .int) 0 := ⟨q1215, q1216, q1217, q92, q1218, ⟨by decide, by decide⟩, by decide +kernel⟩
theorem mr_X7_41 : MRefV RX7 41 yX2_flowsOn cX2_flowsOn 3 (some .int) 2 := ⟨q1227, q1228, q1229, q92, q1230, ⟨by decide, by decide⟩, by decide +kernel⟩
theorem mr_X7_45 : MRefV RX7 45 yX2_isDug cX2_isDug 3 (some .int) 1 := ⟨q1232, q1233, q1234, q92, q1235, ⟨by decide, by decide⟩, by decide +kernel⟩
theorem mr_X7_48 : MRefV RX7 48 yX2_comes cX2_comes 3 (some .int) 1 := ⟨q1236, q1237, q1238, q92, q1239, ⟨by decide, by decide⟩, by decide +kernel⟩
theorem mr_X7_51 : MRefV RX7 51 yX2_helps cX2_helps 5 (some .int) 2 := ⟨q1246, q1247, q1248, q92, q1249, ⟨by decide, by decide⟩, by decide +kernel⟩
theorem mr_X8_1 : MRefI RX8 1 yJ13_init_2 cJ13_init_2 1 0 := ⟨q1059, q894, rfl, q108, q895, ⟨by decide, by decide⟩, by decide +kernel⟩
theorem fr_X8_7 : FRef RX8 7 7 6 .int true := ⟨RX8, TX8, 8, _, tyX8, rfl, in_X8, by decide, q1060, fun _ _ _ _ h9 => h9, tyX8_ok, nmX8, rfl, rfl, (fun _ => rfl)⟩
theorem fr_X8_13 : FRef RX8 13 7 7 .int true := ⟨RX8, TX8, 8, _, tyX8, rfl, in_X8, by decide, q1062, fun _ _ _ _ h9 => h9, tyX8_ok, nmX8, rfl, rfl, (fun _ => rfl)⟩
theorem mr_X9_1 : MRefI RX9 1 yJ38_init cJ38_init 1 0 := ⟨q1684, q147, rfl, q2539, q148, ⟨by decide, by decide⟩, by decide +kernel⟩
theorem fr_X9_7 : FRef RX9 7 8 0 (.object "java/lang/String") true := ⟨RX9, TX9, 2, _, tyX9, rfl, in_X9, by decide, q1685, fun _ _ _ _ h9 => h9, tyX9_ok, nmX9, rfl, rfl, (fun _ => rfl)⟩
theorem fr_X9_13 : FRef RX9 13 8 1 .int false := ⟨RX9, TX9, 2, _, tyX9, rfl, in_X9, by decide, q1686, fun _ _ _ _ h9 => h9, tyX9_ok, nmX9, rfl, rfl, (fun h9 => nomatch h9)⟩
theorem cr_X9_71 : CRef RX9 71 15 4 [.int 0, .int 0, .null, .null] := ⟨RJ30, TJ30, tyJ30, rfl, in_J30, q1748, q728, q131, tyJ30_ok, fun j hj => match j, hj with | 0, _ => rfl | 1, _ => rfl | 2, _ => rfl | 3, _ => rfl | j + 4, hj => absurd hj (by omega)⟩
theorem mr_X9_73 : MRefI RX9 73 yJ30_init cJ30_init 1 0 := ⟨q1749, q1750, rfl, q131, q1751, ⟨by decide, by decide⟩, by decide +kernel⟩
theorem mr_X9_74 : MRefV RX9 74 yX9_order cX9_order 1 (some (.object "OtterTrust$Order")) 0 := ⟨q1767, q1769, qs34, q128, q1770, ⟨by decide, by decide⟩, by decide +kernel⟩
theorem mr_X9_36 : MRefV RX9 36 yX9_passes cX9_passes 3 (some .boolean) 1 := ⟨q1771, q1773, qs35, q128, q1774, ⟨by decide, by decide⟩, by decide +kernel⟩
theorem mr_X9_27 : MRefV RX9 27 yX9_isNext cX9_isNext 3 (some .boolean) 2 := ⟨q1775, q1777, qs36, q128, q1778, ⟨by decide, by decide⟩, by decide +kernel⟩
theorem mr_X9_17 : MRefV RX9 17 yJ7_length cJ7_length 1 (some .int) 0 := ⟨q1779, q536, q537, q100, q538, ⟨by decide, by decide⟩, by decide +kernel⟩
theorem mr_X9_23 : MRefV RX9 23 yJ7_charAt cJ7_charAt 2 (some .char) 1 := ⟨q1780, q1781, q1782, q100, q1783, ⟨by decide, by decide⟩, by decide +kernel⟩
theorem mr_X9_49 : MRefV RX9 49 yX9_word cX9_word 3 none 1 := ⟨q1796, q1798, qs37, q128, q1799, ⟨by decide, by decide⟩, by decide +kernel⟩
theorem mr_X9_40 : MRefV RX9 40 yX9_expect cX9_expect 2 none 1 := ⟨q1800, q1802, qs38, q128, q1803, ⟨by decide, by decide⟩, by decide +kernel⟩
theorem cr_X9_31 : CRef RX9 31 9 7 [.null, .null, .null, .null, .null, .int 0, .int 0] := ⟨RX10, TX10, tyX10, rfl, in_X10, q1804, q1805, q132, tyX10_ok, fun j hj => match j, hj with | 0, _ => rfl | 1, _ => rfl | 2, _ => rfl | 3, _ => rfl | 4, _ => rfl | 5, _ => rfl | 6, _ => rfl | j + 7, hj => absurd hj (by omega)⟩
theorem mr_X9_33 : MRefI RX9 33 yX10_init cX10_init 2 1 := ⟨q1813, q1814, rfl, q132, q1815, ⟨by decide, by decide⟩, by decide +kernel⟩
theorem cr_X9_53 : CRef RX9 53 6 3 [.int 0, .int 0, .int 0] := ⟨RX7, TX7, tyX7, rfl, in_X7, q1823, q1019, q123, tyX7_ok, fun j hj => match j, hj with | 0, _ => rfl | 1, _ => rfl | 2, _ => rfl | j + 3, hj => absurd hj (by omega)⟩
theorem mr_X9_44 : MRefV RX9 44 yX9_digit cX9_digit 1 (some .int) 0 := ⟨q1824, q1826, qs39, q128, q1827, ⟨by decide, by decide⟩, by decide +kernel⟩
theorem mr_X9_55 : MRefI RX9 55 yX7_init cX7_init 4 3 := ⟨q1828, q1021, rfl, q123, q1022, ⟨by decide, by decide⟩, by decide +kernel⟩
theorem mr_X9_60 : MRefV RX9 60 yX9_number cX9_number 2 (some .int) 0 := ⟨q1830, q1832, qs40, q128, q1833, ⟨by decide, by decide⟩, by decide +kernel⟩
theorem mr_X9_78 : MRefV RX9 78 yJ30_addLast cJ30_addLast 2 none 1 := ⟨q1838, q1354, q2531, q131, q1356, ⟨by decide, by decide⟩, by decide +kernel⟩
theorem mr_X10_1 : MRefI RX10 1 yJ13_init_2 cJ13_init_2 1 0 := ⟨q1816, q894, rfl, q108, q895, ⟨by decide, by decide⟩, by decide +kernel⟩
theorem fr_X10_7 : FRef RX10 7 9 6 .int true := ⟨RX10, TX10, 7, _, tyX10, rfl, in_X10, by decide, q1817, fun _ _ _ _ h9 => h9, tyX10_ok, nmX10, rfl, rfl, (fun _ => rfl)⟩
theorem cr_X0_8 : CRef RX0 8 1 8 [.null, .null, .null, .null, .null, .int 0, .null, .int 0] := ⟨RX1, TX1, tyX1, rfl, in_X1, q141, q142, q91, tyX1_ok, fun j hj => match j, hj with | 0, _ => rfl | 1, _ => rfl | 2, _ => rfl | 3, _ => rfl | 4, _ => rfl | 5, _ => rfl | 6, _ => rfl | 7, _ => rfl | j + 8, hj => absurd hj (by omega)⟩
theorem mr_X0_121 : MRefI RX0 121 yX1_init cX1_init 1 0 := ⟨q143, q144, rfl, q91, q145, ⟨by decide, by decide⟩, by decide +kernel⟩
theorem mr_X0_159 : MRefV RX0 159 yX1_census cX1_census 1 (some .int) 0 := ⟨q333, q334, q335, q91, q336, ⟨by decide, by decide⟩, by decide +kernel⟩
theorem mr_X0_191 : MRefV RX0 191 yX1_unseen cX1_unseen 1 (some .int) 0 := ⟨q1363, q1364, q1365, q91, q1366, ⟨by decide, by decide⟩, by decide +kernel⟩
theorem mr_X0_195 : MRefV RX0 195 yX1_lonely cX1_lonely 3 (some .int) 0 := ⟨q1371, q1372, q1373, q91, q1374, ⟨by decide, by decide⟩, by decide +kernel⟩
theorem mr_X0_199 : MRefV RX0 199 yX1_safeLevel cX1_safeLevel 4 (some .int) 0 := ⟨q1381, q1382, q1383, q91, q1384, ⟨by decide, by decide⟩, by decide +kernel⟩
theorem mr_X0_225 : MRefV RX0 225 yX1_line cX1_line 5 (some .int) 0 := ⟨q1387, q1388, q1389, q91, q1390, ⟨by decide, by decide⟩, by decide +kernel⟩
theorem mr_X0_242 : MRefV RX0 242 yX1_countedAgain cX1_countedAgain 1 (some .int) 0 := ⟨q1417, q1418, q1419, q91, q1420, ⟨by decide, by decide⟩, by decide +kernel⟩
theorem mr_X0_249 : MRefV RX0 249 yX1_save cX1_save 1 (some .int) 0 := ⟨q1431, q1432, q1433, q91, q1434, ⟨by decide, by decide⟩, by decide +kernel⟩
theorem mr_X0_7 : MRefV RX0 7 yX1_reach cX1_reach 3 (some .int) 2 := ⟨q1439, q1440, q1441, q91, q1442, ⟨by decide, by decide⟩, by decide +kernel⟩
theorem mr_X0_15 : MRefV RX0 15 yX1_holt cX1_holt 2 (some .int) 1 := ⟨q1446, q1447, q1448, q91, q1449, ⟨by decide, by decide⟩, by decide +kernel⟩
theorem mr_X0_19 : MRefV RX0 19 yX1_otter cX1_otter 2 (some .int) 1 := ⟨q1453, q1454, q1455, q91, q1456, ⟨by decide, by decide⟩, by decide +kernel⟩
theorem mr_X0_22 : MRefV RX0 22 yX1_volunteer cX1_volunteer 3 (some .int) 2 := ⟨q1460, q1461, q1462, q91, q1463, ⟨by decide, by decide⟩, by decide +kernel⟩
theorem mr_X0_25 : MRefV RX0 25 yX1_level cX1_level 2 (some .int) 1 := ⟨q1467, q1468, q1469, q91, q1470, ⟨by decide, by decide⟩, by decide +kernel⟩
theorem mr_X0_28 : MRefV RX0 28 yX1_give cX1_give 2 (some .int) 1 := ⟨q1474, q1475, q1476, q91, q1477, ⟨by decide, by decide⟩, by decide +kernel⟩
theorem mr_X0_31 : MRefV RX0 31 yX1_shut cX1_shut 2 (some .int) 1 := ⟨q1481, q1482, q1483, q91, q1484, ⟨by decide, by decide⟩, by decide +kernel⟩
theorem mr_X0_34 : MRefV RX0 34 yX1_pass cX1_pass 2 (some .int) 1 := ⟨q1488, q1489, q1490, q91, q1491, ⟨by decide, by decide⟩, by decide +kernel⟩
theorem mr_X0_37 : MRefV RX0 37 yX1_walk cX1_walk 2 (some .int) 1 := ⟨q1495, q1496, q1497, q91, q1498, ⟨by decide, by decide⟩, by decide +kernel⟩
theorem mr_X0_40 : MRefV RX0 40 yX1_reachOf cX1_reachOf 4 (some .int) 2 := ⟨q1519, q1520, q1521, q91, q1522, ⟨by decide, by decide⟩, by decide +kernel⟩
theorem mr_X0_47 : MRefV RX0 47 yX1_otterOf cX1_otterOf 4 (some .int) 2 := ⟨q1544, q1545, q1546, q91, q1547, ⟨by decide, by decide⟩, by decide +kernel⟩
theorem mr_X0_50 : MRefV RX0 50 yX1_volunteerOf cX1_volunteerOf 4 (some .int) 2 := ⟨q1557, q1558, q1559, q91, q1560, ⟨by decide, by decide⟩, by decide +kernel⟩
theorem mr_X0_53 : MRefV RX0 53 yX1_refuge cX1_refuge 4 (some .int) 1 := ⟨q1566, q1567, q1568, q91, q1569, ⟨by decide, by decide⟩, by decide +kernel⟩
theorem mr_X0_58 : MRefV RX0 58 yX1_refugeAgain cX1_refugeAgain 4 (some .int) 1 := ⟨q1579, q1580, q1581, q91, q1582, ⟨by decide, by decide⟩, by decide +kernel⟩
theorem mr_X0_61 : MRefV RX0 61 yX1_goal cX1_goal 2 (some .int) 1 := ⟨q1595, q1596, q1597, q91, q1598, ⟨by decide, by decide⟩, by decide +kernel⟩
theorem mr_X0_66 : MRefV RX0 66 yX1_killedIn cX1_killedIn 4 (some .int) 1 := ⟨q1611, q1612, q1613, q91, q1614, ⟨by decide, by decide⟩, by decide +kernel⟩
theorem mr_X0_69 : MRefV RX0 69 yX1_cubsIn cX1_cubsIn 4 (some .int) 1 := ⟨q1619, q1620, q1621, q91, q1622, ⟨by decide, by decide⟩, by decide +kernel⟩
theorem mr_X0_72 : MRefV RX0 72 yX1_worstDip cX1_worstDip 6 (some .int) 0 := ⟨q1629, q1630, q1631, q91, q1632, ⟨by decide, by decide⟩, by decide +kernel⟩
theorem mr_X0_76 : MRefV RX0 76 yX1_seenBy cX1_seenBy 4 (some .int) 1 := ⟨q1636, q1637, q1638, q91, q1639, ⟨by decide, by decide⟩, by decide +kernel⟩
theorem mr_X0_79 : MRefV RX0 79 yX1_busiest cX1_busiest 4 (some .int) 0 := ⟨q1644, q1645, q1646, q91, q1647, ⟨by decide, by decide⟩, by decide +kernel⟩
theorem mr_X0_82 : MRefV RX0 82 yX1_ranked cX1_ranked 3 (some .int) 1 := ⟨q1651, q1652, q1653, q91, q1654, ⟨by decide, by decide⟩, by decide +kernel⟩
theorem mr_X0_85 : MRefV RX0 85 yX1_feed cX1_feed 2 (some .int) 1 := ⟨q1662, q1663, q1664, q91, q1665, ⟨by decide, by decide⟩, by decide +kernel⟩
theorem mr_X0_92 : MRefV RX0 92 yX1_faultPosition cX1_faultPosition 1 (some .int) 0 := ⟨q1850, q1851, q1852, q91, q1853, ⟨by decide, by decide⟩, by decide +kernel⟩
theorem mr_X0_95 : MRefV RX0 95 yX1_reason cX1_reason 3 (some .int) 1 := ⟨q1857, q1858, q1859, q91, q1860, ⟨by decide, by decide⟩, by decide +kernel⟩
theorem mr_X0_98 : MRefV RX0 98 yX1_character cX1_character 2 (some .char) 1 := ⟨q1941, q1942, q1943, q91, q1944, ⟨by decide, by decide⟩, by decide +kernel⟩
theorem mr_X0_102 : MRefV RX0 102 yX1_meanQuality cX1_meanQuality 4 (some .double) 0 := ⟨q1963, q1964, q1965, q91, q1966, ⟨by decide, by decide⟩, by decide +kernel⟩
theorem mr_X0_108 : MRefV RX0 108 yX1_countedShare cX1_countedShare 1 (some .float) 0 := ⟨q1976, q1977, q1978, q91, q1979, ⟨by decide, by decide⟩, by decide +kernel⟩
theorem mr_X0_112 : MRefV RX0 112 yX1_account cX1_account 2 (some .int) 1 := ⟨q1983, q1984, q1985, q91, q1986, ⟨by decide, by decide⟩, by decide +kernel⟩
theorem mr_X0_115 : MRefV RX0 115 yX1_undo cX1_undo 1 (some .int) 0 := ⟨q1993, q1994, q1995, q91, q1996, ⟨by decide, by decide⟩, by decide +kernel⟩
theorem mr_X0_118 : MRefV RX0 118 yX1_restore cX1_restore 1 (some .int) 0 := ⟨q2036, q2037, q2038, q91, q2039, ⟨by decide, by decide⟩, by decide +kernel⟩
theorem cr_X0_122 : CRef RX0 122 0 25 [.null, .null, .null, .null, .int 0, .null, .int 0, .int 0, .int 0, .int 0, .int 0, .int 0, .null, .int 0, .null, .null, .null, .null, .null, .int 0, .int 0, .int 0, .int 0, .null, .int 0] := ⟨RX3, TX3, tyX3, rfl, in_X3, q2056, q2057, q102, tyX3_ok, fun j hj => match j, hj with | 0, _ => rfl | 1, _ => rfl | 2, _ => rfl | 3, _ => rfl | 4, _ => rfl | 5, _ => rfl | 6, _ => rfl | 7, _ => rfl | 8, _ => rfl | 9, _ => rfl | 10, _ => rfl | 11, _ => rfl | 12, _ => rfl | 13, _ => rfl | 14, _ => rfl | 15, _ => rfl | 16, _ => rfl | 17, _ => rfl | 18, _ => rfl | 19, _ => rfl | 20, _ => rfl | 21, _ => rfl | 22, _ => rfl | 23, _ => rfl | 24, _ => rfl | j + 25, hj => absurd hj (by omega)⟩
theorem mr_X0_124 : MRefI RX0 124 yX3_init cX3_init 1 0 := ⟨q2058, q2059, rfl, q102, q2060, ⟨by decide, by decide⟩, by decide +kernel⟩
theorem mr_X0_131 : MRefV RX0 131 yX3_thrown cX3_thrown 1 (some .int) 0 := ⟨q2141, q2142, q2143, q102, q2144, ⟨by decide, by decide⟩, by decide +kernel⟩
theorem mr_X0_130 : MRefV RX0 130 yX3_reach cX3_reach 5 (some .int) 2 := ⟨q2145, q2146, q2147, q102, q2148, ⟨by decide, by decide⟩, by decide +kernel⟩
theorem mr_X0_137 : MRefV RX0 137 yX3_holt cX3_holt 2 (some .int) 1 := ⟨q2173, q2174, q2175, q102, q2176, ⟨by decide, by decide⟩, by decide +kernel⟩
theorem mr_X0_140 : MRefV RX0 140 yX3_otter cX3_otter 2 (some .int) 1 := ⟨q2204, q2205, q2206, q102, q2207, ⟨by decide, by decide⟩, by decide +kernel⟩
theorem mr_X0_143 : MRefV RX0 143 yX3_volunteer cX3_volunteer 4 (some .int) 2 := ⟨q2216, q2217, q2218, q102, q2219, ⟨by decide, by decide⟩, by decide +kernel⟩
theorem mr_X0_146 : MRefV RX0 146 yX3_level cX3_level 2 (some .int) 1 := ⟨q2223, q2224, q2225, q102, q2226, ⟨by decide, by decide⟩, by decide +kernel⟩
theorem mr_X0_149 : MRefV RX0 149 yX3_give cX3_give 2 (some .int) 1 := ⟨q2231, q2232, q2233, q102, q2234, ⟨by decide, by decide⟩, by decide +kernel⟩
theorem mr_X0_152 : MRefV RX0 152 yX3_shut cX3_shut 2 (some .int) 1 := ⟨q2240, q2241, q2242, q102, q2243, ⟨by decide, by decide⟩, by decide +kernel⟩
theorem mr_X0_155 : MRefV RX0 155 yX3_pass cX3_pass 2 (some .int) 1 := ⟨q2256, q2257, q2258, q102, q2259, ⟨by decide, by decide⟩, by decide +kernel⟩
theorem mr_X0_158 : MRefV RX0 158 yX3_walk cX3_walk 2 (some .int) 1 := ⟨q2318, q2319, q2320, q102, q2321, ⟨by decide, by decide⟩, by decide +kernel⟩
theorem mr_X0_162 : MRefV RX0 162 yX3_census cX3_census 1 (some .int) 0 := ⟨q2330, q2331, q2332, q102, q2333, ⟨by decide, by decide⟩, by decide +kernel⟩
theorem mr_X0_165 : MRefV RX0 165 yX3_reachOf cX3_reachOf 4 (some .int) 2 := ⟨q2338, q2339, q2340, q102, q2341, ⟨by decide, by decide⟩, by decide +kernel⟩
theorem mr_X0_168 : MRefV RX0 168 yX3_otterOf cX3_otterOf 3 (some .int) 2 := ⟨q2342, q2343, q2344, q102, q2345, ⟨by decide, by decide⟩, by decide +kernel⟩
theorem mr_X0_171 : MRefV RX0 171 yX3_volunteerOf cX3_volunteerOf 3 (some .int) 2 := ⟨q2350, q2351, q2352, q102, q2353, ⟨by decide, by decide⟩, by decide +kernel⟩
theorem mr_X0_174 : MRefV RX0 174 yX3_refuge cX3_refuge 3 (some .int) 1 := ⟨q2354, q2355, q2356, q102, q2357, ⟨by decide, by decide⟩, by decide +kernel⟩
theorem mr_X0_177 : MRefV RX0 177 yX3_refugeAgain cX3_refugeAgain 2 (some .int) 1 := ⟨q2358, q2359, q2360, q102, q2361, ⟨by decide, by decide⟩, by decide +kernel⟩
theorem mr_X0_180 : MRefV RX0 180 yX3_goal cX3_goal 3 (some .int) 1 := ⟨q2363, q2364, q2365, q102, q2366, ⟨by decide, by decide⟩, by decide +kernel⟩
theorem mr_X0_183 : MRefV RX0 183 yX3_killedIn cX3_killedIn 4 (some .int) 1 := ⟨q2368, q2369, q2370, q102, q2371, ⟨by decide, by decide⟩, by decide +kernel⟩
theorem mr_X0_186 : MRefV RX0 186 yX3_cubsIn cX3_cubsIn 4 (some .int) 1 := ⟨q2380, q2381, q2382, q102, q2383, ⟨by decide, by decide⟩, by decide +kernel⟩
theorem mr_X0_190 : MRefV RX0 190 yX3_worstDip cX3_worstDip 3 (some .int) 0 := ⟨q2384, q2385, q2386, q102, q2387, ⟨by decide, by decide⟩, by decide +kernel⟩
theorem mr_X0_194 : MRefV RX0 194 yX3_unseen cX3_unseen 3 (some .int) 0 := ⟨q2388, q2389, q2390, q102, q2391, ⟨by decide, by decide⟩, by decide +kernel⟩
theorem mr_X0_198 : MRefV RX0 198 yX3_lonely cX3_lonely 3 (some .int) 0 := ⟨q2396, q2397, q2398, q102, q2399, ⟨by decide, by decide⟩, by decide +kernel⟩
theorem mr_X0_202 : MRefV RX0 202 yX3_safeLevel cX3_safeLevel 3 (some .int) 0 := ⟨q2400, q2401, q2402, q102, q2403, ⟨by decide, by decide⟩, by decide +kernel⟩
theorem mr_X0_205 : MRefV RX0 205 yX3_seenBy cX3_seenBy 3 (some .int) 1 := ⟨q2404, q2405, q2406, q102, q2407, ⟨by decide, by decide⟩, by decide +kernel⟩
theorem mr_X0_208 : MRefV RX0 208 yX3_busiest cX3_busiest 3 (some .int) 0 := ⟨q2408, q2409, q2410, q102, q2411, ⟨by decide, by decide⟩, by decide +kernel⟩
theorem mr_X0_211 : MRefV RX0 211 yX3_ranked cX3_ranked 3 (some .int) 1 := ⟨q2412, q2413, q2414, q102, q2415, ⟨by decide, by decide⟩, by decide +kernel⟩
theorem mr_X0_215 : MRefV RX0 215 yX3_feed cX3_feed 2 (some .int) 1 := ⟨q2420, q2421, q2422, q102, q2423, ⟨by decide, by decide⟩, by decide +kernel⟩
theorem mr_X0_218 : MRefV RX0 218 yX3_run cX3_run 3 (some .int) 0 := ⟨q2424, q2425, q2426, q102, q2427, ⟨by decide, by decide⟩, by decide +kernel⟩
theorem mr_X0_221 : MRefV RX0 221 yX3_faultPosition cX3_faultPosition 1 (some .int) 0 := ⟨q2462, q2463, q2464, q102, q2465, ⟨by decide, by decide⟩, by decide +kernel⟩
theorem mr_X0_224 : MRefV RX0 224 yX3_reason cX3_reason 2 (some .int) 1 := ⟨q2466, q2467, q2468, q102, q2469, ⟨by decide, by decide⟩, by decide +kernel⟩
theorem mr_X0_228 : MRefV RX0 228 yX3_line cX3_line 3 (some .int) 0 := ⟨q2470, q2471, q2472, q102, q2473, ⟨by decide, by decide⟩, by decide +kernel⟩
theorem mr_X0_231 : MRefV RX0 231 yX3_character cX3_character 2 (some .char) 1 := ⟨q2478, q2479, q2480, q102, q2481, ⟨by decide, by decide⟩, by decide +kernel⟩
theorem mr_X0_235 : MRefV RX0 235 yX3_meanQuality cX3_meanQuality 3 (some .double) 0 := ⟨q2482, q2483, q2484, q102, q2485, ⟨by decide, by decide⟩, by decide +kernel⟩
theorem mr_X0_238 : MRefV RX0 238 yX3_countedShare cX3_countedShare 1 (some .float) 0 := ⟨q2490, q2491, q2492, q102, q2493, ⟨by decide, by decide⟩, by decide +kernel⟩
theorem mr_X0_241 : MRefV RX0 241 yX3_account cX3_account 2 (some .int) 1 := ⟨q2494, q2495, q2496, q102, q2497, ⟨by decide, by decide⟩, by decide +kernel⟩
theorem mr_X0_245 : MRefV RX0 245 yX3_countedAgain cX3_countedAgain 1 (some .int) 0 := ⟨q2498, q2499, q2500, q102, q2501, ⟨by decide, by decide⟩, by decide +kernel⟩
theorem mr_X0_248 : MRefV RX0 248 yX3_undo cX3_undo 2 (some .int) 0 := ⟨q2506, q2507, q2508, q102, q2509, ⟨by decide, by decide⟩, by decide +kernel⟩
theorem mr_X0_252 : MRefV RX0 252 yX3_save cX3_save 2 (some .int) 0 := ⟨q2510, q2511, q2512, q102, q2513, ⟨by decide, by decide⟩, by decide +kernel⟩
theorem mr_X0_255 : MRefV RX0 255 yX3_restore cX3_restore 2 (some .int) 0 := ⟨q2514, q2515, q2516, q102, q2517, ⟨by decide, by decide⟩, by decide +kernel⟩
theorem mr_J2_1 : MRefI RJ2 1 yJ1_init cJ1_init 1 0 := ⟨q160, q161, rfl, q94, q162, ⟨by decide, by decide⟩, by decide +kernel⟩
theorem fr_J2_9 : FRef RJ2 9 10 1 (.array (.object "java/lang/Object")) false := ⟨RJ2, TJ2, 3, _, tyJ2, rfl, in_J2, by decide, q169, fun _ _ _ _ h9 => h9, tyJ2_ok, nmJ2, rfl, rfl, (fun h9 => nomatch h9)⟩
theorem fr_J2_48 : FRef RJ2 48 10 2 .int false := ⟨RJ2, TJ2, 3, _, tyJ2, rfl, in_J2, by decide, q170, fun _ _ _ _ h9 => h9, tyJ2_ok, nmJ2, rfl, rfl, (fun h9 => nomatch h9)⟩
theorem fr_J2_63 : FRef RJ2 63 10 0 .int false := ⟨RJ2, TJ2, 3, _, tyJ2, rfl, in_J2, by decide, q174, fun s args ht x h9 => u_same (ht _ q175) x h9, tyJ2_ok, nmJ2, rfl, rfl, (fun h9 => nomatch h9)⟩
theorem mr_J2_118 : MRefS RJ2 118 yJ10_checkIndex cJ10_checkIndex 2 (some .int) 2 := ⟨q386, q387, q105, q388, ⟨by decide, by decide⟩, by decide +kernel⟩
theorem mr_J2_123 : MRefV RJ2 123 yJ2_elementData cJ2_elementData 2 (some (.object "java/lang/Object")) 1 := ⟨q392, q393, q394, q95, q395, ⟨by decide, by decide⟩, by decide +kernel⟩
theorem mr_J2_131 : MRefV RJ2 131 yJ2_add_2 cJ2_add_2 4 none 3 := ⟨q815, q817, qs6, q95, q818, ⟨by decide, by decide⟩, by decide +kernel⟩
theorem mr_J2_129 : MRefV RJ2 129 yJ2_grow cJ2_grow 1 (some (.array (.object "java/lang/Object"))) 0 := ⟨q819, q821, qs7, q95, q822, ⟨by decide, by decide⟩, by decide +kernel⟩
theorem mr_J2_69 : MRefV RJ2 69 yJ2_grow_2 cJ2_grow_2 4 (some (.array (.object "java/lang/Object"))) 1 := ⟨q823, q825, qs8, q95, q826, ⟨by decide, by decide⟩, by decide +kernel⟩
theorem mr_J2_73 : MRefS RJ2 73 yJ16_newLength cJ16_newLength 4 (some .int) 3 := ⟨q827, q478, q111, q479, ⟨by decide, by decide⟩, by decide +kernel⟩
theorem mr_J2_66 : MRefS RJ2 66 yJ18_copyOf_2 cJ18_copyOf_2 2 (some (.array (.object "java/lang/Object"))) 2 := ⟨q828, q829, q113, q830, ⟨by decide, by decide⟩, by decide +kernel⟩
theorem mr_J2_79 : MRefS RJ2 79 yJ17_max cJ17_max 2 (some .int) 2 := ⟨q868, q481, q112, q482, ⟨by decide, by decide⟩, by decide +kernel⟩
theorem mr_J3_21 : MRefI RJ3 21 yJ38_init cJ38_init 1 0 := ⟨q188, q147, rfl, q2539, q148, ⟨by decide, by decide⟩, by decide +kernel⟩
theorem mr_J3_27 : MRefV RJ3 27 yJ3_initWords cJ3_initWords 2 none 1 := ⟨q189, q191, qs0, q96, q192, ⟨by decide, by decide⟩, by decide +kernel⟩
theorem mr_J3_52 : MRefS RJ3 52 yJ3_wordIndex cJ3_wordIndex 1 (some .int) 1 := ⟨q193, q194, q96, q195, ⟨by decide, by decide⟩, by decide +kernel⟩
theorem fr_J3_11 : FRef RJ3 11 11 0 (.array .long) false := ⟨RJ3, TJ3, 3, _, tyJ3, rfl, in_J3, by decide, q196, fun _ _ _ _ h9 => h9, tyJ3_ok, nmJ3, rfl, rfl, (fun h9 => nomatch h9)⟩
theorem fr_J3_7 : FRef RJ3 7 11 1 .int false := ⟨RJ3, TJ3, 3, _, tyJ3, rfl, in_J3, by decide, q197, fun _ _ _ _ h9 => h9, tyJ3_ok, nmJ3, rfl, rfl, (fun h9 => nomatch h9)⟩
theorem fr_J3_24 : FRef RJ3 24 11 2 .boolean false := ⟨RJ3, TJ3, 3, _, tyJ3, rfl, in_J3, by decide, q198, fun _ _ _ _ h9 => h9, tyJ3_ok, nmJ3, rfl, rfl, (fun h9 => nomatch h9)⟩
theorem mr_J3_193 : MRefS RJ3 193 yJ17_min cJ17_min 2 (some .int) 2 := ⟨q997, q499, q112, q500, ⟨by decide, by decide⟩, by decide +kernel⟩
theorem mr_J3_139 : MRefV RJ3 139 yJ3_ensureCapacity cJ3_ensureCapacity 3 none 1 := ⟨q998, q1000, qs9, q96, q1001, ⟨by decide, by decide⟩, by decide +kernel⟩
theorem mr_J3_133 : MRefS RJ3 133 yJ17_max cJ17_max 2 (some .int) 2 := ⟨q1002, q481, q112, q482, ⟨by decide, by decide⟩, by decide +kernel⟩
theorem mr_J3_59 : MRefS RJ3 59 yJ18_copyOf_4 cJ18_copyOf_4 3 (some (.array .long)) 2 := ⟨q1003, q1004, q113, q1005, ⟨by decide, by decide⟩, by decide +kernel⟩
theorem mr_J3_56 : MRefV RJ3 56 yJ3_checkInvariants cJ3_checkInvariants 1 none 0 := ⟨q1012, q1014, qs10, q96, q1015, ⟨by decide, by decide⟩, by decide +kernel⟩
theorem cr_J3_33 : CRef RJ3 33 13 4 [.null, .int 0, .int 0, .int 0] := ⟨RJ6, TJ6, tyJ6, rfl, in_J6, q1080, q275, q99, tyJ6_ok, fun j hj => match j, hj with | 0, _ => rfl | 1, _ => rfl | 2, _ => rfl | 3, _ => rfl | j + 4, hj => absurd hj (by omega)⟩
theorem mr_J3_35 : MRefI RJ3 35 yJ6_init cJ6_init 1 0 := ⟨q1081, q277, rfl, q99, q278, ⟨by decide, by decide⟩, by decide +kernel⟩
theorem mr_J3_38 : MRefV RJ3 38 yJ6_append cJ6_append 2 (some (.object "java/lang/StringBuilder")) 1 := ⟨q1083, q459, q460, q99, q461, ⟨by decide, by decide⟩, by decide +kernel⟩
theorem mr_J3_42 : MRefV RJ3 42 yJ6_append_2 cJ6_append_2 2 (some (.object "java/lang/StringBuilder")) 1 := ⟨q1084, q579, q580, q99, q581, ⟨by decide, by decide⟩, by decide +kernel⟩
theorem mr_J3_45 : MRefV RJ3 45 yJ6_toString cJ6_toString 1 (some (.object "java/lang/String")) 0 := ⟨q1085, q610, q611, q99, q612, ⟨by decide, by decide⟩, by decide +kernel⟩
theorem mr_J3_146 : MRefI RJ3 146 yJ15_init cJ15_init 2 1 := ⟨q1086, q710, rfl, q110, q711, ⟨by decide, by decide⟩, by decide +kernel⟩
theorem mr_J3_155 : MRefV RJ3 155 yJ3_expandTo cJ3_expandTo 3 none 1 := ⟨q1091, q1093, qs11, q96, q1094, ⟨by decide, by decide⟩, by decide +kernel⟩
theorem mr_J3_196 : MRefS RJ3 196 yJ37_bitCount cJ37_bitCount 2 (some .int) 1 := ⟨q1425, q1426, q140, q1427, ⟨by decide, by decide⟩, by decide +kernel⟩
theorem mr_J4_42 : MRefI RJ4 42 yJ0_init cJ0_init 1 0 := ⟨q261, q164, rfl, q93, q165, ⟨by decide, by decide⟩, by decide +kernel⟩
theorem fr_J4_3 : FRef RJ4 3 12 0 (.array (.object "java/lang/Object")) false := ⟨RJ4, TJ4, 3, _, tyJ4, rfl, in_J4, by decide, q264, fun _ _ _ _ h9 => h9, tyJ4_ok, nmJ4, rfl, rfl, (fun h9 => nomatch h9)⟩
theorem fr_J4_24 : FRef RJ4 24 12 1 .int false := ⟨RJ4, TJ4, 3, _, tyJ4, rfl, in_J4, by decide, q265, fun _ _ _ _ h9 => h9, tyJ4_ok, nmJ4, rfl, rfl, (fun h9 => nomatch h9)⟩
theorem fr_J4_20 : FRef RJ4 20 12 2 .int false := ⟨RJ4, TJ4, 3, _, tyJ4, rfl, in_J4, by decide, q266, fun _ _ _ _ h9 => h9, tyJ4_ok, nmJ4, rfl, rfl, (fun h9 => nomatch h9)⟩
theorem mr_J4_127 : MRefS RJ4 127 yJ4_sub cJ4_sub 3 (some .int) 3 := ⟨q1265, q1266, q97, q1267, ⟨by decide, by decide⟩, by decide +kernel⟩
theorem mr_J4_93 : MRefV RJ4 93 yJ4_pollFirst cJ4_pollFirst 4 (some (.object "java/lang/Object")) 0 := ⟨q1279, q1280, q1281, q97, q1282, ⟨by decide, by decide⟩, by decide +kernel⟩
theorem mr_J4_103 : MRefS RJ4 103 yJ4_elementAt cJ4_elementAt 2 (some (.object "java/lang/Object")) 2 := ⟨q1283, q1284, q97, q1285, ⟨by decide, by decide⟩, by decide +kernel⟩
theorem mr_J4_74 : MRefS RJ4 74 yJ4_inc cJ4_inc 2 (some .int) 2 := ⟨q1286, q1287, q97, q1288, ⟨by decide, by decide⟩, by decide +kernel⟩
theorem mr_J4_99 : MRefI RJ4 99 yJ25_init cJ25_init 1 0 := ⟨q1298, q1299, rfl, q125, q1300, ⟨by decide, by decide⟩, by decide +kernel⟩
theorem mr_J4_71 : MRefV RJ4 71 yJ4_grow cJ4_grow 9 none 1 := ⟨q1324, q1326, qs26, q97, q1327, ⟨by decide, by decide⟩, by decide +kernel⟩
theorem mr_J4_10 : MRefV RJ4 10 yJ4_newCapacity cJ4_newCapacity 5 (some .int) 2 := ⟨q1329, q1331, qs27, q97, q1332, ⟨by decide, by decide⟩, by decide +kernel⟩
theorem mr_J4_37 : MRefI RJ4 37 yJ26_init cJ26_init 2 1 := ⟨q1343, q1344, rfl, q126, q1345, ⟨by decide, by decide⟩, by decide +kernel⟩
theorem mr_J4_14 : MRefS RJ4 14 yJ18_copyOf_2 cJ18_copyOf_2 2 (some (.array (.object "java/lang/Object"))) 2 := ⟨q1350, q829, q113, q830, ⟨by decide, by decide⟩, by decide +kernel⟩
theorem mr_J4_100 : MRefV RJ4 100 yJ4_pollLast cJ4_pollLast 4 (some (.object "java/lang/Object")) 0 := ⟨q2017, q2018, q2019, q97, q2020, ⟨by decide, by decide⟩, by decide +kernel⟩
theorem mr_J4_68 : MRefS RJ4 68 yJ4_dec cJ4_dec 2 (some .int) 2 := ⟨q2021, q2022, q97, q2023, ⟨by decide, by decide⟩, by decide +kernel⟩
theorem mr_J4_181 : MRefS RJ4 181 yJ4_circularClear cJ4_circularClear 4 none 3 := ⟨q2048, q2049, q97, q2050, ⟨by decide, by decide⟩, by decide +kernel⟩
theorem mr_J24_1 : MRefI RJ24 1 yJ38_init cJ38_init 1 0 := ⟨q915, q147, rfl, q2539, q148, ⟨by decide, by decide⟩, by decide +kernel⟩
theorem fr_J24_7 : FRef RJ24 7 16 0 (.object "java/lang/Object") false := ⟨RJ24, TJ24, 3, _, tyJ24, rfl, in_J24, by decide, q916, fun _ _ _ _ h9 => h9, tyJ24_ok, nmJ24, rfl, rfl, (fun h9 => nomatch h9)⟩
theorem fr_J24_13 : FRef RJ24 13 16 1 (.object "java/util/LinkedList$Node") false := ⟨RJ24, TJ24, 3, _, tyJ24, rfl, in_J24, by decide, q918, fun _ _ _ _ h9 => h9, tyJ24_ok, nmJ24, rfl, rfl, (fun h9 => nomatch h9)⟩
theorem fr_J24_17 : FRef RJ24 17 16 2 (.object "java/util/LinkedList$Node") false := ⟨RJ24, TJ24, 3, _, tyJ24, rfl, in_J24, by decide, q920, fun _ _ _ _ h9 => h9, tyJ24_ok, nmJ24, rfl, rfl, (fun h9 => nomatch h9)⟩
theorem fr_J30_33 : FRef RJ30 33 15 0 .int false := ⟨RJ30, TJ30, 4, _, tyJ30, rfl, in_J30, by decide, q172, fun s args ht x h9 => u_same (ht _ q173) x h9, tyJ30_ok, nmJ30, rfl, rfl, (fun h9 => nomatch h9)⟩
theorem mr_J30_90 : MRefV RJ30 90 yJ30_checkElementIndex cJ30_checkElementIndex 2 none 1 := ⟨q725, q727, qs3, q131, q729, ⟨by decide, by decide⟩, by decide +kernel⟩
theorem mr_J30_115 : MRefV RJ30 115 yJ30_isElementIndex cJ30_isElementIndex 2 (some .boolean) 1 := ⟨q730, q732, qs4, q131, q733, ⟨by decide, by decide⟩, by decide +kernel⟩
theorem mr_J30_121 : MRefV RJ30 121 yJ30_outOfBoundsMsg cJ30_outOfBoundsMsg 2 (some (.object "java/lang/String")) 1 := ⟨q735, q737, qs5, q131, q738, ⟨by decide, by decide⟩, by decide +kernel⟩
theorem cr_J30_97 : CRef RJ30 97 13 4 [.null, .int 0, .int 0, .int 0] := ⟨RJ6, TJ6, tyJ6, rfl, in_J6, q739, q275, q99, tyJ6_ok, fun j hj => match j, hj with | 0, _ => rfl | 1, _ => rfl | 2, _ => rfl | 3, _ => rfl | j + 4, hj => absurd hj (by omega)⟩
theorem mr_J30_99 : MRefI RJ30 99 yJ6_init cJ6_init 1 0 := ⟨q740, q277, rfl, q99, q278, ⟨by decide, by decide⟩, by decide +kernel⟩
theorem mr_J30_102 : MRefV RJ30 102 yJ6_append cJ6_append 2 (some (.object "java/lang/StringBuilder")) 1 := ⟨q742, q459, q460, q99, q461, ⟨by decide, by decide⟩, by decide +kernel⟩
theorem mr_J30_106 : MRefV RJ30 106 yJ6_append_2 cJ6_append_2 2 (some (.object "java/lang/StringBuilder")) 1 := ⟨q743, q579, q580, q99, q581, ⟨by decide, by decide⟩, by decide +kernel⟩
theorem mr_J30_111 : MRefV RJ30 111 yJ6_toString cJ6_toString 1 (some (.object "java/lang/String")) 0 := ⟨q745, q610, q611, q99, q612, ⟨by decide, by decide⟩, by decide +kernel⟩
theorem mr_J30_125 : MRefI RJ30 125 yJ15_init cJ15_init 2 1 := ⟨q746, q710, rfl, q110, q711, ⟨by decide, by decide⟩, by decide +kernel⟩
theorem mr_J30_86 : MRefV RJ30 86 yJ30_node cJ30_node 4 (some (.object "java/util/LinkedList$Node")) 1 := ⟨q747, q748, q749, q131, q750, ⟨by decide, by decide⟩, by decide +kernel⟩
theorem mr_J30_57 : MRefV RJ30 57 yJ30_linkLast cJ30_linkLast 4 none 1 := ⟨q906, q907, q908, q131, q909, ⟨by decide, by decide⟩, by decide +kernel⟩
theorem cr_J30_22 : CRef RJ30 22 16 3 [.null, .null, .null] := ⟨RJ24, TJ24, tyJ24, rfl, in_J24, q910, q911, q120, tyJ24_ok, fun j hj => match j, hj with | 0, _ => rfl | 1, _ => rfl | 2, _ => rfl | j + 3, hj => absurd hj (by omega)⟩
theorem mr_J30_24 : MRefI RJ30 24 yJ24_init cJ24_init 4 3 := ⟨q912, q913, rfl, q120, q914, ⟨by decide, by decide⟩, by decide +kernel⟩
theorem fr_J30_39 : FRef RJ30 39 16 0 (.object "java/lang/Object") false := ⟨RJ24, TJ24, 3, _, tyJ24, rfl, in_J24, by decide, q917, fun _ _ _ _ h9 => h9, tyJ24_ok, nmJ24, rfl, rfl, (fun h9 => nomatch h9)⟩
theorem fr_J30_36 : FRef RJ30 36 16 1 (.object "java/util/LinkedList$Node") false := ⟨RJ24, TJ24, 3, _, tyJ24, rfl, in_J24, by decide, q919, fun _ _ _ _ h9 => h9, tyJ24_ok, nmJ24, rfl, rfl, (fun h9 => nomatch h9)⟩
theorem fr_J30_30 : FRef RJ30 30 16 2 (.object "java/util/LinkedList$Node") false := ⟨RJ24, TJ24, 3, _, tyJ24, rfl, in_J24, by decide, q921, fun _ _ _ _ h9 => h9, tyJ24_ok, nmJ24, rfl, rfl, (fun h9 => nomatch h9)⟩
theorem mr_J30_45 : MRefI RJ30 45 yJ25_init cJ25_init 1 0 := ⟨q1310, q1299, rfl, q125, q1300, ⟨by decide, by decide⟩, by decide +kernel⟩
theorem mr_J30_46 : MRefV RJ30 46 yJ30_unlinkFirst cJ30_unlinkFirst 4 (some (.object "java/lang/Object")) 1 := ⟨q1311, q1313, qs25, q131, q1314, ⟨by decide, by decide⟩, by decide +kernel⟩
theorem mr_J30_1 : MRefI RJ30 1 yJ29_init cJ29_init 1 0 := ⟨q1752, q1753, rfl, q130, q1754, ⟨by decide, by decide⟩, by decide +kernel⟩
theorem fr_J30_7 : FRef RJ30 7 15 1 .int false := ⟨RJ30, TJ30, 4, _, tyJ30, rfl, in_J30, by decide, q1756, fun _ _ _ _ h9 => h9, tyJ30_ok, nmJ30, rfl, rfl, (fun h9 => nomatch h9)⟩
theorem fr_J30_18 : FRef RJ30 18 15 2 (.object "java/util/LinkedList$Node") false := ⟨RJ30, TJ30, 4, _, tyJ30, rfl, in_J30, by decide, q1757, fun _ _ _ _ h9 => h9, tyJ30_ok, nmJ30, rfl, rfl, (fun h9 => nomatch h9)⟩
theorem fr_J30_27 : FRef RJ30 27 15 3 (.object "java/util/LinkedList$Node") false := ⟨RJ30, TJ30, 4, _, tyJ30, rfl, in_J30, by decide, q1758, fun _ _ _ _ h9 => h9, tyJ30_ok, nmJ30, rfl, rfl, (fun h9 => nomatch h9)⟩
theorem mr_J30_50 : MRefV RJ30 50 yJ30_unlinkLast cJ30_unlinkLast 4 (some (.object "java/lang/Object")) 1 := ⟨q2029, q2031, qs41, q131, q2032, ⟨by decide, by decide⟩, by decide +kernel⟩
theorem mr_J0_1 : MRefI RJ0 1 yJ38_init cJ38_init 1 0 := ⟨q166, q147, rfl, q2539, q148, ⟨by decide, by decide⟩, by decide +kernel⟩
theorem mr_J1_1 : MRefI RJ1 1 yJ0_init cJ0_init 1 0 := ⟨q163, q164, rfl, q93, q165, ⟨by decide, by decide⟩, by decide +kernel⟩
theorem fr_J1_7 : FRef RJ1 7 10 0 .int false := ⟨RJ2, TJ2, 3, _, tyJ2, rfl, in_J2, by decide, q171, fun _ _ _ _ h9 => h9, tyJ2_ok, nmJ2, rfl, rfl, (fun h9 => nomatch h9)⟩
theorem mr_J5_3 : MRefI RJ5 3 yJ38_init cJ38_init 1 0 := ⟨q282, q147, rfl, q2539, q148, ⟨by decide, by decide⟩, by decide +kernel⟩
theorem mr_J5_26 : MRefS RJ5 26 yJ8_newBytesFor cJ8_newBytesFor 1 (some (.array .byte)) 1 := ⟨q285, q286, q101, q287, ⟨by decide, by decide⟩, by decide +kernel⟩
theorem fr_J5_15 : FRef RJ5 15 13 0 (.array .byte) false := ⟨RJ6, TJ6, 4, _, tyJ6, rfl, in_J6, by decide, q292, fun _ _ _ _ h9 => h9, tyJ6_ok, nmJ6, rfl, rfl, (fun h9 => nomatch h9)⟩
theorem fr_J5_22 : FRef RJ5 22 13 1 .byte false := ⟨RJ6, TJ6, 4, _, tyJ6, rfl, in_J6, by decide, q293, fun _ _ _ _ h9 => h9, tyJ6_ok, nmJ6, rfl, rfl, (fun h9 => nomatch h9)⟩
theorem fr_J5_73 : FRef RJ5 73 13 2 .boolean false := ⟨RJ6, TJ6, 4, _, tyJ6, rfl, in_J6, by decide, q294, fun _ _ _ _ h9 => h9, tyJ6_ok, nmJ6, rfl, rfl, (fun h9 => nomatch h9)⟩
theorem fr_J5_79 : FRef RJ5 79 13 3 .int false := ⟨RJ6, TJ6, 4, _, tyJ6, rfl, in_J6, by decide, q296, fun _ _ _ _ h9 => h9, tyJ6_ok, nmJ6, rfl, rfl, (fun h9 => nomatch h9)⟩
theorem mr_J5_114 : MRefS RJ5 114 yJ16_newLength cJ16_newLength 4 (some .int) 3 := ⟨q477, q478, q111, q479, ⟨by decide, by decide⟩, by decide +kernel⟩
theorem mr_J5_108 : MRefS RJ5 108 yJ18_copyOf cJ18_copyOf 3 (some (.array .byte)) 2 := ⟨q488, q489, q113, q490, ⟨by decide, by decide⟩, by decide +kernel⟩
theorem mr_J5_226 : MRefS RJ5 226 yJ8_putCharsAt cJ8_putCharsAt 7 (some .int) 6 := ⟨q509, q510, q101, q511, ⟨by decide, by decide⟩, by decide +kernel⟩
theorem mr_J5_32 : MRefV RJ5 32 yJ7_length cJ7_length 1 (some .int) 0 := ⟨q535, q536, q537, q100, q538, ⟨by decide, by decide⟩, by decide +kernel⟩
theorem mr_J5_40 : MRefV RJ5 40 yJ7_coder cJ7_coder 1 (some .byte) 0 := ⟨q552, q540, q541, q100, q542, ⟨by decide, by decide⟩, by decide +kernel⟩
theorem mr_J5_125 : MRefS RJ5 125 yJ19_inflate cJ19_inflate 5 none 5 := ⟨q557, q558, q115, q559, ⟨by decide, by decide⟩, by decide +kernel⟩
theorem mr_J5_399 : MRefV RJ5 399 yJ7_getBytes cJ7_getBytes 4 none 3 := ⟨q572, q573, q574, q100, q575, ⟨by decide, by decide⟩, by decide +kernel⟩
theorem mr_J5_245 : MRefS RJ5 245 yJ21_stringSize cJ21_stringSize 4 (some .int) 1 := ⟨q585, q586, q117, q587, ⟨by decide, by decide⟩, by decide +kernel⟩
theorem mr_J5_248 : MRefS RJ5 248 yJ21_getChars cJ21_getChars 7 (some .int) 3 := ⟨q588, q589, q117, q590, ⟨by decide, by decide⟩, by decide +kernel⟩
theorem mr_J5_251 : MRefS RJ5 251 yJ8_getChars cJ8_getChars 5 (some .int) 4 := ⟨q595, q596, q101, q597, ⟨by decide, by decide⟩, by decide +kernel⟩
theorem mr_J5_191 : MRefS RJ5 191 yJ19_canEncode cJ19_canEncode 1 (some .boolean) 1 := ⟨q1399, q1400, q115, q1401, ⟨by decide, by decide⟩, by decide +kernel⟩
theorem mr_J5_197 : MRefS RJ5 197 yJ8_putCharSB cJ8_putCharSB 3 none 3 := ⟨q1402, q1403, q101, q1404, ⟨by decide, by decide⟩, by decide +kernel⟩
theorem mr_J5_131 : MRefI RJ5 131 yJ28_init cJ28_init 2 1 := ⟨q1701, q1702, rfl, q129, q1703, ⟨by decide, by decide⟩, by decide +kernel⟩
theorem mr_J5_133 : MRefS RJ5 133 yJ19_fillNull cJ19_fillNull 3 none 3 := ⟨q1718, q1719, q115, q1720, ⟨by decide, by decide⟩, by decide +kernel⟩
theorem mr_J5_137 : MRefS RJ5 137 yJ8_fillNull cJ8_fillNull 3 none 3 := ⟨q1740, q1741, q101, q1742, ⟨by decide, by decide⟩, by decide +kernel⟩
theorem mr_J6_1 : MRefI RJ6 1 yJ5_init cJ5_init 2 1 := ⟨q279, q280, rfl, q98, q281, ⟨by decide, by decide⟩, by decide +kernel⟩
theorem cr_J6_18 : CRef RJ6 18 14 4 [.null, .int 0, .int 0, .int 0] := ⟨RJ7, TJ7, tyJ7, rfl, in_J7, q613, q614, q100, tyJ7_ok, fun j hj => match j, hj with | 0, _ => rfl | 1, _ => rfl | 2, _ => rfl | 3, _ => rfl | j + 4, hj => absurd hj (by omega)⟩
theorem mr_J6_137 : MRefI RJ6 137 yJ7_init cJ7_init 2 1 := ⟨q615, q616, rfl, q100, q617, ⟨by decide, by decide⟩, by decide +kernel⟩
theorem fr_J7_1048 : FRef RJ7 1048 13 2 .boolean false := ⟨RJ6, TJ6, 4, _, tyJ6, rfl, in_J6, by decide, q295, fun _ _ _ _ h9 => h9, tyJ6_ok, nmJ6, rfl, rfl, (fun h9 => nomatch h9)⟩
theorem mr_J7_1062 : MRefS RJ7 1062 yJ11_checkFromToIndex cJ11_checkFromToIndex 4 (some .int) 4 := ⟨q523, q524, q106, q525, ⟨by decide, by decide⟩, by decide +kernel⟩
theorem mr_J7_335 : MRefV RJ7 335 yJ7_coder cJ7_coder 1 (some .byte) 0 := ⟨q539, q540, q541, q100, q542, ⟨by decide, by decide⟩, by decide +kernel⟩
theorem mr_J7_1065 : MRefS RJ7 1065 yJ11_checkFromIndexSize cJ11_checkFromIndexSize 4 (some .int) 4 := ⟨q569, q570, q106, q571, ⟨by decide, by decide⟩, by decide +kernel⟩
theorem mr_J7_106 : MRefS RJ7 106 yJ19_inflate cJ19_inflate 5 none 5 := ⟨q577, q558, q115, q559, ⟨by decide, by decide⟩, by decide +kernel⟩
theorem mr_J7_489 : MRefI RJ7 489 yJ7_init_2 cJ7_init_2 5 2 := ⟨q618, q619, rfl, q100, q620, ⟨by decide, by decide⟩, by decide +kernel⟩
theorem mr_J7_1 : MRefI RJ7 1 yJ38_init cJ38_init 1 0 := ⟨q621, q147, rfl, q2539, q148, ⟨by decide, by decide⟩, by decide +kernel⟩
theorem mr_J7_54 : MRefS RJ7 54 yJ18_copyOfRange cJ18_copyOfRange 3 (some (.array .byte)) 3 := ⟨q636, q637, q113, q638, ⟨by decide, by decide⟩, by decide +kernel⟩
theorem mr_J7_1051 : MRefS RJ7 1051 yJ8_compress cJ8_compress 6 (some (.array .byte)) 3 := ⟨q685, q686, q101, q687, ⟨by decide, by decide⟩, by decide +kernel⟩
theorem mr_J7_47 : MRefS RJ7 47 yJ8_coderFromArrayLen cJ8_coderFromArrayLen 2 (some .byte) 2 := ⟨q695, q696, q101, q697, ⟨by decide, by decide⟩, by decide +kernel⟩
theorem fr_J7_9 : FRef RJ7 9 14 0 (.array .byte) true := ⟨RJ7, TJ7, 4, _, tyJ7, rfl, in_J7, by decide, q698, fun _ _ _ _ h9 => h9, tyJ7_ok, nmJ7, rfl, rfl, (fun _ => rfl)⟩
theorem fr_J7_15 : FRef RJ7 15 14 1 .byte true := ⟨RJ7, TJ7, 4, _, tyJ7, rfl, in_J7, by decide, q699, fun _ _ _ _ h9 => h9, tyJ7_ok, nmJ7, rfl, rfl, (fun _ => rfl)⟩
theorem mr_J7_1059 : MRefS RJ7 1059 yJ11_checkIndex cJ11_checkIndex 3 (some .int) 3 := ⟨q1411, q390, q106, q391, ⟨by decide, by decide⟩, by decide +kernel⟩
theorem mr_J7_492 : MRefV RJ7 492 yJ7_isLatin1 cJ7_isLatin1 1 (some .boolean) 0 := ⟨q1784, q1785, q1786, q100, q1787, ⟨by decide, by decide⟩, by decide +kernel⟩
theorem mr_J7_495 : MRefS RJ7 495 yJ19_charAt cJ19_charAt 2 (some .char) 2 := ⟨q1788, q1789, q115, q1790, ⟨by decide, by decide⟩, by decide +kernel⟩
theorem mr_J7_498 : MRefS RJ7 498 yJ8_charAt cJ8_charAt 2 (some .char) 2 := ⟨q1792, q1793, q101, q1794, ⟨by decide, by decide⟩, by decide +kernel⟩
theorem mr_J8_11 : MRefS RJ8 11 yJ8_newBytesLength cJ8_newBytesLength 1 (some .int) 1 := ⟨q288, q289, q101, q290, ⟨by decide, by decide⟩, by decide +kernel⟩
theorem mr_J8_96 : MRefS RJ8 96 yJ8_checkBoundsBeginEnd cJ8_checkBoundsBeginEnd 3 none 3 := ⟨q512, q513, q101, q514, ⟨by decide, by decide⟩, by decide +kernel⟩
theorem mr_J8_48 : MRefS RJ8 48 yJ8_length cJ8_length 1 (some .int) 1 := ⟨q515, q516, q101, q517, ⟨by decide, by decide⟩, by decide +kernel⟩
theorem mr_J8_241 : MRefS RJ8 241 yJ7_checkBoundsBeginEnd cJ7_checkBoundsBeginEnd 3 none 3 := ⟨q518, q519, q100, q520, ⟨by decide, by decide⟩, by decide +kernel⟩
theorem mr_J8_111 : MRefS RJ8 111 yJ8_putChar cJ8_putChar 3 none 3 := ⟨q526, q527, q101, q528, ⟨by decide, by decide⟩, by decide +kernel⟩
theorem mr_J8_173 : MRefS RJ8 173 yJ8_checkBoundsOffCount cJ8_checkBoundsOffCount 3 none 3 := ⟨q563, q564, q101, q565, ⟨by decide, by decide⟩, by decide +kernel⟩
theorem mr_J8_419 : MRefS RJ8 419 yJ7_checkBoundsOffCount cJ7_checkBoundsOffCount 3 (some .int) 3 := ⟨q566, q567, q100, q568, ⟨by decide, by decide⟩, by decide +kernel⟩
theorem mr_J8_393 : MRefS RJ8 393 yJ8_getChars_2 cJ8_getChars_2 7 (some .int) 3 := ⟨q598, q599, q101, q600, ⟨by decide, by decide⟩, by decide +kernel⟩
theorem mr_J8_123 : MRefS RJ8 123 yJ8_compress_2 cJ8_compress_2 7 (some .int) 5 := ⟨q688, q689, q101, q690, ⟨by decide, by decide⟩, by decide +kernel⟩
theorem mr_J8_71 : MRefS RJ8 71 yJ8_getChar cJ8_getChar 2 (some .char) 2 := ⟨q691, q692, q101, q693, ⟨by decide, by decide⟩, by decide +kernel⟩
theorem mr_J8_126 : MRefS RJ8 126 yJ18_copyOfRange cJ18_copyOfRange 3 (some (.array .byte)) 3 := ⟨q694, q637, q113, q638, ⟨by decide, by decide⟩, by decide +kernel⟩
theorem mr_J8_67 : MRefS RJ8 67 yJ8_checkIndex cJ8_checkIndex 2 none 2 := ⟨q1405, q1406, q101, q1407, ⟨by decide, by decide⟩, by decide +kernel⟩
theorem mr_J8_414 : MRefS RJ8 414 yJ7_checkIndex cJ7_checkIndex 2 none 2 := ⟨q1408, q1409, q100, q1410, ⟨by decide, by decide⟩, by decide +kernel⟩
theorem mr_J8_380 : MRefS RJ8 380 yJ18_fill cJ18_fill 5 none 4 := ⟨q1743, q1722, q113, q1723, ⟨by decide, by decide⟩, by decide +kernel⟩
theorem mr_J9_9 : MRefI RJ9 9 yJ23_init cJ23_init 1 0 := ⟨q887, q888, rfl, q119, q889, ⟨by decide, by decide⟩, by decide +kernel⟩
theorem mr_J9_37 : MRefS RJ9 37 yJ10_requireNonNull cJ10_requireNonNull 1 (some (.object "java/lang/Object")) 1 := ⟨q1892, q1893, q105, q1894, ⟨by decide, by decide⟩, by decide +kernel⟩
theorem mr_J9_64 : MRefI RJ9 64 yJ34_init cJ34_init 2 1 := ⟨q1899, q1900, rfl, q137, q1901, ⟨by decide, by decide⟩, by decide +kernel⟩
theorem mr_J9_67 : MRefI RJ9 67 yJ34_init_2 cJ34_init_2 3 2 := ⟨q1917, q1918, rfl, q137, q1919, ⟨by decide, by decide⟩, by decide +kernel⟩
theorem cr_J9_12 : CRef RJ9 12 18 2 [.null, .int 0] := ⟨RJ35, TJ35, tyJ35, rfl, in_J35, q1920, q1921, q138, tyJ35_ok, fun j hj => match j, hj with | 0, _ => rfl | 1, _ => rfl | j + 2, hj => absurd hj (by omega)⟩
theorem mr_J10_105 : MRefS RJ10 105 yJ11_checkIndex cJ11_checkIndex 3 (some .int) 3 := ⟨q389, q390, q106, q391, ⟨by decide, by decide⟩, by decide +kernel⟩
theorem fr_J12_198 : FRef RJ12 198 7 4 (.object "java/lang/Object") false := ⟨RX8, TX8, 8, _, tyX8, rfl, in_X8, by decide, q672, fun _ _ _ _ h9 => h9, tyX8_ok, nmX8, rfl, rfl, (fun h9 => nomatch h9)⟩
theorem mr_J12_1 : MRefI RJ12 1 yJ38_init cJ38_init 1 0 := ⟨q432, q147, rfl, q2539, q148, ⟨by decide, by decide⟩, by decide +kernel⟩
theorem fr_J12_31 : FRef RJ12 31 7 3 (.object "java/lang/String") false := ⟨RX8, TX8, 8, _, tyX8, rfl, in_X8, by decide, q673, fun _ _ _ _ h9 => h9, tyX8_ok, nmX8, rfl, rfl, (fun h9 => nomatch h9)⟩
theorem fr_J12_7 : FRef RJ12 7 7 0 (.object "java/lang/Throwable") false := ⟨RX8, TX8, 8, _, tyX8, rfl, in_X8, by decide, q674, fun _ _ _ _ h9 => h9, tyX8_ok, nmX8, rfl, rfl, (fun h9 => nomatch h9)⟩
theorem fr_J12_17 : FRef RJ12 17 7 1 (.array (.object "java/lang/StackTraceElement")) false := ⟨RX8, TX8, 8, _, tyX8, rfl, in_X8, by decide, q675, fun _ _ _ _ h9 => h9, tyX8_ok, nmX8, rfl, rfl, (fun h9 => nomatch h9)⟩
theorem fr_J12_24 : FRef RJ12 24 7 2 (.object "java/util/List") false := ⟨RX8, TX8, 8, _, tyX8, rfl, in_X8, by decide, q676, fun _ _ _ _ h9 => h9, tyX8_ok, nmX8, rfl, rfl, (fun h9 => nomatch h9)⟩
theorem mr_J13_7 : MRefI RJ13 7 yJ12_init_2 cJ12_init_2 2 1 := ⟨q669, q670, rfl, q107, q671, ⟨by decide, by decide⟩, by decide +kernel⟩
theorem mr_J13_1 : MRefI RJ13 1 yJ12_init cJ12_init 1 0 := ⟨q896, q430, rfl, q107, q431, ⟨by decide, by decide⟩, by decide +kernel⟩
theorem mr_J14_7 : MRefI RJ14 7 yJ13_init cJ13_init 2 1 := ⟨q666, q667, rfl, q108, q668, ⟨by decide, by decide⟩, by decide +kernel⟩
theorem mr_J14_1 : MRefI RJ14 1 yJ13_init_2 cJ13_init_2 1 0 := ⟨q893, q894, rfl, q108, q895, ⟨by decide, by decide⟩, by decide +kernel⟩
theorem mr_J15_7 : MRefI RJ15 7 yJ14_init cJ14_init 2 1 := ⟨q712, q664, rfl, q109, q665, ⟨by decide, by decide⟩, by decide +kernel⟩
theorem mr_J15_1 : MRefI RJ15 1 yJ14_init_2 cJ14_init_2 1 0 := ⟨q1534, q891, rfl, q109, q892, ⟨by decide, by decide⟩, by decide +kernel⟩
theorem mr_J16_194 : MRefS RJ16 194 yJ17_max cJ17_max 2 (some .int) 2 := ⟨q480, q481, q112, q482, ⟨by decide, by decide⟩, by decide +kernel⟩
theorem mr_J16_201 : MRefS RJ16 201 yJ16_hugeLength cJ16_hugeLength 3 (some .int) 2 := ⟨q484, q485, q111, q486, ⟨by decide, by decide⟩, by decide +kernel⟩
theorem mr_J18_304 : MRefS RJ18 304 yJ17_min cJ17_min 2 (some .int) 2 := ⟨q498, q499, q112, q500, ⟨by decide, by decide⟩, by decide +kernel⟩
theorem mr_J18_339 : MRefS RJ18 339 yJ18_copyOfRangeByte cJ18_copyOfRangeByte 5 (some (.array .byte)) 3 := ⟨q639, q640, q113, q641, ⟨by decide, by decide⟩, by decide +kernel⟩
theorem mr_J18_343 : MRefS RJ18 343 yJ18_checkLength cJ18_checkLength 2 none 2 := ⟨q642, q643, q113, q644, ⟨by decide, by decide⟩, by decide +kernel⟩
theorem cr_J18_45 : CRef RJ18 45 13 4 [.null, .int 0, .int 0, .int 0] := ⟨RJ6, TJ6, tyJ6, rfl, in_J6, q654, q275, q99, tyJ6_ok, fun j hj => match j, hj with | 0, _ => rfl | 1, _ => rfl | 2, _ => rfl | 3, _ => rfl | j + 4, hj => absurd hj (by omega)⟩
theorem mr_J18_47 : MRefI RJ18 47 yJ6_init cJ6_init 1 0 := ⟨q655, q277, rfl, q99, q278, ⟨by decide, by decide⟩, by decide +kernel⟩
theorem mr_J18_54 : MRefV RJ18 54 yJ6_append_2 cJ6_append_2 2 (some (.object "java/lang/StringBuilder")) 1 := ⟨q656, q579, q580, q99, q581, ⟨by decide, by decide⟩, by decide +kernel⟩
theorem mr_J18_50 : MRefV RJ18 50 yJ6_append cJ6_append 2 (some (.object "java/lang/StringBuilder")) 1 := ⟨q658, q459, q460, q99, q461, ⟨by decide, by decide⟩, by decide +kernel⟩
theorem mr_J18_61 : MRefV RJ18 61 yJ6_toString cJ6_toString 1 (some (.object "java/lang/String")) 0 := ⟨q659, q610, q611, q99, q612, ⟨by decide, by decide⟩, by decide +kernel⟩
theorem mr_J18_65 : MRefI RJ18 65 yJ22_init cJ22_init 2 1 := ⟨q660, q661, rfl, q118, q662, ⟨by decide, by decide⟩, by decide +kernel⟩
theorem mr_J18_300 : MRefS RJ18 300 yJ18_copyOf_3 cJ18_copyOf_3 4 (some (.array (.object "java/lang/Object"))) 3 := ⟨q863, q864, q113, q865, ⟨by decide, by decide⟩, by decide +kernel⟩
theorem mr_J18_13 : MRefS RJ18 13 yJ18_rangeCheck cJ18_rangeCheck 3 none 3 := ⟨q1724, q1725, q113, q1726, ⟨by decide, by decide⟩, by decide +kernel⟩
theorem mr_J18_70 : MRefI RJ18 70 yJ27_init_2 cJ27_init_2 2 1 := ⟨q1731, q1732, rfl, q127, q1733, ⟨by decide, by decide⟩, by decide +kernel⟩
theorem mr_J19_240 : MRefS RJ19 240 yJ8_inflate cJ8_inflate 6 none 5 := ⟨q560, q561, q101, q562, ⟨by decide, by decide⟩, by decide +kernel⟩
theorem mr_J19_236 : MRefS RJ19 236 yJ18_fill cJ18_fill 5 none 4 := ⟨q1721, q1722, q113, q1723, ⟨by decide, by decide⟩, by decide +kernel⟩
theorem mr_J19_9 : MRefS RJ19 9 yJ7_checkIndex cJ7_checkIndex 2 none 2 := ⟨q1791, q1409, q100, q1410, ⟨by decide, by decide⟩, by decide +kernel⟩
theorem mr_J20_1 : MRefI RJ20 1 yJ38_init cJ38_init 1 0 := ⟨q1876, q147, rfl, q2539, q148, ⟨by decide, by decide⟩, by decide +kernel⟩
theorem cr_J21_1 : CRef RJ21 1 17 1 [.int 0] := ⟨RJ21, TJ21, tyJ21, rfl, in_J21, q1868, q1869, q117, tyJ21_ok, fun j hj => match j, hj with | 0, _ => rfl | j + 1, hj => absurd hj (by omega)⟩
theorem mr_J21_199 : MRefI RJ21 199 yJ21_init cJ21_init 2 1 := ⟨q1870, q1871, rfl, q117, q1872, ⟨by decide, by decide⟩, by decide +kernel⟩
theorem mr_J21_202 : MRefI RJ21 202 yJ20_init cJ20_init 1 0 := ⟨q1873, q1874, rfl, q116, q1875, ⟨by decide, by decide⟩, by decide +kernel⟩
theorem fr_J21_205 : FRef RJ21 205 17 0 .int true := ⟨RJ21, TJ21, 1, _, tyJ21, rfl, in_J21, by decide, q1877, fun _ _ _ _ h9 => h9, tyJ21_ok, nmJ21, rfl, rfl, (fun _ => rfl)⟩
theorem mr_J22_7 : MRefI RJ22 7 yJ14_init cJ14_init 2 1 := ⟨q663, q664, rfl, q109, q665, ⟨by decide, by decide⟩, by decide +kernel⟩
theorem mr_J22_1 : MRefI RJ22 1 yJ14_init_2 cJ14_init_2 1 0 := ⟨q1540, q891, rfl, q109, q892, ⟨by decide, by decide⟩, by decide +kernel⟩
theorem mr_J23_1 : MRefI RJ23 1 yJ14_init_2 cJ14_init_2 1 0 := ⟨q890, q891, rfl, q109, q892, ⟨by decide, by decide⟩, by decide +kernel⟩
theorem mr_J25_1 : MRefI RJ25 1 yJ14_init_2 cJ14_init_2 1 0 := ⟨q1301, q891, rfl, q109, q892, ⟨by decide, by decide⟩, by decide +kernel⟩
theorem mr_J26_7 : MRefI RJ26 7 yJ14_init cJ14_init 2 1 := ⟨q1346, q664, rfl, q109, q665, ⟨by decide, by decide⟩, by decide +kernel⟩
theorem mr_J26_1 : MRefI RJ26 1 yJ14_init_2 cJ14_init_2 1 0 := ⟨q1606, q891, rfl, q109, q892, ⟨by decide, by decide⟩, by decide +kernel⟩
theorem mr_J27_7 : MRefI RJ27 7 yJ15_init cJ15_init 2 1 := ⟨q1506, q710, rfl, q110, q711, ⟨by decide, by decide⟩, by decide +kernel⟩
theorem cr_J27_10 : CRef RJ27 10 13 4 [.null, .int 0, .int 0, .int 0] := ⟨RJ6, TJ6, tyJ6, rfl, in_J6, q1734, q275, q99, tyJ6_ok, fun j hj => match j, hj with | 0, _ => rfl | 1, _ => rfl | 2, _ => rfl | 3, _ => rfl | j + 4, hj => absurd hj (by omega)⟩
theorem mr_J27_12 : MRefI RJ27 12 yJ6_init cJ6_init 1 0 := ⟨q1735, q277, rfl, q99, q278, ⟨by decide, by decide⟩, by decide +kernel⟩
theorem mr_J27_15 : MRefV RJ27 15 yJ6_append cJ6_append 2 (some (.object "java/lang/StringBuilder")) 1 := ⟨q1737, q459, q460, q99, q461, ⟨by decide, by decide⟩, by decide +kernel⟩
theorem mr_J27_19 : MRefV RJ27 19 yJ6_append_2 cJ6_append_2 2 (some (.object "java/lang/StringBuilder")) 1 := ⟨q1738, q579, q580, q99, q581, ⟨by decide, by decide⟩, by decide +kernel⟩
theorem mr_J27_22 : MRefV RJ27 22 yJ6_toString cJ6_toString 1 (some (.object "java/lang/String")) 0 := ⟨q1739, q610, q611, q99, q612, ⟨by decide, by decide⟩, by decide +kernel⟩
theorem cr_J28_10 : CRef RJ28 10 13 4 [.null, .int 0, .int 0, .int 0] := ⟨RJ6, TJ6, tyJ6, rfl, in_J6, q1704, q275, q99, tyJ6_ok, fun j hj => match j, hj with | 0, _ => rfl | 1, _ => rfl | 2, _ => rfl | 3, _ => rfl | j + 4, hj => absurd hj (by omega)⟩
theorem mr_J28_12 : MRefI RJ28 12 yJ6_init cJ6_init 1 0 := ⟨q1705, q277, rfl, q99, q278, ⟨by decide, by decide⟩, by decide +kernel⟩
theorem mr_J28_15 : MRefV RJ28 15 yJ6_append cJ6_append 2 (some (.object "java/lang/StringBuilder")) 1 := ⟨q1707, q459, q460, q99, q461, ⟨by decide, by decide⟩, by decide +kernel⟩
theorem mr_J28_19 : MRefV RJ28 19 yJ6_append_2 cJ6_append_2 2 (some (.object "java/lang/StringBuilder")) 1 := ⟨q1708, q579, q580, q99, q581, ⟨by decide, by decide⟩, by decide +kernel⟩
theorem mr_J28_22 : MRefV RJ28 22 yJ6_toString cJ6_toString 1 (some (.object "java/lang/String")) 0 := ⟨q1709, q610, q611, q99, q612, ⟨by decide, by decide⟩, by decide +kernel⟩
theorem mr_J28_7 : MRefI RJ28 7 yJ15_init cJ15_init 2 1 := ⟨q1710, q710, rfl, q110, q711, ⟨by decide, by decide⟩, by decide +kernel⟩
theorem mr_J29_1 : MRefI RJ29 1 yJ1_init cJ1_init 1 0 := ⟨q1755, q161, rfl, q94, q162, ⟨by decide, by decide⟩, by decide +kernel⟩
theorem mr_J31_105 : MRefS RJ31 105 yJ9_listFromTrustedArray cJ9_listFromTrustedArray 5 (some (.object "java/util/List")) 1 := ⟨q1885, q1886, q103, q1887, ⟨by decide, by decide⟩, by decide +kernel⟩
theorem mr_J32_7 : MRefS RJ32 7 yJ9_uoe cJ9_uoe 0 (some (.object "java/lang/UnsupportedOperationException")) 0 := ⟨q875, q876, q103, q877, ⟨by decide, by decide⟩, by decide +kernel⟩
theorem mr_J32_1 : MRefI RJ32 1 yJ0_init cJ0_init 1 0 := ⟨q1908, q164, rfl, q93, q165, ⟨by decide, by decide⟩, by decide +kernel⟩
theorem cr_J33_31 : CRef RJ33 31 13 4 [.null, .int 0, .int 0, .int 0] := ⟨RJ6, TJ6, tyJ6, rfl, in_J6, q455, q275, q99, tyJ6_ok, fun j hj => match j, hj with | 0, _ => rfl | 1, _ => rfl | 2, _ => rfl | 3, _ => rfl | j + 4, hj => absurd hj (by omega)⟩
theorem mr_J33_33 : MRefI RJ33 33 yJ6_init cJ6_init 1 0 := ⟨q456, q277, rfl, q99, q278, ⟨by decide, by decide⟩, by decide +kernel⟩
theorem mr_J33_36 : MRefV RJ33 36 yJ6_append cJ6_append 2 (some (.object "java/lang/StringBuilder")) 1 := ⟨q458, q459, q460, q99, q461, ⟨by decide, by decide⟩, by decide +kernel⟩
theorem mr_J33_40 : MRefV RJ33 40 yJ6_append_2 cJ6_append_2 2 (some (.object "java/lang/StringBuilder")) 1 := ⟨q578, q579, q580, q99, q581, ⟨by decide, by decide⟩, by decide +kernel⟩
theorem mr_J33_43 : MRefV RJ33 43 yJ6_toString cJ6_toString 1 (some (.object "java/lang/String")) 0 := ⟨q609, q610, q611, q99, q612, ⟨by decide, by decide⟩, by decide +kernel⟩
theorem mr_J33_47 : MRefI RJ33 47 yJ15_init cJ15_init 2 1 := ⟨q709, q710, rfl, q110, q711, ⟨by decide, by decide⟩, by decide +kernel⟩
theorem mr_J33_1 : MRefI RJ33 1 yJ32_init cJ32_init 1 0 := ⟨q1905, q1906, rfl, q135, q1907, ⟨by decide, by decide⟩, by decide +kernel⟩
theorem mr_J34_1 : MRefI RJ34 1 yJ33_init cJ33_init 1 0 := ⟨q1902, q1903, rfl, q136, q1904, ⟨by decide, by decide⟩, by decide +kernel⟩
theorem mr_J34_7 : MRefS RJ34 7 yJ10_requireNonNull cJ10_requireNonNull 1 (some (.object "java/lang/Object")) 1 := ⟨q1909, q1893, q105, q1894, ⟨by decide, by decide⟩, by decide +kernel⟩
theorem mr_J35_1 : MRefI RJ35 1 yJ33_init cJ33_init 1 0 := ⟨q1925, q1903, rfl, q136, q1904, ⟨by decide, by decide⟩, by decide +kernel⟩
theorem fr_J35_7 : FRef RJ35 7 18 0 (.array (.object "java/lang/Object")) true := ⟨RJ35, TJ35, 2, _, tyJ35, rfl, in_J35, by decide, q1926, fun _ _ _ _ h9 => h9, tyJ35_ok, nmJ35, rfl, rfl, (fun _ => rfl)⟩
theorem fr_J35_13 : FRef RJ35 13 18 1 .boolean true := ⟨RJ35, TJ35, 2, _, tyJ35, rfl, in_J35, by decide, q1927, fun _ _ _ _ h9 => h9, tyJ35_ok, nmJ35, rfl, rfl, (fun _ => rfl)⟩
theorem mr_J36_7 : MRefI RJ36 7 yJ14_init cJ14_init 2 1 := ⟨q1953, q664, rfl, q109, q665, ⟨by decide, by decide⟩, by decide +kernel⟩
theorem mr_J36_1 : MRefI RJ36 1 yJ14_init_2 cJ14_init_2 1 0 := ⟨q1972, q891, rfl, q109, q892, ⟨by decide, by decide⟩, by decide +kernel⟩
