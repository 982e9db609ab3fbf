set_option maxRecDepth 100000
theorem cvX0_17 : XCV RX0 17 [0] yX1_edge cX1_edge 6 (some .int) 2 := ⟨Or.inl q1988, q1989, q1991, q117, ⟨by decide +kernel, by decide +kernel⟩, by decide +kernel, List.forall_mem_cons.mpr ⟨fun q hq => by have e : xcl[0]? = some (RX1, TX1, 10) := rfl; cases e.symm.trans hq; exact Or.inl q1990, fun _ h => nomatch h⟩⟩
theorem cvX0_7 : XCV RX0 7 [0] yX1_place cX1_place 6 (some .int) 2 := ⟨Or.inl q1974, q1975, q1977, q117, ⟨by decide +kernel, by decide +kernel⟩, by decide +kernel, List.forall_mem_cons.mpr ⟨fun q hq => by have e : xcl[0]? = some (RX1, TX1, 10) := rfl; cases e.symm.trans hq; exact Or.inl q1976, fun _ h => nomatch h⟩⟩
theorem ciX0_20 : XCI RX0 20 yX1_init cX1_init 1 0 := ⟨Or.inl q165, q166, q167, q117, ⟨by decide +kernel, by decide +kernel⟩, by decide +kernel, rfl⟩
theorem ciX0_23 : XCI RX0 23 yX4_init cX4_init 1 0 := ⟨Or.inl q1998, q1999, q2000, q125, ⟨by decide +kernel, by decide +kernel⟩, by decide +kernel, rfl⟩
theorem cvX0_250 : XCV RX0 250 [0] yX1_count cX1_count 2 (some .int) 1 := ⟨Or.inl q1965, q1966, q1968, q117, ⟨by decide +kernel, by decide +kernel⟩, by decide +kernel, List.forall_mem_cons.mpr ⟨fun q hq => by have e : xcl[0]? = some (RX1, TX1, 10) := rfl; cases e.symm.trans hq; exact Or.inl q1967, fun _ h => nomatch h⟩⟩
theorem cvX0_253 : XCV RX0 253 [3] yX4_count cX4_count 2 (some .int) 1 := ⟨Or.inl q2702, q2703, q2705, q125, ⟨by decide +kernel, by decide +kernel⟩, by decide +kernel, List.forall_mem_cons.mpr ⟨fun q hq => by have e : xcl[3]? = some (RX4, TX4, 61) := rfl; cases e.symm.trans hq; exact Or.inl q2704, fun _ h => nomatch h⟩⟩
theorem cvX0_246 : XCV RX0 246 [0] yX1_single cX1_single 4 (some .int) 1 := ⟨Or.inl q1773, q1774, q1776, q117, ⟨by decide +kernel, by decide +kernel⟩, by decide +kernel, List.forall_mem_cons.mpr ⟨fun q hq => by have e : xcl[0]? = some (RX1, TX1, 10) := rfl; cases e.symm.trans hq; exact Or.inl q1775, fun _ h => nomatch h⟩⟩
theorem cvX0_249 : XCV RX0 249 [3] yX4_single cX4_single 4 (some .int) 1 := ⟨Or.inl q2524, q2525, q2527, q125, ⟨by decide +kernel, by decide +kernel⟩, by decide +kernel, List.forall_mem_cons.mpr ⟨fun q hq => by have e : xcl[3]? = some (RX4, TX4, 61) := rfl; cases e.symm.trans hq; exact Or.inl q2526, fun _ h => nomatch h⟩⟩
theorem cvX0_242 : XCV RX0 242 [0] yX1_tells cX1_tells 5 (some .int) 2 := ⟨Or.inl q1766, q1767, q1769, q117, ⟨by decide +kernel, by decide +kernel⟩, by decide +kernel, List.forall_mem_cons.mpr ⟨fun q hq => by have e : xcl[0]? = some (RX1, TX1, 10) := rfl; cases e.symm.trans hq; exact Or.inl q1768, fun _ h => nomatch h⟩⟩
theorem cvX0_245 : XCV RX0 245 [3] yX4_tells cX4_tells 5 (some .int) 2 := ⟨Or.inl q2623, q2624, q2626, q125, ⟨by decide +kernel, by decide +kernel⟩, by decide +kernel, List.forall_mem_cons.mpr ⟨fun q hq => by have e : xcl[3]? = some (RX4, TX4, 61) := rfl; cases e.symm.trans hq; exact Or.inl q2625, fun _ h => nomatch h⟩⟩
theorem cvX0_238 : XCV RX0 238 [0] yX1_deepest cX1_deepest 6 (some .int) 1 := ⟨Or.inl q1762, q1763, q1765, q117, ⟨by decide +kernel, by decide +kernel⟩, by decide +kernel, List.forall_mem_cons.mpr ⟨fun q hq => by have e : xcl[0]? = some (RX1, TX1, 10) := rfl; cases e.symm.trans hq; exact Or.inl q1764, fun _ h => nomatch h⟩⟩
theorem cvX0_241 : XCV RX0 241 [3] yX4_deepest cX4_deepest 6 (some .int) 1 := ⟨Or.inl q2583, q2584, q2586, q125, ⟨by decide +kernel, by decide +kernel⟩, by decide +kernel, List.forall_mem_cons.mpr ⟨fun q hq => by have e : xcl[3]? = some (RX4, TX4, 61) := rfl; cases e.symm.trans hq; exact Or.inl q2585, fun _ h => nomatch h⟩⟩
theorem cvX0_234 : XCV RX0 234 [0] yX1_moment cX1_moment 3 (some .int) 1 := ⟨Or.inl q1949, q1950, q1952, q117, ⟨by decide +kernel, by decide +kernel⟩, by decide +kernel, List.forall_mem_cons.mpr ⟨fun q hq => by have e : xcl[0]? = some (RX1, TX1, 10) := rfl; cases e.symm.trans hq; exact Or.inl q1951, fun _ h => nomatch h⟩⟩
theorem cvX0_237 : XCV RX0 237 [3] yX4_moment cX4_moment 2 (some .int) 1 := ⟨Or.inl q2698, q2699, q2701, q125, ⟨by decide +kernel, by decide +kernel⟩, by decide +kernel, List.forall_mem_cons.mpr ⟨fun q hq => by have e : xcl[3]? = some (RX4, TX4, 61) := rfl; cases e.symm.trans hq; exact Or.inl q2700, fun _ h => nomatch h⟩⟩
theorem cvX0_230 : XCV RX0 230 [0] yX1_fastest cX1_fastest 5 (some .int) 2 := ⟨Or.inl q1782, q1783, q1785, q117, ⟨by decide +kernel, by decide +kernel⟩, by decide +kernel, List.forall_mem_cons.mpr ⟨fun q hq => by have e : xcl[0]? = some (RX1, TX1, 10) := rfl; cases e.symm.trans hq; exact Or.inl q1784, fun _ h => nomatch h⟩⟩
theorem cvX0_233 : XCV RX0 233 [3] yX4_fastest cX4_fastest 3 (some .int) 2 := ⟨Or.inl q2694, q2695, q2697, q125, ⟨by decide +kernel, by decide +kernel⟩, by decide +kernel, List.forall_mem_cons.mpr ⟨fun q hq => by have e : xcl[3]? = some (RX4, TX4, 61) := rfl; cases e.symm.trans hq; exact Or.inl q2696, fun _ h => nomatch h⟩⟩
theorem cvX0_226 : XCV RX0 226 [0] yX1_leads cX1_leads 6 (some .int) 1 := ⟨Or.inl q1778, q1779, q1781, q117, ⟨by decide +kernel, by decide +kernel⟩, by decide +kernel, List.forall_mem_cons.mpr ⟨fun q hq => by have e : xcl[0]? = some (RX1, TX1, 10) := rfl; cases e.symm.trans hq; exact Or.inl q1780, fun _ h => nomatch h⟩⟩
theorem cvX0_229 : XCV RX0 229 [3] yX4_leads cX4_leads 5 (some .int) 1 := ⟨Or.inl q2603, q2604, q2606, q125, ⟨by decide +kernel, by decide +kernel⟩, by decide +kernel, List.forall_mem_cons.mpr ⟨fun q hq => by have e : xcl[3]? = some (RX4, TX4, 61) := rfl; cases e.symm.trans hq; exact Or.inl q2605, fun _ h => nomatch h⟩⟩
theorem cvX0_222 : XCV RX0 222 [0] yX1_soonest cX1_soonest 6 (some .int) 3 := ⟨Or.inl q1573, q1574, q1576, q117, ⟨by decide +kernel, by decide +kernel⟩, by decide +kernel, List.forall_mem_cons.mpr ⟨fun q hq => by have e : xcl[0]? = some (RX1, TX1, 10) := rfl; cases e.symm.trans hq; exact Or.inl q1575, fun _ h => nomatch h⟩⟩
theorem cvX0_225 : XCV RX0 225 [3] yX4_soonest cX4_soonest 4 (some .int) 3 := ⟨Or.inl q2548, q2549, q2551, q125, ⟨by decide +kernel, by decide +kernel⟩, by decide +kernel, List.forall_mem_cons.mpr ⟨fun q hq => by have e : xcl[3]? = some (RX4, TX4, 61) := rfl; cases e.symm.trans hq; exact Or.inl q2550, fun _ h => nomatch h⟩⟩
theorem cvX0_218 : XCV RX0 218 [0] yX1_longest cX1_longest 6 (some .int) 3 := ⟨Or.inl q1558, q1559, q1561, q117, ⟨by decide +kernel, by decide +kernel⟩, by decide +kernel, List.forall_mem_cons.mpr ⟨fun q hq => by have e : xcl[0]? = some (RX1, TX1, 10) := rfl; cases e.symm.trans hq; exact Or.inl q1560, fun _ h => nomatch h⟩⟩
theorem cvX0_221 : XCV RX0 221 [3] yX4_longest cX4_longest 4 (some .int) 3 := ⟨Or.inl q2540, q2541, q2543, q125, ⟨by decide +kernel, by decide +kernel⟩, by decide +kernel, List.forall_mem_cons.mpr ⟨fun q hq => by have e : xcl[3]? = some (RX4, TX4, 61) := rfl; cases e.symm.trans hq; exact Or.inl q2542, fun _ h => nomatch h⟩⟩
theorem cvX0_214 : XCV RX0 214 [0] yX1_back cX1_back 4 (some .int) 2 := ⟨Or.inl q1550, q1551, q1553, q117, ⟨by decide +kernel, by decide +kernel⟩, by decide +kernel, List.forall_mem_cons.mpr ⟨fun q hq => by have e : xcl[0]? = some (RX1, TX1, 10) := rfl; cases e.symm.trans hq; exact Or.inl q1552, fun _ h => nomatch h⟩⟩
theorem cvX0_217 : XCV RX0 217 [3] yX4_back cX4_back 3 (some .int) 2 := ⟨Or.inl q2464, q2465, q2467, q125, ⟨by decide +kernel, by decide +kernel⟩, by decide +kernel, List.forall_mem_cons.mpr ⟨fun q hq => by have e : xcl[3]? = some (RX4, TX4, 61) := rfl; cases e.symm.trans hq; exact Or.inl q2466, fun _ h => nomatch h⟩⟩
theorem cvX0_210 : XCV RX0 210 [0] yX1_touch cX1_touch 4 (some .int) 2 := ⟨Or.inl q1546, q1547, q1549, q117, ⟨by decide +kernel, by decide +kernel⟩, by decide +kernel, List.forall_mem_cons.mpr ⟨fun q hq => by have e : xcl[0]? = some (RX1, TX1, 10) := rfl; cases e.symm.trans hq; exact Or.inl q1548, fun _ h => nomatch h⟩⟩
theorem cvX0_213 : XCV RX0 213 [3] yX4_touch cX4_touch 3 (some .int) 2 := ⟨Or.inl q2452, q2453, q2455, q125, ⟨by decide +kernel, by decide +kernel⟩, by decide +kernel, List.forall_mem_cons.mpr ⟨fun q hq => by have e : xcl[3]? = some (RX4, TX4, 61) := rfl; cases e.symm.trans hq; exact Or.inl q2454, fun _ h => nomatch h⟩⟩
theorem cvX0_206 : XCV RX0 206 [0] yX1_width cX1_width 7 (some .int) 4 := ⟨Or.inl q1541, q1542, q1544, q117, ⟨by decide +kernel, by decide +kernel⟩, by decide +kernel, List.forall_mem_cons.mpr ⟨fun q hq => by have e : xcl[0]? = some (RX1, TX1, 10) := rfl; cases e.symm.trans hq; exact Or.inl q1543, fun _ h => nomatch h⟩⟩
theorem cvX0_209 : XCV RX0 209 [3] yX4_width cX4_width 5 (some .int) 4 := ⟨Or.inl q2496, q2497, q2499, q125, ⟨by decide +kernel, by decide +kernel⟩, by decide +kernel, List.forall_mem_cons.mpr ⟨fun q hq => by have e : xcl[3]? = some (RX4, TX4, 61) := rfl; cases e.symm.trans hq; exact Or.inl q2498, fun _ h => nomatch h⟩⟩
theorem cvX0_202 : XCV RX0 202 [0] yX1_breaks cX1_breaks 2 (some .int) 0 := ⟨Or.inl q1961, q1962, q1964, q117, ⟨by decide +kernel, by decide +kernel⟩, by decide +kernel, List.forall_mem_cons.mpr ⟨fun q hq => by have e : xcl[0]? = some (RX1, TX1, 10) := rfl; cases e.symm.trans hq; exact Or.inl q1963, fun _ h => nomatch h⟩⟩
theorem cvX0_205 : XCV RX0 205 [3] yX4_breaks cX4_breaks 2 (some .int) 0 := ⟨Or.inl q2690, q2691, q2693, q125, ⟨by decide +kernel, by decide +kernel⟩, by decide +kernel, List.forall_mem_cons.mpr ⟨fun q hq => by have e : xcl[3]? = some (RX4, TX4, 61) := rfl; cases e.symm.trans hq; exact Or.inl q2692, fun _ h => nomatch h⟩⟩
theorem cvX0_198 : XCV RX0 198 [0] yX1_value cX1_value 5 (some .int) 3 := ⟨Or.inl q1945, q1946, q1948, q117, ⟨by decide +kernel, by decide +kernel⟩, by decide +kernel, List.forall_mem_cons.mpr ⟨fun q hq => by have e : xcl[0]? = some (RX1, TX1, 10) := rfl; cases e.symm.trans hq; exact Or.inl q1947, fun _ h => nomatch h⟩⟩
theorem cvX0_201 : XCV RX0 201 [3] yX4_value cX4_value 4 (some .int) 3 := ⟨Or.inl q2686, q2687, q2689, q125, ⟨by decide +kernel, by decide +kernel⟩, by decide +kernel, List.forall_mem_cons.mpr ⟨fun q hq => by have e : xcl[3]? = some (RX4, TX4, 61) := rfl; cases e.symm.trans hq; exact Or.inl q2688, fun _ h => nomatch h⟩⟩
theorem cvX0_194 : XCV RX0 194 [0] yX1_between cX1_between 5 (some .int) 3 := ⟨Or.inl q1941, q1942, q1944, q117, ⟨by decide +kernel, by decide +kernel⟩, by decide +kernel, List.forall_mem_cons.mpr ⟨fun q hq => by have e : xcl[0]? = some (RX1, TX1, 10) := rfl; cases e.symm.trans hq; exact Or.inl q1943, fun _ h => nomatch h⟩⟩
theorem cvX0_197 : XCV RX0 197 [3] yX4_between cX4_between 4 (some .int) 3 := ⟨Or.inl q2682, q2683, q2685, q125, ⟨by decide +kernel, by decide +kernel⟩, by decide +kernel, List.forall_mem_cons.mpr ⟨fun q hq => by have e : xcl[3]? = some (RX4, TX4, 61) := rfl; cases e.symm.trans hq; exact Or.inl q2684, fun _ h => nomatch h⟩⟩
theorem cvX0_190 : XCV RX0 190 [0] yX1_window cX1_window 4 (some .int) 2 := ⟨Or.inl q1937, q1938, q1940, q117, ⟨by decide +kernel, by decide +kernel⟩, by decide +kernel, List.forall_mem_cons.mpr ⟨fun q hq => by have e : xcl[0]? = some (RX1, TX1, 10) := rfl; cases e.symm.trans hq; exact Or.inl q1939, fun _ h => nomatch h⟩⟩
theorem cvX0_193 : XCV RX0 193 [3] yX4_window cX4_window 3 (some .int) 2 := ⟨Or.inl q2674, q2675, q2677, q125, ⟨by decide +kernel, by decide +kernel⟩, by decide +kernel, List.forall_mem_cons.mpr ⟨fun q hq => by have e : xcl[3]? = some (RX4, TX4, 61) := rfl; cases e.symm.trans hq; exact Or.inl q2676, fun _ h => nomatch h⟩⟩
theorem cvX0_186 : XCV RX0 186 [0] yX1_can cX1_can 1 (some .int) 0 := ⟨Or.inl q1929, q1930, q1932, q117, ⟨by decide +kernel, by decide +kernel⟩, by decide +kernel, List.forall_mem_cons.mpr ⟨fun q hq => by have e : xcl[0]? = some (RX1, TX1, 10) := rfl; cases e.symm.trans hq; exact Or.inl q1931, fun _ h => nomatch h⟩⟩
theorem cvX0_189 : XCV RX0 189 [3] yX4_can cX4_can 1 (some .int) 0 := ⟨Or.inl q2655, q2656, q2658, q125, ⟨by decide +kernel, by decide +kernel⟩, by decide +kernel, List.forall_mem_cons.mpr ⟨fun q hq => by have e : xcl[3]? = some (RX4, TX4, 61) := rfl; cases e.symm.trans hq; exact Or.inl q2657, fun _ h => nomatch h⟩⟩
theorem cvX0_182 : XCV RX0 182 [0] yX1_trace cX1_trace 2 (some .int) 1 := ⟨Or.inl q1925, q1926, q1928, q117, ⟨by decide +kernel, by decide +kernel⟩, by decide +kernel, List.forall_mem_cons.mpr ⟨fun q hq => by have e : xcl[0]? = some (RX1, TX1, 10) := rfl; cases e.symm.trans hq; exact Or.inl q1927, fun _ h => nomatch h⟩⟩
theorem cvX0_185 : XCV RX0 185 [3] yX4_trace cX4_trace 2 (some .int) 1 := ⟨Or.inl q2651, q2652, q2654, q125, ⟨by decide +kernel, by decide +kernel⟩, by decide +kernel, List.forall_mem_cons.mpr ⟨fun q hq => by have e : xcl[3]? = some (RX4, TX4, 61) := rfl; cases e.symm.trans hq; exact Or.inl q2653, fun _ h => nomatch h⟩⟩
theorem cvX0_178 : XCV RX0 178 [0] yX1_lead cX1_lead 3 (some .int) 1 := ⟨Or.inl q1913, q1914, q1916, q117, ⟨by decide +kernel, by decide +kernel⟩, by decide +kernel, List.forall_mem_cons.mpr ⟨fun q hq => by have e : xcl[0]? = some (RX1, TX1, 10) := rfl; cases e.symm.trans hq; exact Or.inl q1915, fun _ h => nomatch h⟩⟩
theorem cvX0_181 : XCV RX0 181 [3] yX4_lead cX4_lead 3 (some .int) 1 := ⟨Or.inl q2647, q2648, q2650, q125, ⟨by decide +kernel, by decide +kernel⟩, by decide +kernel, List.forall_mem_cons.mpr ⟨fun q hq => by have e : xcl[3]? = some (RX4, TX4, 61) := rfl; cases e.symm.trans hq; exact Or.inl q2649, fun _ h => nomatch h⟩⟩
theorem cvX0_174 : XCV RX0 174 [0] yX1_add cX1_add 3 (some .int) 1 := ⟨Or.inl q1864, q1865, q1867, q117, ⟨by decide +kernel, by decide +kernel⟩, by decide +kernel, List.forall_mem_cons.mpr ⟨fun q hq => by have e : xcl[0]? = some (RX1, TX1, 10) := rfl; cases e.symm.trans hq; exact Or.inl q1866, fun _ h => nomatch h⟩⟩
theorem cvX0_177 : XCV RX0 177 [3] yX4_add cX4_add 3 (some .int) 1 := ⟨Or.inl q2639, q2640, q2642, q125, ⟨by decide +kernel, by decide +kernel⟩, by decide +kernel, List.forall_mem_cons.mpr ⟨fun q hq => by have e : xcl[3]? = some (RX4, TX4, 61) := rfl; cases e.symm.trans hq; exact Or.inl q2641, fun _ h => nomatch h⟩⟩
theorem cvX0_170 : XCV RX0 170 [0] yX1_reached_2 cX1_reached_2 4 (some .int) 0 := ⟨Or.inl q1758, q1759, q1761, q117, ⟨by decide +kernel, by decide +kernel⟩, by decide +kernel, List.forall_mem_cons.mpr ⟨fun q hq => by have e : xcl[0]? = some (RX1, TX1, 10) := rfl; cases e.symm.trans hq; exact Or.inl q1760, fun _ h => nomatch h⟩⟩
theorem cvX0_173 : XCV RX0 173 [3] yX4_reached_2 cX4_reached_2 3 (some .int) 0 := ⟨Or.inl q2599, q2600, q2602, q125, ⟨by decide +kernel, by decide +kernel⟩, by decide +kernel, List.forall_mem_cons.mpr ⟨fun q hq => by have e : xcl[3]? = some (RX4, TX4, 61) := rfl; cases e.symm.trans hq; exact Or.inl q2601, fun _ h => nomatch h⟩⟩
theorem cvX0_166 : XCV RX0 166 [0] yX1_stuck cX1_stuck 2 (some .int) 0 := ⟨Or.inl q1754, q1755, q1757, q117, ⟨by decide +kernel, by decide +kernel⟩, by decide +kernel, List.forall_mem_cons.mpr ⟨fun q hq => by have e : xcl[0]? = some (RX1, TX1, 10) := rfl; cases e.symm.trans hq; exact Or.inl q1756, fun _ h => nomatch h⟩⟩
theorem cvX0_169 : XCV RX0 169 [3] yX4_stuck cX4_stuck 2 (some .int) 0 := ⟨Or.inl q2595, q2596, q2598, q125, ⟨by decide +kernel, by decide +kernel⟩, by decide +kernel, List.forall_mem_cons.mpr ⟨fun q hq => by have e : xcl[3]? = some (RX4, TX4, 61) := rfl; cases e.symm.trans hq; exact Or.inl q2597, fun _ h => nomatch h⟩⟩
theorem cvX0_162 : XCV RX0 162 [0] yX1_open cX1_open 2 (some .int) 1 := ⟨Or.inl q1746, q1747, q1749, q117, ⟨by decide +kernel, by decide +kernel⟩, by decide +kernel, List.forall_mem_cons.mpr ⟨fun q hq => by have e : xcl[0]? = some (RX1, TX1, 10) := rfl; cases e.symm.trans hq; exact Or.inl q1748, fun _ h => nomatch h⟩⟩
theorem cvX0_165 : XCV RX0 165 [3] yX4_open cX4_open 2 (some .int) 1 := ⟨Or.inl q2587, q2588, q2590, q125, ⟨by decide +kernel, by decide +kernel⟩, by decide +kernel, List.forall_mem_cons.mpr ⟨fun q hq => by have e : xcl[3]? = some (RX4, TX4, 61) := rfl; cases e.symm.trans hq; exact Or.inl q2589, fun _ h => nomatch h⟩⟩
theorem cvX0_158 : XCV RX0 158 [0] yX1_way cX1_way 4 (some .int) 2 := ⟨Or.inl q1619, q1620, q1622, q117, ⟨by decide +kernel, by decide +kernel⟩, by decide +kernel, List.forall_mem_cons.mpr ⟨fun q hq => by have e : xcl[0]? = some (RX1, TX1, 10) := rfl; cases e.symm.trans hq; exact Or.inl q1621, fun _ h => nomatch h⟩⟩
theorem cvX0_161 : XCV RX0 161 [3] yX4_way cX4_way 3 (some .int) 2 := ⟨Or.inl q2571, q2572, q2574, q125, ⟨by decide +kernel, by decide +kernel⟩, by decide +kernel, List.forall_mem_cons.mpr ⟨fun q hq => by have e : xcl[3]? = some (RX4, TX4, 61) := rfl; cases e.symm.trans hq; exact Or.inl q2573, fun _ h => nomatch h⟩⟩
theorem cvX0_154 : XCV RX0 154 [0] yX1_nodeBound cX1_nodeBound 5 (some .int) 4 := ⟨Or.inl q1615, q1616, q1618, q117, ⟨by decide +kernel, by decide +kernel⟩, by decide +kernel, List.forall_mem_cons.mpr ⟨fun q hq => by have e : xcl[0]? = some (RX1, TX1, 10) := rfl; cases e.symm.trans hq; exact Or.inl q1617, fun _ h => nomatch h⟩⟩
theorem cvX0_157 : XCV RX0 157 [3] yX4_nodeBound cX4_nodeBound 5 (some .int) 4 := ⟨Or.inl q2567, q2568, q2570, q125, ⟨by decide +kernel, by decide +kernel⟩, by decide +kernel, List.forall_mem_cons.mpr ⟨fun q hq => by have e : xcl[3]? = some (RX4, TX4, 61) := rfl; cases e.symm.trans hq; exact Or.inl q2569, fun _ h => nomatch h⟩⟩
theorem cvX0_150 : XCV RX0 150 [0] yX1_node cX1_node 4 (some .int) 2 := ⟨Or.inl q1611, q1612, q1614, q117, ⟨by decide +kernel, by decide +kernel⟩, by decide +kernel, List.forall_mem_cons.mpr ⟨fun q hq => by have e : xcl[0]? = some (RX1, TX1, 10) := rfl; cases e.symm.trans hq; exact Or.inl q1613, fun _ h => nomatch h⟩⟩
theorem cvX0_153 : XCV RX0 153 [3] yX4_node cX4_node 3 (some .int) 2 := ⟨Or.inl q2559, q2560, q2562, q125, ⟨by decide +kernel, by decide +kernel⟩, by decide +kernel, List.forall_mem_cons.mpr ⟨fun q hq => by have e : xcl[3]? = some (RX4, TX4, 61) := rfl; cases e.symm.trans hq; exact Or.inl q2561, fun _ h => nomatch h⟩⟩
theorem cvX0_146 : XCV RX0 146 [0] yX1_nodes cX1_nodes 1 (some .int) 0 := ⟨Or.inl q1607, q1608, q1610, q117, ⟨by decide +kernel, by decide +kernel⟩, by decide +kernel, List.forall_mem_cons.mpr ⟨fun q hq => by have e : xcl[0]? = some (RX1, TX1, 10) := rfl; cases e.symm.trans hq; exact Or.inl q1609, fun _ h => nomatch h⟩⟩
theorem cvX0_149 : XCV RX0 149 [3] yX4_nodes cX4_nodes 1 (some .int) 0 := ⟨Or.inl q2555, q2556, q2558, q125, ⟨by decide +kernel, by decide +kernel⟩, by decide +kernel, List.forall_mem_cons.mpr ⟨fun q hq => by have e : xcl[3]? = some (RX4, TX4, 61) := rfl; cases e.symm.trans hq; exact Or.inl q2557, fun _ h => nomatch h⟩⟩
theorem cvX0_142 : XCV RX0 142 [0] yX1_first cX1_first 5 (some .int) 2 := ⟨Or.inl q1588, q1589, q1591, q117, ⟨by decide +kernel, by decide +kernel⟩, by decide +kernel, List.forall_mem_cons.mpr ⟨fun q hq => by have e : xcl[0]? = some (RX1, TX1, 10) := rfl; cases e.symm.trans hq; exact Or.inl q1590, fun _ h => nomatch h⟩⟩
theorem cvX0_145 : XCV RX0 145 [3] yX4_first cX4_first 4 (some .int) 2 := ⟨Or.inl q2532, q2533, q2535, q125, ⟨by decide +kernel, by decide +kernel⟩, by decide +kernel, List.forall_mem_cons.mpr ⟨fun q hq => by have e : xcl[3]? = some (RX4, TX4, 61) := rfl; cases e.symm.trans hq; exact Or.inl q2534, fun _ h => nomatch h⟩⟩
theorem cvX0_138 : XCV RX0 138 [0] yX1_whole cX1_whole 6 (some .int) 2 := ⟨Or.inl q1584, q1585, q1587, q117, ⟨by decide +kernel, by decide +kernel⟩, by decide +kernel, List.forall_mem_cons.mpr ⟨fun q hq => by have e : xcl[0]? = some (RX1, TX1, 10) := rfl; cases e.symm.trans hq; exact Or.inl q1586, fun _ h => nomatch h⟩⟩
theorem cvX0_141 : XCV RX0 141 [3] yX4_whole cX4_whole 8 (some .int) 2 := ⟨Or.inl q2528, q2529, q2531, q125, ⟨by decide +kernel, by decide +kernel⟩, by decide +kernel, List.forall_mem_cons.mpr ⟨fun q hq => by have e : xcl[3]? = some (RX4, TX4, 61) := rfl; cases e.symm.trans hq; exact Or.inl q2530, fun _ h => nomatch h⟩⟩
theorem cvX0_134 : XCV RX0 134 [0] yX1_pairs cX1_pairs 8 (some .int) 2 := ⟨Or.inl q1577, q1578, q1580, q117, ⟨by decide +kernel, by decide +kernel⟩, by decide +kernel, List.forall_mem_cons.mpr ⟨fun q hq => by have e : xcl[0]? = some (RX1, TX1, 10) := rfl; cases e.symm.trans hq; exact Or.inl q1579, fun _ h => nomatch h⟩⟩
theorem cvX0_137 : XCV RX0 137 [3] yX4_pairs cX4_pairs 6 (some .int) 2 := ⟨Or.inl q2516, q2517, q2519, q125, ⟨by decide +kernel, by decide +kernel⟩, by decide +kernel, List.forall_mem_cons.mpr ⟨fun q hq => by have e : xcl[3]? = some (RX4, TX4, 61) := rfl; cases e.symm.trans hq; exact Or.inl q2518, fun _ h => nomatch h⟩⟩
theorem cvX0_130 : XCV RX0 130 [0] yX1_has cX1_has 6 (some .int) 5 := ⟨Or.inl q1531, q1532, q1534, q117, ⟨by decide +kernel, by decide +kernel⟩, by decide +kernel, List.forall_mem_cons.mpr ⟨fun q hq => by have e : xcl[0]? = some (RX1, TX1, 10) := rfl; cases e.symm.trans hq; exact Or.inl q1533, fun _ h => nomatch h⟩⟩
theorem cvX0_133 : XCV RX0 133 [3] yX4_has cX4_has 6 (some .int) 5 := ⟨Or.inl q2508, q2509, q2511, q125, ⟨by decide +kernel, by decide +kernel⟩, by decide +kernel, List.forall_mem_cons.mpr ⟨fun q hq => by have e : xcl[3]? = some (RX4, TX4, 61) := rfl; cases e.symm.trans hq; exact Or.inl q2510, fun _ h => nomatch h⟩⟩
theorem cvX0_126 : XCV RX0 126 [0] yX1_within cX1_within 3 (some .int) 2 := ⟨Or.inl q1527, q1528, q1530, q117, ⟨by decide +kernel, by decide +kernel⟩, by decide +kernel, List.forall_mem_cons.mpr ⟨fun q hq => by have e : xcl[0]? = some (RX1, TX1, 10) := rfl; cases e.symm.trans hq; exact Or.inl q1529, fun _ h => nomatch h⟩⟩
theorem cvX0_129 : XCV RX0 129 [3] yX4_within cX4_within 3 (some .int) 2 := ⟨Or.inl q2504, q2505, q2507, q125, ⟨by decide +kernel, by decide +kernel⟩, by decide +kernel, List.forall_mem_cons.mpr ⟨fun q hq => by have e : xcl[3]? = some (RX4, TX4, 61) := rfl; cases e.symm.trans hq; exact Or.inl q2506, fun _ h => nomatch h⟩⟩
theorem cvX0_122 : XCV RX0 122 [0] yX1_empty cX1_empty 2 (some .int) 1 := ⟨Or.inl q1523, q1524, q1526, q117, ⟨by decide +kernel, by decide +kernel⟩, by decide +kernel, List.forall_mem_cons.mpr ⟨fun q hq => by have e : xcl[0]? = some (RX1, TX1, 10) := rfl; cases e.symm.trans hq; exact Or.inl q1525, fun _ h => nomatch h⟩⟩
theorem cvX0_125 : XCV RX0 125 [3] yX4_empty cX4_empty 2 (some .int) 1 := ⟨Or.inl q2500, q2501, q2503, q125, ⟨by decide +kernel, by decide +kernel⟩, by decide +kernel, List.forall_mem_cons.mpr ⟨fun q hq => by have e : xcl[3]? = some (RX4, TX4, 61) := rfl; cases e.symm.trans hq; exact Or.inl q2502, fun _ h => nomatch h⟩⟩
theorem cvX0_117 : XCV RX0 117 [0] yX1_bound cX1_bound 5 (some .int) 4 := ⟨Or.inl q1514, q1515, q1517, q117, ⟨by decide +kernel, by decide +kernel⟩, by decide +kernel, List.forall_mem_cons.mpr ⟨fun q hq => by have e : xcl[0]? = some (RX1, TX1, 10) := rfl; cases e.symm.trans hq; exact Or.inl q1516, fun _ h => nomatch h⟩⟩
theorem cvX0_121 : XCV RX0 121 [3] yX4_bound cX4_bound 5 (some .int) 4 := ⟨Or.inl q2488, q2489, q2491, q125, ⟨by decide +kernel, by decide +kernel⟩, by decide +kernel, List.forall_mem_cons.mpr ⟨fun q hq => by have e : xcl[3]? = some (RX4, TX4, 61) := rfl; cases e.symm.trans hq; exact Or.inl q2490, fun _ h => nomatch h⟩⟩
theorem cvX0_113 : XCV RX0 113 [0] yX1_undo cX1_undo 2 (some .int) 0 := ⟨Or.inl q1318, q1319, q1321, q117, ⟨by decide +kernel, by decide +kernel⟩, by decide +kernel, List.forall_mem_cons.mpr ⟨fun q hq => by have e : xcl[0]? = some (RX1, TX1, 10) := rfl; cases e.symm.trans hq; exact Or.inl q1320, fun _ h => nomatch h⟩⟩
theorem cvX0_116 : XCV RX0 116 [3] yX4_undo cX4_undo 2 (some .int) 0 := ⟨Or.inl q2366, q2367, q2369, q125, ⟨by decide +kernel, by decide +kernel⟩, by decide +kernel, List.forall_mem_cons.mpr ⟨fun q hq => by have e : xcl[3]? = some (RX4, TX4, 61) := rfl; cases e.symm.trans hq; exact Or.inl q2368, fun _ h => nomatch h⟩⟩
theorem cvX0_109 : XCV RX0 109 [0] yX1_take cX1_take 3 (some .int) 2 := ⟨Or.inl q1506, q1507, q1509, q117, ⟨by decide +kernel, by decide +kernel⟩, by decide +kernel, List.forall_mem_cons.mpr ⟨fun q hq => by have e : xcl[0]? = some (RX1, TX1, 10) := rfl; cases e.symm.trans hq; exact Or.inl q1508, fun _ h => nomatch h⟩⟩
theorem cvX0_112 : XCV RX0 112 [3] yX4_take cX4_take 3 (some .int) 2 := ⟨Or.inl q2484, q2485, q2487, q125, ⟨by decide +kernel, by decide +kernel⟩, by decide +kernel, List.forall_mem_cons.mpr ⟨fun q hq => by have e : xcl[3]? = some (RX4, TX4, 61) := rfl; cases e.symm.trans hq; exact Or.inl q2486, fun _ h => nomatch h⟩⟩
theorem cvX0_105 : XCV RX0 105 [0] yX1_rough cX1_rough 3 (some .int) 1 := ⟨Or.inl q1502, q1503, q1505, q117, ⟨by decide +kernel, by decide +kernel⟩, by decide +kernel, List.forall_mem_cons.mpr ⟨fun q hq => by have e : xcl[0]? = some (RX1, TX1, 10) := rfl; cases e.symm.trans hq; exact Or.inl q1504, fun _ h => nomatch h⟩⟩
theorem cvX0_108 : XCV RX0 108 [3] yX4_rough cX4_rough 2 (some .int) 1 := ⟨Or.inl q2480, q2481, q2483, q125, ⟨by decide +kernel, by decide +kernel⟩, by decide +kernel, List.forall_mem_cons.mpr ⟨fun q hq => by have e : xcl[3]? = some (RX4, TX4, 61) := rfl; cases e.symm.trans hq; exact Or.inl q2482, fun _ h => nomatch h⟩⟩
theorem cvX0_101 : XCV RX0 101 [0] yX1_stay cX1_stay 4 (some .int) 2 := ⟨Or.inl q1494, q1495, q1497, q117, ⟨by decide +kernel, by decide +kernel⟩, by decide +kernel, List.forall_mem_cons.mpr ⟨fun q hq => by have e : xcl[0]? = some (RX1, TX1, 10) := rfl; cases e.symm.trans hq; exact Or.inl q1496, fun _ h => nomatch h⟩⟩
theorem cvX0_104 : XCV RX0 104 [3] yX4_stay cX4_stay 3 (some .int) 2 := ⟨Or.inl q2472, q2473, q2475, q125, ⟨by decide +kernel, by decide +kernel⟩, by decide +kernel, List.forall_mem_cons.mpr ⟨fun q hq => by have e : xcl[3]? = some (RX4, TX4, 61) := rfl; cases e.symm.trans hq; exact Or.inl q2474, fun _ h => nomatch h⟩⟩
theorem cvX0_97 : XCV RX0 97 [0] yX1_step cX1_step 4 (some .int) 2 := ⟨Or.inl q1490, q1491, q1493, q117, ⟨by decide +kernel, by decide +kernel⟩, by decide +kernel, List.forall_mem_cons.mpr ⟨fun q hq => by have e : xcl[0]? = some (RX1, TX1, 10) := rfl; cases e.symm.trans hq; exact Or.inl q1492, fun _ h => nomatch h⟩⟩
theorem cvX0_100 : XCV RX0 100 [3] yX4_step cX4_step 3 (some .int) 2 := ⟨Or.inl q2456, q2457, q2459, q125, ⟨by decide +kernel, by decide +kernel⟩, by decide +kernel, List.forall_mem_cons.mpr ⟨fun q hq => by have e : xcl[3]? = some (RX4, TX4, 61) := rfl; cases e.symm.trans hq; exact Or.inl q2458, fun _ h => nomatch h⟩⟩
theorem cvX0_93 : XCV RX0 93 [0] yX1_both cX1_both 4 (some .int) 2 := ⟨Or.inl q1480, q1481, q1483, q117, ⟨by decide +kernel, by decide +kernel⟩, by decide +kernel, List.forall_mem_cons.mpr ⟨fun q hq => by have e : xcl[0]? = some (RX1, TX1, 10) := rfl; cases e.symm.trans hq; exact Or.inl q1482, fun _ h => nomatch h⟩⟩
theorem cvX0_96 : XCV RX0 96 [3] yX4_both cX4_both 3 (some .int) 2 := ⟨Or.inl q2444, q2445, q2447, q125, ⟨by decide +kernel, by decide +kernel⟩, by decide +kernel, List.forall_mem_cons.mpr ⟨fun q hq => by have e : xcl[3]? = some (RX4, TX4, 61) := rfl; cases e.symm.trans hq; exact Or.inl q2446, fun _ h => nomatch h⟩⟩
theorem cvX0_89 : XCV RX0 89 [0] yX1_join cX1_join 4 (some .int) 2 := ⟨Or.inl q1469, q1470, q1472, q117, ⟨by decide +kernel, by decide +kernel⟩, by decide +kernel, List.forall_mem_cons.mpr ⟨fun q hq => by have e : xcl[0]? = some (RX1, TX1, 10) := rfl; cases e.symm.trans hq; exact Or.inl q1471, fun _ h => nomatch h⟩⟩
theorem cvX0_92 : XCV RX0 92 [3] yX4_join cX4_join 5 (some .int) 2 := ⟨Or.inl q2436, q2437, q2439, q125, ⟨by decide +kernel, by decide +kernel⟩, by decide +kernel, List.forall_mem_cons.mpr ⟨fun q hq => by have e : xcl[3]? = some (RX4, TX4, 61) := rfl; cases e.symm.trans hq; exact Or.inl q2438, fun _ h => nomatch h⟩⟩
theorem cvX0_85 : XCV RX0 85 [0] yX1_copy cX1_copy 3 (some .int) 2 := ⟨Or.inl q1465, q1466, q1468, q117, ⟨by decide +kernel, by decide +kernel⟩, by decide +kernel, List.forall_mem_cons.mpr ⟨fun q hq => by have e : xcl[0]? = some (RX1, TX1, 10) := rfl; cases e.symm.trans hq; exact Or.inl q1467, fun _ h => nomatch h⟩⟩
theorem cvX0_88 : XCV RX0 88 [3] yX4_copy cX4_copy 3 (some .int) 2 := ⟨Or.inl q2432, q2433, q2435, q125, ⟨by decide +kernel, by decide +kernel⟩, by decide +kernel, List.forall_mem_cons.mpr ⟨fun q hq => by have e : xcl[3]? = some (RX4, TX4, 61) := rfl; cases e.symm.trans hq; exact Or.inl q2434, fun _ h => nomatch h⟩⟩
theorem cvX0_81 : XCV RX0 81 [0] yX1_free cX1_free 4 (some .int) 2 := ⟨Or.inl q1455, q1456, q1458, q117, ⟨by decide +kernel, by decide +kernel⟩, by decide +kernel, List.forall_mem_cons.mpr ⟨fun q hq => by have e : xcl[0]? = some (RX1, TX1, 10) := rfl; cases e.symm.trans hq; exact Or.inl q1457, fun _ h => nomatch h⟩⟩
theorem cvX0_84 : XCV RX0 84 [3] yX4_free cX4_free 3 (some .int) 2 := ⟨Or.inl q2424, q2425, q2427, q125, ⟨by decide +kernel, by decide +kernel⟩, by decide +kernel, List.forall_mem_cons.mpr ⟨fun q hq => by have e : xcl[3]? = some (RX4, TX4, 61) := rfl; cases e.symm.trans hq; exact Or.inl q2426, fun _ h => nomatch h⟩⟩
theorem cvX0_77 : XCV RX0 77 [0] yX1_reset cX1_reset 5 (some .int) 3 := ⟨Or.inl q1451, q1452, q1454, q117, ⟨by decide +kernel, by decide +kernel⟩, by decide +kernel, List.forall_mem_cons.mpr ⟨fun q hq => by have e : xcl[0]? = some (RX1, TX1, 10) := rfl; cases e.symm.trans hq; exact Or.inl q1453, fun _ h => nomatch h⟩⟩
theorem cvX0_80 : XCV RX0 80 [3] yX4_reset cX4_reset 4 (some .int) 3 := ⟨Or.inl q2416, q2417, q2419, q125, ⟨by decide +kernel, by decide +kernel⟩, by decide +kernel, List.forall_mem_cons.mpr ⟨fun q hq => by have e : xcl[3]? = some (RX4, TX4, 61) := rfl; cases e.symm.trans hq; exact Or.inl q2418, fun _ h => nomatch h⟩⟩
theorem cvX0_73 : XCV RX0 73 [0] yX1_pass cX1_pass 4 (some .int) 2 := ⟨Or.inl q1441, q1442, q1444, q117, ⟨by decide +kernel, by decide +kernel⟩, by decide +kernel, List.forall_mem_cons.mpr ⟨fun q hq => by have e : xcl[0]? = some (RX1, TX1, 10) := rfl; cases e.symm.trans hq; exact Or.inl q1443, fun _ h => nomatch h⟩⟩
theorem cvX0_76 : XCV RX0 76 [3] yX4_pass cX4_pass 3 (some .int) 2 := ⟨Or.inl q2405, q2406, q2408, q125, ⟨by decide +kernel, by decide +kernel⟩, by decide +kernel, List.forall_mem_cons.mpr ⟨fun q hq => by have e : xcl[3]? = some (RX4, TX4, 61) := rfl; cases e.symm.trans hq; exact Or.inl q2407, fun _ h => nomatch h⟩⟩
theorem cvX0_69 : XCV RX0 69 [0] yX1_meet cX1_meet 7 (some .int) 5 := ⟨Or.inl q1433, q1434, q1436, q117, ⟨by decide +kernel, by decide +kernel⟩, by decide +kernel, List.forall_mem_cons.mpr ⟨fun q hq => by have e : xcl[0]? = some (RX1, TX1, 10) := rfl; cases e.symm.trans hq; exact Or.inl q1435, fun _ h => nomatch h⟩⟩
theorem cvX0_72 : XCV RX0 72 [3] yX4_meet cX4_meet 6 (some .int) 5 := ⟨Or.inl q2393, q2394, q2396, q125, ⟨by decide +kernel, by decide +kernel⟩, by decide +kernel, List.forall_mem_cons.mpr ⟨fun q hq => by have e : xcl[3]? = some (RX4, TX4, 61) := rfl; cases e.symm.trans hq; exact Or.inl q2395, fun _ h => nomatch h⟩⟩
theorem cvX0_64 : XCV RX0 64 [0] yX1_lay cX1_lay 4 (some .boolean) 2 := ⟨Or.inl q1350, q1351, q1353, q117, ⟨by decide +kernel, by decide +kernel⟩, by decide +kernel, List.forall_mem_cons.mpr ⟨fun q hq => by have e : xcl[0]? = some (RX1, TX1, 10) := rfl; cases e.symm.trans hq; exact Or.inl q1352, fun _ h => nomatch h⟩⟩
theorem cvX0_68 : XCV RX0 68 [3] yX4_lay cX4_lay 3 (some .boolean) 2 := ⟨Or.inl q2370, q2371, q2373, q125, ⟨by decide +kernel, by decide +kernel⟩, by decide +kernel, List.forall_mem_cons.mpr ⟨fun q hq => by have e : xcl[3]? = some (RX4, TX4, 61) := rfl; cases e.symm.trans hq; exact Or.inl q2372, fun _ h => nomatch h⟩⟩
theorem cvX0_60 : XCV RX0 60 [0] yX1_great cX1_great 2 (some .int) 1 := ⟨Or.inl q1310, q1311, q1313, q117, ⟨by decide +kernel, by decide +kernel⟩, by decide +kernel, List.forall_mem_cons.mpr ⟨fun q hq => by have e : xcl[0]? = some (RX1, TX1, 10) := rfl; cases e.symm.trans hq; exact Or.inl q1312, fun _ h => nomatch h⟩⟩
theorem cvX0_63 : XCV RX0 63 [3] yX4_great cX4_great 2 (some .int) 1 := ⟨Or.inl q2635, q2636, q2638, q125, ⟨by decide +kernel, by decide +kernel⟩, by decide +kernel, List.forall_mem_cons.mpr ⟨fun q hq => by have e : xcl[3]? = some (RX4, TX4, 61) := rfl; cases e.symm.trans hq; exact Or.inl q2637, fun _ h => nomatch h⟩⟩
theorem cvX0_56 : XCV RX0 56 [0] yX1_set cX1_set 5 (some .int) 3 := ⟨Or.inl q1306, q1307, q1309, q117, ⟨by decide +kernel, by decide +kernel⟩, by decide +kernel, List.forall_mem_cons.mpr ⟨fun q hq => by have e : xcl[0]? = some (RX1, TX1, 10) := rfl; cases e.symm.trans hq; exact Or.inl q1308, fun _ h => nomatch h⟩⟩
theorem cvX0_59 : XCV RX0 59 [3] yX4_set cX4_set 4 (some .int) 3 := ⟨Or.inl q2619, q2620, q2622, q125, ⟨by decide +kernel, by decide +kernel⟩, by decide +kernel, List.forall_mem_cons.mpr ⟨fun q hq => by have e : xcl[3]? = some (RX4, TX4, 61) := rfl; cases e.symm.trans hq; exact Or.inl q2621, fun _ h => nomatch h⟩⟩
theorem cvX0_51 : XCV RX0 51 [0] yX1_when cX1_when 5 (some .int) 3 := ⟨Or.inl q1298, q1299, q1301, q117, ⟨by decide +kernel, by decide +kernel⟩, by decide +kernel, List.forall_mem_cons.mpr ⟨fun q hq => by have e : xcl[0]? = some (RX1, TX1, 10) := rfl; cases e.symm.trans hq; exact Or.inl q1300, fun _ h => nomatch h⟩⟩
theorem cvX0_55 : XCV RX0 55 [3] yX4_when cX4_when 5 (some .int) 3 := ⟨Or.inl q2615, q2616, q2618, q125, ⟨by decide +kernel, by decide +kernel⟩, by decide +kernel, List.forall_mem_cons.mpr ⟨fun q hq => by have e : xcl[3]? = some (RX4, TX4, 61) := rfl; cases e.symm.trans hq; exact Or.inl q2617, fun _ h => nomatch h⟩⟩
theorem csX0_48 : XCSW RX0 48 yX0_edge cX0_edge 5 (some .int) [(0, 10, 13, 13), (0, 10, 17, 15)] 4 := ⟨q1985, q1986, q1987, q116, ⟨by decide +kernel, by decide +kernel⟩, by decide +kernel⟩
theorem cvX0_50 : XCV RX0 50 [3] yX4_edge cX4_edge 4 (some .int) 2 := ⟨Or.inl q2611, q2612, q2614, q125, ⟨by decide +kernel, by decide +kernel⟩, by decide +kernel, List.forall_mem_cons.mpr ⟨fun q hq => by have e : xcl[3]? = some (RX4, TX4, 61) := rfl; cases e.symm.trans hq; exact Or.inl q2613, fun _ h => nomatch h⟩⟩
theorem cvX0_44 : XCV RX0 44 [3] yX4_thrown cX4_thrown 1 (some .int) 0 := ⟨Or.inl q1992, q1993, q1995, q125, ⟨by decide +kernel, by decide +kernel⟩, by decide +kernel, List.forall_mem_cons.mpr ⟨fun q hq => by have e : xcl[3]? = some (RX4, TX4, 61) := rfl; cases e.symm.trans hq; exact Or.inl q1994, fun _ h => nomatch h⟩⟩
theorem csX0_38 : XCSW RX0 38 yX0_place cX0_place 5 (some .int) [(0, 10, 13, 13), (0, 10, 17, 15)] 4 := ⟨q1969, q1970, q1971, q116, ⟨by decide +kernel, by decide +kernel⟩, by decide +kernel⟩
theorem cvX0_43 : XCV RX0 43 [3] yX4_place cX4_place 5 (some .int) 2 := ⟨Or.inl q2607, q2608, q2610, q125, ⟨by decide +kernel, by decide +kernel⟩, by decide +kernel, List.forall_mem_cons.mpr ⟨fun q hq => by have e : xcl[3]? = some (RX4, TX4, 61) := rfl; cases e.symm.trans hq; exact Or.inl q2609, fun _ h => nomatch h⟩⟩
theorem cvX0_34 : XCV RX0 34 [0] yX1_fault cX1_fault 2 (some .int) 1 := ⟨Or.inl q1294, q1295, q1297, q117, ⟨by decide +kernel, by decide +kernel⟩, by decide +kernel, List.forall_mem_cons.mpr ⟨fun q hq => by have e : xcl[0]? = some (RX1, TX1, 10) := rfl; cases e.symm.trans hq; exact Or.inl q1296, fun _ h => nomatch h⟩⟩
theorem cvX0_37 : XCV RX0 37 [3] yX4_fault cX4_fault 2 (some .int) 1 := ⟨Or.inl q2362, q2363, q2365, q125, ⟨by decide +kernel, by decide +kernel⟩, by decide +kernel, List.forall_mem_cons.mpr ⟨fun q hq => by have e : xcl[3]? = some (RX4, TX4, 61) := rfl; cases e.symm.trans hq; exact Or.inl q2364, fun _ h => nomatch h⟩⟩
theorem cvX0_29 : XCVW RX0 29 [0] yX1_text cX1_text 5 (some .int) [(25, 92, 98, 100), (99, 103, 106, 100), (15, 96, 116, 106), (98, 116, 116, 106)] 1 := ⟨q332, q333, q335, q117, ⟨by decide +kernel, by decide +kernel⟩, by decide +kernel, List.forall_mem_cons.mpr ⟨fun q hq => by have e : xcl[0]? = some (RX1, TX1, 10) := rfl; cases e.symm.trans hq; exact q334, fun _ h => nomatch h⟩⟩
theorem cvX0_33 : XCV RX0 33 [3] yX4_text cX4_text 2 (some .int) 1 := ⟨Or.inl q2214, q2215, q2217, q125, ⟨by decide +kernel, by decide +kernel⟩, by decide +kernel, List.forall_mem_cons.mpr ⟨fun q hq => by have e : xcl[3]? = some (RX4, TX4, 61) := rfl; cases e.symm.trans hq; exact Or.inl q2216, fun _ h => nomatch h⟩⟩
theorem cvX0_24 : XCV RX0 24 [0] yX1_feed cX1_feed 8 (some .int) 5 := ⟨Or.inl q158, q159, q161, q117, ⟨by decide +kernel, by decide +kernel⟩, by decide +kernel, List.forall_mem_cons.mpr ⟨fun q hq => by have e : xcl[0]? = some (RX1, TX1, 10) := rfl; cases e.symm.trans hq; exact Or.inl q160, fun _ h => nomatch h⟩⟩
theorem cvX0_28 : XCV RX0 28 [3] yX4_feed cX4_feed 6 (some .int) 5 := ⟨Or.inl q2206, q2207, q2209, q125, ⟨by decide +kernel, by decide +kernel⟩, by decide +kernel, List.forall_mem_cons.mpr ⟨fun q hq => by have e : xcl[3]? = some (RX4, TX4, 61) := rfl; cases e.symm.trans hq; exact Or.inl q2208, fun _ h => nomatch h⟩⟩
theorem df_X1 : ∀ j, j < 10 → defaultValue (tyX1 j) = vp_V [.null, .int 0, .int 0, .int 0, .null, .null, .null, .null, .null, .null] j := by intro j hj; rcases (show j = 0 ∨ j = 1 ∨ j = 2 ∨ j = 3 ∨ j = 4 ∨ j = 5 ∨ j = 6 ∨ j = 7 ∨ j = 8 ∨ j = 9 by omega) with rfl | rfl | rfl | rfl | rfl | rfl | rfl | rfl | rfl | rfl <;> rfl
def dfltX4 : List Value := [.int 0, .int 0, .int 0, .int 0, .int 0, .int 0, .null, .null, .null, .null, .null, .null, .null, .null, .null, .null, .null, .null, .int 0, .null, .null, .null, .null, .int 0, .null, .int 0, .int 0, .int 0, .int 0, .int 0, .int 0, .int 0, .int 0, .int 0, .null, .null, .int 0, .int 0, .int 0, .int 0, .int 0, .int 0, .null, .null, .null, .null, .null, .null, .null, .null, .null, .null, .int 0, .int 0, .null, .null, .int 0, .null, .null, .null, .null]
theorem df_X4 : ∀ j, j < 61 → defaultValue (tyX4 j) = vp_V dfltX4 j := by intro j hj; rcases (show j = 0 ∨ j = 1 ∨ j = 2 ∨ j = 3 ∨ j = 4 ∨ j = 5 ∨ j = 6 ∨ j = 7 ∨ j = 8 ∨ j = 9 ∨ j = 10 ∨ j = 11 ∨ j = 12 ∨ j = 13 ∨ j = 14 ∨ j = 15 ∨ j = 16 ∨ j = 17 ∨ j = 18 ∨ j = 19 ∨ j = 20 ∨ j = 21 ∨ j = 22 ∨ j = 23 ∨ j = 24 ∨ j = 25 ∨ j = 26 ∨ j = 27 ∨ j = 28 ∨ j = 29 ∨ j = 30 ∨ j = 31 ∨ j = 32 ∨ j = 33 ∨ j = 34 ∨ j = 35 ∨ j = 36 ∨ j = 37 ∨ j = 38 ∨ j = 39 ∨ j = 40 ∨ j = 41 ∨ j = 42 ∨ j = 43 ∨ j = 44 ∨ j = 45 ∨ j = 46 ∨ j = 47 ∨ j = 48 ∨ j = 49 ∨ j = 50 ∨ j = 51 ∨ j = 52 ∨ j = 53 ∨ j = 54 ∨ j = 55 ∨ j = 56 ∨ j = 57 ∨ j = 58 ∨ j = 59 ∨ j = 60 by omega) with rfl | rfl | rfl | rfl | rfl | rfl | rfl | rfl | rfl | rfl | rfl | rfl | rfl | rfl | rfl | rfl | rfl | rfl | rfl | rfl | rfl | rfl | rfl | rfl | rfl | rfl | rfl | rfl | rfl | rfl | rfl | rfl | rfl | rfl | rfl | rfl | rfl | rfl | rfl | rfl | rfl | rfl | rfl | rfl | rfl | rfl | rfl | rfl | rfl | rfl | rfl | rfl | rfl | rfl | rfl | rfl | rfl | rfl | rfl | rfl | rfl <;> rfl
def fn_X0_edge (N : Nat) (E : Nat → Nat → Nat) (p0 : Option Nat) (p1 : Int32) (p2 : Int32) (p3 : Option Nat) : XS → Option (Int32 × XS) := xrd (qV p0 [0]) (fun a5 => xalX (fn_X1_edge N E a5 p1 p2) (fun v1 => xwr (wL (E 0 0) p3 (0 : Int32) (v1.toInt64)) (xrt (0 : Int32))) (fun q5 => xck (E 0 0) q5 17 (xrt (1 : Int32)) (xck (E 0 0) q5 18 (xrt (2 : Int32)) (xno))))
def fn_X0_place (N : Nat) (E : Nat → Nat → Nat) (p0 : Option Nat) (p1 : Int32) (p2 : Int32) (p3 : Option Nat) : XS → Option (Int32 × XS) := xrd (qV p0 [0]) (fun a5 => xalX (fn_X1_place N E a5 p1 p2) (fun v1 => xwr (wL (E 0 0) p3 (0 : Int32) (v1.toInt64)) (xrt (0 : Int32))) (fun q5 => xck (E 0 0) q5 17 (xrt (1 : Int32)) (xck (E 0 0) q5 18 (xrt (2 : Int32)) (xno))))
def fn_L_law_2325 (N : Nat) (E : Nat → Nat → Nat) (kb5 : Int32 → XS → Option (Int32 × XS)) (x4 : Int32) : XS → Option (Int32 × XS) := kb5 (x4 + (6 : Int32))
def fn_L_law_464 (N : Nat) (E : Nat → Nat → Nat) (kb5 : Int32 → XS → Option (Int32 × XS)) (x4 : Int32) : XS → Option (Int32 × XS) := fn_L_law_2325 N E kb5 x4
def fn_L_law_532 (N : Nat) (E : Nat → Nat → Nat) (kb5 : Int32 → XS → Option (Int32 × XS)) (x4 : Int32) : XS → Option (Int32 × XS) := fn_L_law_2325 N E kb5 x4
def fn_L_law_23 (N : Nat) (E : Nat → Nat → Nat) (p0 : Option Nat) (v1 : Option Nat) (v2 : Option Nat) (v3 : Option Nat) (kb5 : Int32 → XS → Option (Int32 × XS)) (x4 : Int32) : XS → Option (Int32 × XS) := xrd (qN p0) (fun v6 => xbr (decide ((v6 - (6 : Int32)) < x4)) (xrz 1 (1 : Int32)) (xrd (qA 0 p0 x4) (fun v7 => xbr (decide ((v7 &&& (63 : Int32)) = (0 : Int32))) (xrd (qA 0 p0 (x4 + (1 : Int32))) (fun v8 => xrd (qA 0 p0 (x4 + (2 : Int32))) (fun v9 => xrd (qA 0 p0 (x4 + (3 : Int32))) (fun v10 => xrd (qA 0 p0 (x4 + (4 : Int32))) (fun v11 => xrd (qA 0 p0 (x4 + (5 : Int32))) (fun v12 => xrd (qV v1 [0]) (fun a307 => xal (fn_X1_feed N E a307 v8 v9 v10 v11 v12) (fun v13 => xrd (qA 0 p0 (x4 + (1 : Int32))) (fun v14 => xrd (qA 0 p0 (x4 + (2 : Int32))) (fun v15 => xrd (qA 0 p0 (x4 + (3 : Int32))) (fun v16 => xrd (qA 0 p0 (x4 + (4 : Int32))) (fun v17 => xrd (qA 0 p0 (x4 + (5 : Int32))) (fun v18 => xrd (qV v2 [3]) (fun a341 => xal (fn_X4_feed N E a341 v14 v15 v16 v17 v18) (fun v19 => xbr (decide (v13 = v19)) (fn_L_law_2325 N E kb5 x4) (xrz 1 (0 : Int32))))))))))))))))) (xbr (decide ((v7 &&& (63 : Int32)) = (1 : Int32))) (xrd (qA 0 p0 (x4 + (1 : Int32))) (fun v20 => xrd (qV v1 [0]) (fun a356 => xal (fn_X1_text N E a356 v20) (fun v21 => xrd (qA 0 p0 (x4 + (1 : Int32))) (fun v22 => xrd (qV v2 [3]) (fun a366 => xal (fn_X4_text N E a366 v22) (fun v23 => xbr (decide (v21 = v23)) (fn_L_law_2325 N E kb5 x4) (xrz 1 (0 : Int32))))))))) (xbr (decide ((v7 &&& (63 : Int32)) = (2 : Int32))) (xrd (qA 0 p0 (x4 + (1 : Int32))) (fun v24 => xrd (qV v1 [0]) (fun a381 => xal (fn_X1_fault N E a381 v24) (fun v25 => xrd (qA 0 p0 (x4 + (1 : Int32))) (fun v26 => xrd (qV v2 [3]) (fun a391 => xal (fn_X4_fault N E a391 v26) (fun v27 => xbr (decide (v25 = v27)) (fn_L_law_2325 N E kb5 x4) (xrz 1 (0 : Int32))))))))) (xbr (decide ((v7 &&& (63 : Int32)) = (3 : Int32))) (xrd (qA 0 p0 (x4 + (1 : Int32))) (fun v28 => xrd (qA 0 p0 (x4 + (2 : Int32))) (fun v29 => xal (fn_X0_place N E v1 v28 v29 v3) (fun v30 => xrd (qA 0 p0 (x4 + (1 : Int32))) (fun v31 => xrd (qA 0 p0 (x4 + (2 : Int32))) (fun v32 => xrd (qV v2 [3]) (fun a431 => xal (fn_X4_place N E a431 v31 v32) (fun v33 => xrd (qV v2 [3]) (fun a437 => xal (fn_X4_thrown N E a437) (fun v34 => xbr (decide (v34 = v30)) (xbr (decide (v30 = 0)) (xrd (qL v3 (0 : Int32)) (fun v35 => xbr (decide ((lg_cmp v35 (v33.toInt64)) = 0)) (fn_L_law_464 N E kb5 x4) (xrz 1 (0 : Int32)))) (fn_L_law_464 N E kb5 x4)) (xrz 1 (0 : Int32)))))))))))) (xbr (decide ((v7 &&& (63 : Int32)) = (4 : Int32))) (xrd (qA 0 p0 (x4 + (1 : Int32))) (fun v36 => xrd (qA 0 p0 (x4 + (2 : Int32))) (fun v37 => xal (fn_X0_edge N E v1 v36 v37 v3) (fun v38 => xrd (qA 0 p0 (x4 + (1 : Int32))) (fun v39 => xrd (qA 0 p0 (x4 + (2 : Int32))) (fun v40 => xrd (qV v2 [3]) (fun a499 => xal (fn_X4_edge N E a499 v39 v40) (fun v41 => xrd (qV v2 [3]) (fun a505 => xal (fn_X4_thrown N E a505) (fun v42 => xbr (decide (v42 = v38)) (xbr (decide (v38 = 0)) (xrd (qL v3 (0 : Int32)) (fun v43 => xbr (decide ((lg_cmp v43 (v41.toInt64)) = 0)) (fn_L_law_532 N E kb5 x4) (xrz 1 (0 : Int32)))) (fn_L_law_532 N E kb5 x4)) (xrz 1 (0 : Int32)))))))))))) (xbr (decide ((v7 &&& (63 : Int32)) = (5 : Int32))) (xrd (qA 0 p0 (x4 + (1 : Int32))) (fun v44 => xrd (qA 0 p0 (x4 + (2 : Int32))) (fun v45 => xrd (qA 0 p0 (x4 + (3 : Int32))) (fun v46 => xrd (qV v1 [0]) (fun a554 => xal (fn_X1_when N E a554 v44 v45 v46) (fun v47 => xrd (qA 0 p0 (x4 + (1 : Int32))) (fun v48 => xrd (qA 0 p0 (x4 + (2 : Int32))) (fun v49 => xrd (qA 0 p0 (x4 + (3 : Int32))) (fun v50 => xrd (qV v2 [3]) (fun a576 => xal (fn_X4_when N E a576 v48 v49 v50) (fun v51 => xbr (decide (v47 = v51)) (fn_L_law_2325 N E kb5 x4) (xrz 1 (0 : Int32))))))))))))) (xbr (decide ((v7 &&& (63 : Int32)) = (6 : Int32))) (xrd (qA 0 p0 (x4 + (1 : Int32))) (fun v52 => xrd (qA 0 p0 (x4 + (2 : Int32))) (fun v53 => xrd (qA 0 p0 (x4 + (3 : Int32))) (fun v54 => xrd (qV v1 [0]) (fun a603 => xal (fn_X1_set N E a603 v52 v53 v54) (fun v55 => xrd (qA 0 p0 (x4 + (1 : Int32))) (fun v56 => xrd (qA 0 p0 (x4 + (2 : Int32))) (fun v57 => xrd (qA 0 p0 (x4 + (3 : Int32))) (fun v58 => xrd (qV v2 [3]) (fun a625 => xal (fn_X4_set N E a625 v56 v57 v58) (fun v59 => xbr (decide (v55 = v59)) (fn_L_law_2325 N E kb5 x4) (xrz 1 (0 : Int32))))))))))))) (xbr (decide ((v7 &&& (63 : Int32)) = (7 : Int32))) (xrd (qA 0 p0 (x4 + (1 : Int32))) (fun v60 => xrd (qV v1 [0]) (fun a640 => xal (fn_X1_great N E a640 v60) (fun v61 => xrd (qA 0 p0 (x4 + (1 : Int32))) (fun v62 => xrd (qV v2 [3]) (fun a650 => xal (fn_X4_great N E a650 v62) (fun v63 => xbr (decide (v61 = v63)) (fn_L_law_2325 N E kb5 x4) (xrz 1 (0 : Int32))))))))) (xbr (decide ((v7 &&& (63 : Int32)) = (8 : Int32))) (xrd (qA 0 p0 (x4 + (1 : Int32))) (fun v64 => xrd (qA 0 p0 (x4 + (2 : Int32))) (fun v65 => xrd (qV v1 [0]) (fun a671 => xal (fn_X1_lay N E a671 v64 v65) (fun v66 => xrd (qA 0 p0 (x4 + (1 : Int32))) (fun v67 => xrd (qA 0 p0 (x4 + (2 : Int32))) (fun v68 => xrd (qV v2 [3]) (fun a687 => xal (fn_X4_lay N E a687 v67 v68) (fun v69 => xbr (decide (v66 = v69)) (fn_L_law_2325 N E kb5 x4) (xrz 1 (0 : Int32))))))))))) (xbr (decide ((v7 &&& (63 : Int32)) = (9 : Int32))) (xrd (qA 0 p0 (x4 + (1 : Int32))) (fun v70 => xrd (qA 0 p0 (x4 + (2 : Int32))) (fun v71 => xrd (qA 0 p0 (x4 + (3 : Int32))) (fun v72 => xrd (qA 0 p0 (x4 + (4 : Int32))) (fun v73 => xrd (qA 0 p0 (x4 + (5 : Int32))) (fun v74 => xrd (qV v1 [0]) (fun a726 => xal (fn_X1_meet N E a726 v70 v71 v72 v73 v74) (fun v75 => xrd (qA 0 p0 (x4 + (1 : Int32))) (fun v76 => xrd (qA 0 p0 (x4 + (2 : Int32))) (fun v77 => xrd (qA 0 p0 (x4 + (3 : Int32))) (fun v78 => xrd (qA 0 p0 (x4 + (4 : Int32))) (fun v79 => xrd (qA 0 p0 (x4 + (5 : Int32))) (fun v80 => xrd (qV v2 [3]) (fun a760 => xal (fn_X4_meet N E a760 v76 v77 v78 v79 v80) (fun v81 => xbr (decide (v75 = v81)) (fn_L_law_2325 N E kb5 x4) (xrz 1 (0 : Int32))))))))))))))))) (xbr (decide ((v7 &&& (63 : Int32)) = (10 : Int32))) (xrd (qA 0 p0 (x4 + (1 : Int32))) (fun v82 => xrd (qA 0 p0 (x4 + (2 : Int32))) (fun v83 => xrd (qV v1 [0]) (fun a781 => xal (fn_X1_pass N E a781 v82 v83) (fun v84 => xrd (qA 0 p0 (x4 + (1 : Int32))) (fun v85 => xrd (qA 0 p0 (x4 + (2 : Int32))) (fun v86 => xrd (qV v2 [3]) (fun a797 => xal (fn_X4_pass N E a797 v85 v86) (fun v87 => xbr (decide (v84 = v87)) (fn_L_law_2325 N E kb5 x4) (xrz 1 (0 : Int32))))))))))) (xbr (decide ((v7 &&& (63 : Int32)) = (11 : Int32))) (xrd (qA 0 p0 (x4 + (1 : Int32))) (fun v88 => xrd (qA 0 p0 (x4 + (2 : Int32))) (fun v89 => xrd (qA 0 p0 (x4 + (3 : Int32))) (fun v90 => xrd (qV v1 [0]) (fun a824 => xal (fn_X1_reset N E a824 v88 v89 v90) (fun v91 => xrd (qA 0 p0 (x4 + (1 : Int32))) (fun v92 => xrd (qA 0 p0 (x4 + (2 : Int32))) (fun v93 => xrd (qA 0 p0 (x4 + (3 : Int32))) (fun v94 => xrd (qV v2 [3]) (fun a846 => xal (fn_X4_reset N E a846 v92 v93 v94) (fun v95 => xbr (decide (v91 = v95)) (fn_L_law_2325 N E kb5 x4) (xrz 1 (0 : Int32))))))))))))) (xbr (decide ((v7 &&& (63 : Int32)) = (12 : Int32))) (xrd (qA 0 p0 (x4 + (1 : Int32))) (fun v96 => xrd (qA 0 p0 (x4 + (2 : Int32))) (fun v97 => xrd (qV v1 [0]) (fun a867 => xal (fn_X1_free N E a867 v96 v97) (fun v98 => xrd (qA 0 p0 (x4 + (1 : Int32))) (fun v99 => xrd (qA 0 p0 (x4 + (2 : Int32))) (fun v100 => xrd (qV v2 [3]) (fun a883 => xal (fn_X4_free N E a883 v99 v100) (fun v101 => xbr (decide (v98 = v101)) (fn_L_law_2325 N E kb5 x4) (xrz 1 (0 : Int32))))))))))) (xbr (decide ((v7 &&& (63 : Int32)) = (13 : Int32))) (xrd (qA 0 p0 (x4 + (1 : Int32))) (fun v102 => xrd (qA 0 p0 (x4 + (2 : Int32))) (fun v103 => xrd (qV v1 [0]) (fun a904 => xal (fn_X1_copy N E a904 v102 v103) (fun v104 => xrd (qA 0 p0 (x4 + (1 : Int32))) (fun v105 => xrd (qA 0 p0 (x4 + (2 : Int32))) (fun v106 => xrd (qV v2 [3]) (fun a920 => xal (fn_X4_copy N E a920 v105 v106) (fun v107 => xbr (decide (v104 = v107)) (fn_L_law_2325 N E kb5 x4) (xrz 1 (0 : Int32))))))))))) (xbr (decide ((v7 &&& (63 : Int32)) = (14 : Int32))) (xrd (qA 0 p0 (x4 + (1 : Int32))) (fun v108 => xrd (qA 0 p0 (x4 + (2 : Int32))) (fun v109 => xrd (qV v1 [0]) (fun a941 => xal (fn_X1_join N E a941 v108 v109) (fun v110 => xrd (qA 0 p0 (x4 + (1 : Int32))) (fun v111 => xrd (qA 0 p0 (x4 + (2 : Int32))) (fun v112 => xrd (qV v2 [3]) (fun a957 => xal (fn_X4_join N E a957 v111 v112) (fun v113 => xbr (decide (v110 = v113)) (fn_L_law_2325 N E kb5 x4) (xrz 1 (0 : Int32))))))))))) (xbr (decide ((v7 &&& (63 : Int32)) = (15 : Int32))) (xrd (qA 0 p0 (x4 + (1 : Int32))) (fun v114 => xrd (qA 0 p0 (x4 + (2 : Int32))) (fun v115 => xrd (qV v1 [0]) (fun a978 => xal (fn_X1_both N E a978 v114 v115) (fun v116 => xrd (qA 0 p0 (x4 + (1 : Int32))) (fun v117 => xrd (qA 0 p0 (x4 + (2 : Int32))) (fun v118 => xrd (qV v2 [3]) (fun a994 => xal (fn_X4_both N E a994 v117 v118) (fun v119 => xbr (decide (v116 = v119)) (fn_L_law_2325 N E kb5 x4) (xrz 1 (0 : Int32))))))))))) (xbr (decide ((v7 &&& (63 : Int32)) = (16 : Int32))) (xrd (qA 0 p0 (x4 + (1 : Int32))) (fun v120 => xrd (qA 0 p0 (x4 + (2 : Int32))) (fun v121 => xrd (qV v1 [0]) (fun a1015 => xal (fn_X1_step N E a1015 v120 v121) (fun v122 => xrd (qA 0 p0 (x4 + (1 : Int32))) (fun v123 => xrd (qA 0 p0 (x4 + (2 : Int32))) (fun v124 => xrd (qV v2 [3]) (fun a1031 => xal (fn_X4_step N E a1031 v123 v124) (fun v125 => xbr (decide (v122 = v125)) (fn_L_law_2325 N E kb5 x4) (xrz 1 (0 : Int32))))))))))) (xbr (decide ((v7 &&& (63 : Int32)) = (17 : Int32))) (xrd (qA 0 p0 (x4 + (1 : Int32))) (fun v126 => xrd (qA 0 p0 (x4 + (2 : Int32))) (fun v127 => xrd (qV v1 [0]) (fun a1052 => xal (fn_X1_stay N E a1052 v126 v127) (fun v128 => xrd (qA 0 p0 (x4 + (1 : Int32))) (fun v129 => xrd (qA 0 p0 (x4 + (2 : Int32))) (fun v130 => xrd (qV v2 [3]) (fun a1068 => xal (fn_X4_stay N E a1068 v129 v130) (fun v131 => xbr (decide (v128 = v131)) (fn_L_law_2325 N E kb5 x4) (xrz 1 (0 : Int32))))))))))) (xbr (decide ((v7 &&& (63 : Int32)) = (18 : Int32))) (xrd (qA 0 p0 (x4 + (1 : Int32))) (fun v132 => xrd (qV v1 [0]) (fun a1083 => xal (fn_X1_rough N E a1083 v132) (fun v133 => xrd (qA 0 p0 (x4 + (1 : Int32))) (fun v134 => xrd (qV v2 [3]) (fun a1093 => xal (fn_X4_rough N E a1093 v134) (fun v135 => xbr (decide (v133 = v135)) (fn_L_law_2325 N E kb5 x4) (xrz 1 (0 : Int32))))))))) (xbr (decide ((v7 &&& (63 : Int32)) = (19 : Int32))) (xrd (qA 0 p0 (x4 + (1 : Int32))) (fun v136 => xrd (qA 0 p0 (x4 + (2 : Int32))) (fun v137 => xrd (qV v1 [0]) (fun a1114 => xal (fn_X1_take N E a1114 v136 v137) (fun v138 => xrd (qA 0 p0 (x4 + (1 : Int32))) (fun v139 => xrd (qA 0 p0 (x4 + (2 : Int32))) (fun v140 => xrd (qV v2 [3]) (fun a1130 => xal (fn_X4_take N E a1130 v139 v140) (fun v141 => xbr (decide (v138 = v141)) (fn_L_law_2325 N E kb5 x4) (xrz 1 (0 : Int32))))))))))) (xbr (decide ((v7 &&& (63 : Int32)) = (20 : Int32))) (xrd (qV v1 [0]) (fun a1139 => xal (fn_X1_undo N E a1139) (fun v142 => xrd (qV v2 [3]) (fun a1143 => xal (fn_X4_undo N E a1143) (fun v143 => xbr (decide (v142 = v143)) (fn_L_law_2325 N E kb5 x4) (xrz 1 (0 : Int32))))))) (xbr (decide ((v7 &&& (63 : Int32)) = (21 : Int32))) (xrd (qA 0 p0 (x4 + (1 : Int32))) (fun v144 => xrd (qA 0 p0 (x4 + (2 : Int32))) (fun v145 => xrd (qA 0 p0 (x4 + (3 : Int32))) (fun v146 => xrd (qA 0 p0 (x4 + (4 : Int32))) (fun v147 => xrd (qV v1 [0]) (fun a1176 => xal (fn_X1_bound N E a1176 v144 v145 v146 v147) (fun v148 => xrd (qA 0 p0 (x4 + (1 : Int32))) (fun v149 => xrd (qA 0 p0 (x4 + (2 : Int32))) (fun v150 => xrd (qA 0 p0 (x4 + (3 : Int32))) (fun v151 => xrd (qA 0 p0 (x4 + (4 : Int32))) (fun v152 => xrd (qV v2 [3]) (fun a1204 => xal (fn_X4_bound N E a1204 v149 v150 v151 v152) (fun v153 => xbr (decide (v148 = v153)) (fn_L_law_2325 N E kb5 x4) (xrz 1 (0 : Int32))))))))))))))) (xbr (decide ((v7 &&& (63 : Int32)) = (22 : Int32))) (xrd (qA 0 p0 (x4 + (1 : Int32))) (fun v154 => xrd (qV v1 [0]) (fun a1219 => xal (fn_X1_empty N E a1219 v154) (fun v155 => xrd (qA 0 p0 (x4 + (1 : Int32))) (fun v156 => xrd (qV v2 [3]) (fun a1229 => xal (fn_X4_empty N E a1229 v156) (fun v157 => xbr (decide (v155 = v157)) (fn_L_law_2325 N E kb5 x4) (xrz 1 (0 : Int32))))))))) (xbr (decide ((v7 &&& (63 : Int32)) = (23 : Int32))) (xrd (qA 0 p0 (x4 + (1 : Int32))) (fun v158 => xrd (qA 0 p0 (x4 + (2 : Int32))) (fun v159 => xrd (qV v1 [0]) (fun a1250 => xal (fn_X1_within N E a1250 v158 v159) (fun v160 => xrd (qA 0 p0 (x4 + (1 : Int32))) (fun v161 => xrd (qA 0 p0 (x4 + (2 : Int32))) (fun v162 => xrd (qV v2 [3]) (fun a1266 => xal (fn_X4_within N E a1266 v161 v162) (fun v163 => xbr (decide (v160 = v163)) (fn_L_law_2325 N E kb5 x4) (xrz 1 (0 : Int32))))))))))) (xbr (decide ((v7 &&& (63 : Int32)) = (24 : Int32))) (xrd (qA 0 p0 (x4 + (1 : Int32))) (fun v164 => xrd (qA 0 p0 (x4 + (2 : Int32))) (fun v165 => xrd (qA 0 p0 (x4 + (3 : Int32))) (fun v166 => xrd (qA 0 p0 (x4 + (4 : Int32))) (fun v167 => xrd (qA 0 p0 (x4 + (5 : Int32))) (fun v168 => xrd (qV v1 [0]) (fun a1305 => xal (fn_X1_has N E a1305 v164 v165 v166 v167 v168) (fun v169 => xrd (qA 0 p0 (x4 + (1 : Int32))) (fun v170 => xrd (qA 0 p0 (x4 + (2 : Int32))) (fun v171 => xrd (qA 0 p0 (x4 + (3 : Int32))) (fun v172 => xrd (qA 0 p0 (x4 + (4 : Int32))) (fun v173 => xrd (qA 0 p0 (x4 + (5 : Int32))) (fun v174 => xrd (qV v2 [3]) (fun a1339 => xal (fn_X4_has N E a1339 v170 v171 v172 v173 v174) (fun v175 => xbr (decide (v169 = v175)) (fn_L_law_2325 N E kb5 x4) (xrz 1 (0 : Int32))))))))))))))))) (xbr (decide ((v7 &&& (63 : Int32)) = (25 : Int32))) (xrd (qA 0 p0 (x4 + (1 : Int32))) (fun v176 => xrd (qA 0 p0 (x4 + (2 : Int32))) (fun v177 => xrd (qV v1 [0]) (fun a1360 => xal (fn_X1_pairs N E a1360 v176 v177) (fun v178 => xrd (qA 0 p0 (x4 + (1 : Int32))) (fun v179 => xrd (qA 0 p0 (x4 + (2 : Int32))) (fun v180 => xrd (qV v2 [3]) (fun a1376 => xal (fn_X4_pairs N E a1376 v179 v180) (fun v181 => xbr (decide (v178 = v181)) (fn_L_law_2325 N E kb5 x4) (xrz 1 (0 : Int32))))))))))) (xbr (decide ((v7 &&& (63 : Int32)) = (26 : Int32))) (xrd (qA 0 p0 (x4 + (1 : Int32))) (fun v182 => xrd (qA 0 p0 (x4 + (2 : Int32))) (fun v183 => xrd (qV v1 [0]) (fun a1397 => xal (fn_X1_whole N E a1397 v182 v183) (fun v184 => xrd (qA 0 p0 (x4 + (1 : Int32))) (fun v185 => xrd (qA 0 p0 (x4 + (2 : Int32))) (fun v186 => xrd (qV v2 [3]) (fun a1413 => xal (fn_X4_whole N E a1413 v185 v186) (fun v187 => xbr (decide (v184 = v187)) (fn_L_law_2325 N E kb5 x4) (xrz 1 (0 : Int32))))))))))) (xbr (decide ((v7 &&& (63 : Int32)) = (27 : Int32))) (xrd (qA 0 p0 (x4 + (1 : Int32))) (fun v188 => xrd (qA 0 p0 (x4 + (2 : Int32))) (fun v189 => xrd (qV v1 [0]) (fun a1434 => xal (fn_X1_first N E a1434 v188 v189) (fun v190 => xrd (qA 0 p0 (x4 + (1 : Int32))) (fun v191 => xrd (qA 0 p0 (x4 + (2 : Int32))) (fun v192 => xrd (qV v2 [3]) (fun a1450 => xal (fn_X4_first N E a1450 v191 v192) (fun v193 => xbr (decide (v190 = v193)) (fn_L_law_2325 N E kb5 x4) (xrz 1 (0 : Int32))))))))))) (xbr (decide ((v7 &&& (63 : Int32)) = (28 : Int32))) (xrd (qV v1 [0]) (fun a1459 => xal (fn_X1_nodes N E a1459) (fun v194 => xrd (qV v2 [3]) (fun a1463 => xal (fn_X4_nodes N E a1463) (fun v195 => xbr (decide (v194 = v195)) (fn_L_law_2325 N E kb5 x4) (xrz 1 (0 : Int32))))))) (xbr (decide ((v7 &&& (63 : Int32)) = (29 : Int32))) (xrd (qA 0 p0 (x4 + (1 : Int32))) (fun v196 => xrd (qA 0 p0 (x4 + (2 : Int32))) (fun v197 => xrd (qV v1 [0]) (fun a1484 => xal (fn_X1_node N E a1484 v196 v197) (fun v198 => xrd (qA 0 p0 (x4 + (1 : Int32))) (fun v199 => xrd (qA 0 p0 (x4 + (2 : Int32))) (fun v200 => xrd (qV v2 [3]) (fun a1500 => xal (fn_X4_node N E a1500 v199 v200) (fun v201 => xbr (decide (v198 = v201)) (fn_L_law_2325 N E kb5 x4) (xrz 1 (0 : Int32))))))))))) (xbr (decide ((v7 &&& (63 : Int32)) = (30 : Int32))) (xrd (qA 0 p0 (x4 + (1 : Int32))) (fun v202 => xrd (qA 0 p0 (x4 + (2 : Int32))) (fun v203 => xrd (qA 0 p0 (x4 + (3 : Int32))) (fun v204 => xrd (qA 0 p0 (x4 + (4 : Int32))) (fun v205 => xrd (qV v1 [0]) (fun a1533 => xal (fn_X1_nodeBound N E a1533 v202 v203 v204 v205) (fun v206 => xrd (qA 0 p0 (x4 + (1 : Int32))) (fun v207 => xrd (qA 0 p0 (x4 + (2 : Int32))) (fun v208 => xrd (qA 0 p0 (x4 + (3 : Int32))) (fun v209 => xrd (qA 0 p0 (x4 + (4 : Int32))) (fun v210 => xrd (qV v2 [3]) (fun a1561 => xal (fn_X4_nodeBound N E a1561 v207 v208 v209 v210) (fun v211 => xbr (decide (v206 = v211)) (fn_L_law_2325 N E kb5 x4) (xrz 1 (0 : Int32))))))))))))))) (xbr (decide ((v7 &&& (63 : Int32)) = (31 : Int32))) (xrd (qA 0 p0 (x4 + (1 : Int32))) (fun v212 => xrd (qA 0 p0 (x4 + (2 : Int32))) (fun v213 => xrd (qV v1 [0]) (fun a1582 => xal (fn_X1_way N E a1582 v212 v213) (fun v214 => xrd (qA 0 p0 (x4 + (1 : Int32))) (fun v215 => xrd (qA 0 p0 (x4 + (2 : Int32))) (fun v216 => xrd (qV v2 [3]) (fun a1598 => xal (fn_X4_way N E a1598 v215 v216) (fun v217 => xbr (decide (v214 = v217)) (fn_L_law_2325 N E kb5 x4) (xrz 1 (0 : Int32))))))))))) (xbr (decide ((v7 &&& (63 : Int32)) = (32 : Int32))) (xrd (qA 0 p0 (x4 + (1 : Int32))) (fun v218 => xrd (qV v1 [0]) (fun a1613 => xal (fn_X1_open N E a1613 v218) (fun v219 => xrd (qA 0 p0 (x4 + (1 : Int32))) (fun v220 => xrd (qV v2 [3]) (fun a1623 => xal (fn_X4_open N E a1623 v220) (fun v221 => xbr (decide (v219 = v221)) (fn_L_law_2325 N E kb5 x4) (xrz 1 (0 : Int32))))))))) (xbr (decide ((v7 &&& (63 : Int32)) = (33 : Int32))) (xrd (qV v1 [0]) (fun a1632 => xal (fn_X1_stuck N E a1632) (fun v222 => xrd (qV v2 [3]) (fun a1636 => xal (fn_X4_stuck N E a1636) (fun v223 => xbr (decide (v222 = v223)) (fn_L_law_2325 N E kb5 x4) (xrz 1 (0 : Int32))))))) (xbr (decide ((v7 &&& (63 : Int32)) = (34 : Int32))) (xrd (qV v1 [0]) (fun a1645 => xal (fn_X1_reached_2 N E a1645) (fun v224 => xrd (qV v2 [3]) (fun a1649 => xal (fn_X4_reached_2 N E a1649) (fun v225 => xbr (decide (v224 = v225)) (fn_L_law_2325 N E kb5 x4) (xrz 1 (0 : Int32))))))) (xbr (decide ((v7 &&& (63 : Int32)) = (35 : Int32))) (xrd (qA 0 p0 (x4 + (1 : Int32))) (fun v226 => xrd (qV v1 [0]) (fun a1664 => xal (fn_X1_add N E a1664 v226) (fun v227 => xrd (qA 0 p0 (x4 + (1 : Int32))) (fun v228 => xrd (qV v2 [3]) (fun a1674 => xal (fn_X4_add N E a1674 v228) (fun v229 => xbr (decide (v227 = v229)) (fn_L_law_2325 N E kb5 x4) (xrz 1 (0 : Int32))))))))) (xbr (decide ((v7 &&& (63 : Int32)) = (36 : Int32))) (xrd (qA 0 p0 (x4 + (1 : Int32))) (fun v230 => xrd (qV v1 [0]) (fun a1689 => xal (fn_X1_lead N E a1689 v230) (fun v231 => xrd (qA 0 p0 (x4 + (1 : Int32))) (fun v232 => xrd (qV v2 [3]) (fun a1699 => xal (fn_X4_lead N E a1699 v232) (fun v233 => xbr (decide (v231 = v233)) (fn_L_law_2325 N E kb5 x4) (xrz 1 (0 : Int32))))))))) (xbr (decide ((v7 &&& (63 : Int32)) = (37 : Int32))) (xrd (qA 0 p0 (x4 + (1 : Int32))) (fun v234 => xrd (qV v1 [0]) (fun a1714 => xal (fn_X1_trace N E a1714 v234) (fun v235 => xrd (qA 0 p0 (x4 + (1 : Int32))) (fun v236 => xrd (qV v2 [3]) (fun a1724 => xal (fn_X4_trace N E a1724 v236) (fun v237 => xbr (decide (v235 = v237)) (fn_L_law_2325 N E kb5 x4) (xrz 1 (0 : Int32))))))))) (xbr (decide ((v7 &&& (63 : Int32)) = (38 : Int32))) (xrd (qV v1 [0]) (fun a1733 => xal (fn_X1_can N E a1733) (fun v238 => xrd (qV v2 [3]) (fun a1737 => xal (fn_X4_can N E a1737) (fun v239 => xbr (decide (v238 = v239)) (fn_L_law_2325 N E kb5 x4) (xrz 1 (0 : Int32))))))) (xbr (decide ((v7 &&& (63 : Int32)) = (39 : Int32))) (xrd (qA 0 p0 (x4 + (1 : Int32))) (fun v240 => xrd (qA 0 p0 (x4 + (2 : Int32))) (fun v241 => xrd (qV v1 [0]) (fun a1758 => xal (fn_X1_window N E a1758 v240 v241) (fun v242 => xrd (qA 0 p0 (x4 + (1 : Int32))) (fun v243 => xrd (qA 0 p0 (x4 + (2 : Int32))) (fun v244 => xrd (qV v2 [3]) (fun a1774 => xal (fn_X4_window N E a1774 v243 v244) (fun v245 => xbr (decide (v242 = v245)) (fn_L_law_2325 N E kb5 x4) (xrz 1 (0 : Int32))))))))))) (xbr (decide ((v7 &&& (63 : Int32)) = (40 : Int32))) (xrd (qA 0 p0 (x4 + (1 : Int32))) (fun v246 => xrd (qA 0 p0 (x4 + (2 : Int32))) (fun v247 => xrd (qA 0 p0 (x4 + (3 : Int32))) (fun v248 => xrd (qV v1 [0]) (fun a1801 => xal (fn_X1_between N E a1801 v246 v247 v248) (fun v249 => xrd (qA 0 p0 (x4 + (1 : Int32))) (fun v250 => xrd (qA 0 p0 (x4 + (2 : Int32))) (fun v251 => xrd (qA 0 p0 (x4 + (3 : Int32))) (fun v252 => xrd (qV v2 [3]) (fun a1823 => xal (fn_X4_between N E a1823 v250 v251 v252) (fun v253 => xbr (decide (v249 = v253)) (fn_L_law_2325 N E kb5 x4) (xrz 1 (0 : Int32))))))))))))) (xbr (decide ((v7 &&& (63 : Int32)) = (41 : Int32))) (xrd (qA 0 p0 (x4 + (1 : Int32))) (fun v254 => xrd (qA 0 p0 (x4 + (2 : Int32))) (fun v255 => xrd (qA 0 p0 (x4 + (3 : Int32))) (fun v256 => xrd (qV v1 [0]) (fun a1850 => xal (fn_X1_value N E a1850 v254 v255 v256) (fun v257 => xrd (qA 0 p0 (x4 + (1 : Int32))) (fun v258 => xrd (qA 0 p0 (x4 + (2 : Int32))) (fun v259 => xrd (qA 0 p0 (x4 + (3 : Int32))) (fun v260 => xrd (qV v2 [3]) (fun a1872 => xal (fn_X4_value N E a1872 v258 v259 v260) (fun v261 => xbr (decide (v257 = v261)) (fn_L_law_2325 N E kb5 x4) (xrz 1 (0 : Int32))))))))))))) (xbr (decide ((v7 &&& (63 : Int32)) = (42 : Int32))) (xrd (qV v1 [0]) (fun a1881 => xal (fn_X1_breaks N E a1881) (fun v262 => xrd (qV v2 [3]) (fun a1885 => xal (fn_X4_breaks N E a1885) (fun v263 => xbr (decide (v262 = v263)) (fn_L_law_2325 N E kb5 x4) (xrz 1 (0 : Int32))))))) (xbr (decide ((v7 &&& (63 : Int32)) = (43 : Int32))) (xrd (qA 0 p0 (x4 + (1 : Int32))) (fun v264 => xrd (qA 0 p0 (x4 + (2 : Int32))) (fun v265 => xrd (qA 0 p0 (x4 + (3 : Int32))) (fun v266 => xrd (qA 0 p0 (x4 + (4 : Int32))) (fun v267 => xrd (qV v1 [0]) (fun a1918 => xal (fn_X1_width N E a1918 v264 v265 v266 v267) (fun v268 => xrd (qA 0 p0 (x4 + (1 : Int32))) (fun v269 => xrd (qA 0 p0 (x4 + (2 : Int32))) (fun v270 => xrd (qA 0 p0 (x4 + (3 : Int32))) (fun v271 => xrd (qA 0 p0 (x4 + (4 : Int32))) (fun v272 => xrd (qV v2 [3]) (fun a1946 => xal (fn_X4_width N E a1946 v269 v270 v271 v272) (fun v273 => xbr (decide (v268 = v273)) (fn_L_law_2325 N E kb5 x4) (xrz 1 (0 : Int32))))))))))))))) (xbr (decide ((v7 &&& (63 : Int32)) = (44 : Int32))) (xrd (qA 0 p0 (x4 + (1 : Int32))) (fun v274 => xrd (qA 0 p0 (x4 + (2 : Int32))) (fun v275 => xrd (qV v1 [0]) (fun a1967 => xal (fn_X1_touch N E a1967 v274 v275) (fun v276 => xrd (qA 0 p0 (x4 + (1 : Int32))) (fun v277 => xrd (qA 0 p0 (x4 + (2 : Int32))) (fun v278 => xrd (qV v2 [3]) (fun a1983 => xal (fn_X4_touch N E a1983 v277 v278) (fun v279 => xbr (decide (v276 = v279)) (fn_L_law_2325 N E kb5 x4) (xrz 1 (0 : Int32))))))))))) (xbr (decide ((v7 &&& (63 : Int32)) = (45 : Int32))) (xrd (qA 0 p0 (x4 + (1 : Int32))) (fun v280 => xrd (qA 0 p0 (x4 + (2 : Int32))) (fun v281 => xrd (qV v1 [0]) (fun a2004 => xal (fn_X1_back N E a2004 v280 v281) (fun v282 => xrd (qA 0 p0 (x4 + (1 : Int32))) (fun v283 => xrd (qA 0 p0 (x4 + (2 : Int32))) (fun v284 => xrd (qV v2 [3]) (fun a2020 => xal (fn_X4_back N E a2020 v283 v284) (fun v285 => xbr (decide (v282 = v285)) (fn_L_law_2325 N E kb5 x4) (xrz 1 (0 : Int32))))))))))) (xbr (decide ((v7 &&& (63 : Int32)) = (46 : Int32))) (xrd (qA 0 p0 (x4 + (1 : Int32))) (fun v286 => xrd (qA 0 p0 (x4 + (2 : Int32))) (fun v287 => xrd (qA 0 p0 (x4 + (3 : Int32))) (fun v288 => xrd (qV v1 [0]) (fun a2047 => xal (fn_X1_longest N E a2047 v286 v287 v288) (fun v289 => xrd (qA 0 p0 (x4 + (1 : Int32))) (fun v290 => xrd (qA 0 p0 (x4 + (2 : Int32))) (fun v291 => xrd (qA 0 p0 (x4 + (3 : Int32))) (fun v292 => xrd (qV v2 [3]) (fun a2069 => xal (fn_X4_longest N E a2069 v290 v291 v292) (fun v293 => xbr (decide (v289 = v293)) (fn_L_law_2325 N E kb5 x4) (xrz 1 (0 : Int32))))))))))))) (xbr (decide ((v7 &&& (63 : Int32)) = (47 : Int32))) (xrd (qA 0 p0 (x4 + (1 : Int32))) (fun v294 => xrd (qA 0 p0 (x4 + (2 : Int32))) (fun v295 => xrd (qA 0 p0 (x4 + (3 : Int32))) (fun v296 => xrd (qV v1 [0]) (fun a2096 => xal (fn_X1_soonest N E a2096 v294 v295 v296) (fun v297 => xrd (qA 0 p0 (x4 + (1 : Int32))) (fun v298 => xrd (qA 0 p0 (x4 + (2 : Int32))) (fun v299 => xrd (qA 0 p0 (x4 + (3 : Int32))) (fun v300 => xrd (qV v2 [3]) (fun a2118 => xal (fn_X4_soonest N E a2118 v298 v299 v300) (fun v301 => xbr (decide (v297 = v301)) (fn_L_law_2325 N E kb5 x4) (xrz 1 (0 : Int32))))))))))))) (xbr (decide ((v7 &&& (63 : Int32)) = (48 : Int32))) (xrd (qA 0 p0 (x4 + (1 : Int32))) (fun v302 => xrd (qV v1 [0]) (fun a2133 => xal (fn_X1_leads N E a2133 v302) (fun v303 => xrd (qA 0 p0 (x4 + (1 : Int32))) (fun v304 => xrd (qV v2 [3]) (fun a2143 => xal (fn_X4_leads N E a2143 v304) (fun v305 => xbr (decide (v303 = v305)) (fn_L_law_2325 N E kb5 x4) (xrz 1 (0 : Int32))))))))) (xbr (decide ((v7 &&& (63 : Int32)) = (49 : Int32))) (xrd (qA 0 p0 (x4 + (1 : Int32))) (fun v306 => xrd (qA 0 p0 (x4 + (2 : Int32))) (fun v307 => xrd (qV v1 [0]) (fun a2164 => xal (fn_X1_fastest N E a2164 v306 v307) (fun v308 => xrd (qA 0 p0 (x4 + (1 : Int32))) (fun v309 => xrd (qA 0 p0 (x4 + (2 : Int32))) (fun v310 => xrd (qV v2 [3]) (fun a2180 => xal (fn_X4_fastest N E a2180 v309 v310) (fun v311 => xbr (decide (v308 = v311)) (fn_L_law_2325 N E kb5 x4) (xrz 1 (0 : Int32))))))))))) (xbr (decide ((v7 &&& (63 : Int32)) = (50 : Int32))) (xrd (qA 0 p0 (x4 + (1 : Int32))) (fun v312 => xrd (qV v1 [0]) (fun a2195 => xal (fn_X1_moment N E a2195 v312) (fun v313 => xrd (qA 0 p0 (x4 + (1 : Int32))) (fun v314 => xrd (qV v2 [3]) (fun a2205 => xal (fn_X4_moment N E a2205 v314) (fun v315 => xbr (decide (v313 = v315)) (fn_L_law_2325 N E kb5 x4) (xrz 1 (0 : Int32))))))))) (xbr (decide ((v7 &&& (63 : Int32)) = (51 : Int32))) (xrd (qA 0 p0 (x4 + (1 : Int32))) (fun v316 => xrd (qV v1 [0]) (fun a2220 => xal (fn_X1_deepest N E a2220 v316) (fun v317 => xrd (qA 0 p0 (x4 + (1 : Int32))) (fun v318 => xrd (qV v2 [3]) (fun a2230 => xal (fn_X4_deepest N E a2230 v318) (fun v319 => xbr (decide (v317 = v319)) (fn_L_law_2325 N E kb5 x4) (xrz 1 (0 : Int32))))))))) (xbr (decide ((v7 &&& (63 : Int32)) = (52 : Int32))) (xrd (qA 0 p0 (x4 + (1 : Int32))) (fun v320 => xrd (qA 0 p0 (x4 + (2 : Int32))) (fun v321 => xrd (qV v1 [0]) (fun a2251 => xal (fn_X1_tells N E a2251 v320 v321) (fun v322 => xrd (qA 0 p0 (x4 + (1 : Int32))) (fun v323 => xrd (qA 0 p0 (x4 + (2 : Int32))) (fun v324 => xrd (qV v2 [3]) (fun a2267 => xal (fn_X4_tells N E a2267 v323 v324) (fun v325 => xbr (decide (v322 = v325)) (fn_L_law_2325 N E kb5 x4) (xrz 1 (0 : Int32))))))))))) (xbr (decide ((v7 &&& (63 : Int32)) = (53 : Int32))) (xrd (qA 0 p0 (x4 + (1 : Int32))) (fun v326 => xrd (qV v1 [0]) (fun a2282 => xal (fn_X1_single N E a2282 v326) (fun v327 => xrd (qA 0 p0 (x4 + (1 : Int32))) (fun v328 => xrd (qV v2 [3]) (fun a2292 => xal (fn_X4_single N E a2292 v328) (fun v329 => xbr (decide (v327 = v329)) (fn_L_law_2325 N E kb5 x4) (xrz 1 (0 : Int32))))))))) (xbr (decide ((v7 &&& (63 : Int32)) = (54 : Int32))) (xrd (qA 0 p0 (x4 + (1 : Int32))) (fun v330 => xrd (qV v1 [0]) (fun a2307 => xal (fn_X1_count N E a2307 v330) (fun v331 => xrd (qA 0 p0 (x4 + (1 : Int32))) (fun v332 => xrd (qV v2 [3]) (fun a2317 => xal (fn_X4_count N E a2317 v332) (fun v333 => xbr (decide (v331 = v333)) (fn_L_law_2325 N E kb5 x4) (xrz 1 (0 : Int32))))))))) (fn_L_law_2325 N E kb5 x4))))))))))))))))))))))))))))))))))))))))))))))))))))))))))
def fn_L_law (N : Nat) (E : Nat → Nat → Nat) (p0 : Option Nat) : XS → Option (Int32 × XS) := xal (aO 0 10 [.null, .int 0, .int 0, .int 0, .null, .null, .null, .null, .null, .null]) (fun v1 => xrd (qP v1) (fun a4 => xal (fn_X1_init N E a4) (fun _ => xal (aO 3 61 dfltX4) (fun v2 => xrd (qP v2) (fun a12 => xal (fn_X4_init N E a12) (fun _ => xal (aA 2 (1 : Int32)) (fun v3 => xlp1 (fn_L_law_23 N E p0 v1 v2 v3) N (0 : Int32))))))))
set_option maxHeartbeats 4000000 in
theorem w_X0_edge (l : Launch) (D : va_G) (dA : Nat → ClassId) (E : Nat → Nat → Nat) (Hb : Heap) (N : Nat) (hst : l.stackTraces = false) (p0 : Option Nat) (p1 : Int32) (p2 : Int32) (p3 : Option Nat) (S0 S' : XS) (rv : Int32) (h : fn_X0_edge N E p0 p1 p2 p3 S0 = some (rv, S')) : MB l yX0_edge (wsW_ yX0_edge cX0_edge 5 (some .int) [(0, 10, 13, 13), (0, 10, 17, 15)]) 7 115 D dA E Hb [va_rf p0, .int p1, .int p2, va_rf p3] S0 (some (.int rv)) S' := by
  refine MB.ofH (by decide +kernel) (xcatc (va_rf_cat _) (xcatc rfl (xcatc rfl (xcatc (va_rf_cat _) xcat0)))) (Nat.le_of_ble_eq_true rfl) ?_
  intro p e s m below meth c ls X hr hlocks hname htab hG hl
  have hx := X.1
  have hb := X.2.1
  have hown := X.2.2.2.1
  have hts := X.2.2.2.2.1
  replace hl : lh ls 5 [(0, va_rf p0), (1, .int p1), (2, .int p2), (3, va_rf p3)] := hl
  unfold fn_X0_edge at h
  refine s_aload_n X (x := p3) dX0_edge_0 rfl (lh_at hl 3 rfl) ?_
  refine lv_iconst (v := (0 : Int32)) hx hb dX0_edge_1 (by decide) ?_
  refine s_aload_n X (x := p0) dX0_edge_2 rfl (lh_at hl 0 rfl) ?_
  refine lv_iload_n hx hb dX0_edge_3 rfl (lh_at hl 1 rfl) ?_
  refine lv_iload_n hx hb dX0_edge_4 rfl (lh_at hl 2 rfl) ?_
  refine s_callVX X hG hl.1.1 (rv := (fun v => some (.int v))) cvX0_17 h (As := [.int p1, .int p2]) (fr := 6) (lo := 90) (fun a v T hf => w_X1_edge l D dA E Hb N hst a p1 p2 _ T v hf) rfl rfl ⟨Nat.le_of_ble_eq_true rfl, Nat.le_of_ble_eq_true rfl⟩ (xsum (xcatc rfl (xcatc (va_rf_cat _) xcat0)) (Nat.le_of_ble_eq_true rfl)) dX0_edge_5 (fun q5 S H locs cells slots hG h => ?_) (fun v1 S H locs cells slots hG h => ?_)
  · rcases xck_or h with ⟨hq, h⟩ | h
    · refine s_catch X hG hq (ci := 17) rfl htab [] (0, 10, 13, 13) [(0, 10, 17, 15)] rfl (fun _ hz => nomatch hz) (by decide +kernel) (by decide) q1972 (xnw_of q1660 rfl) ?_
      refine s_astore X (i := 4) (lv' := [(4, va_rf (some q5)), (0, va_rf p0), (1, .int p1), (2, .int p2), (3, va_rf p3)]) dX0_edge_13 hl (by decide) rfl (fun ls hl => ?_)
      refine lv_iconst (v := (1 : Int32)) hx hb dX0_edge_15 (by decide) ?_
      exact s_iret X hG hr hlocks h dX0_edge_16
    rcases xck_or h with ⟨hq, h⟩ | h
    · refine s_catch X hG hq (ci := 18) rfl htab [(0, 10, 13, 13)] (0, 10, 17, 15) [] rfl (List.forall_mem_cons.mpr ⟨Or.inr ⟨by decide, _, q1972, X.2.2.2.2.2.2.2.2.2.2.2.2.2.1.2.2.2.2.2⟩, fun _ hz => nomatch hz⟩) (by decide +kernel) (by decide) q1973 (xnw_of q1068 rfl) ?_
      refine s_astore X (i := 4) (lv' := [(4, va_rf (some q5)), (0, va_rf p0), (1, .int p1), (2, .int p2), (3, va_rf p3)]) dX0_edge_17 hl (by decide) rfl (fun ls hl => ?_)
      refine lv_iconst (v := (2 : Int32)) hx hb dX0_edge_19 (by decide) ?_
      exact s_iret X hG hr hlocks h dX0_edge_20
    exact (xno_elim h).elim
  · refine lv_i2l (v := v1.toInt64) hx hb dX0_edge_8 rfl ?_
    refine s_last X hG h dX0_edge_9 (fun S H locs hG h => ?_)
    refine lv_goto (tgt := 21) hx hb dX0_edge_10 (by decide) ?_
    refine lv_iconst (v := (0 : Int32)) hx hb dX0_edge_21 (by decide) ?_
    exact s_iret X hG hr hlocks h dX0_edge_22
set_option maxHeartbeats 4000000 in
theorem w_X0_place (l : Launch) (D : va_G) (dA : Nat → ClassId) (E : Nat → Nat → Nat) (Hb : Heap) (N : Nat) (hst : l.stackTraces = false) (p0 : Option Nat) (p1 : Int32) (p2 : Int32) (p3 : Option Nat) (S0 S' : XS) (rv : Int32) (h : fn_X0_place N E p0 p1 p2 p3 S0 = some (rv, S')) : MB l yX0_place (wsW_ yX0_place cX0_place 5 (some .int) [(0, 10, 13, 13), (0, 10, 17, 15)]) 7 115 D dA E Hb [va_rf p0, .int p1, .int p2, va_rf p3] S0 (some (.int rv)) S' := by
  refine MB.ofH (by decide +kernel) (xcatc (va_rf_cat _) (xcatc rfl (xcatc rfl (xcatc (va_rf_cat _) xcat0)))) (Nat.le_of_ble_eq_true rfl) ?_
  intro p e s m below meth c ls X hr hlocks hname htab hG hl
  have hx := X.1
  have hb := X.2.1
  have hown := X.2.2.2.1
  have hts := X.2.2.2.2.1
  replace hl : lh ls 5 [(0, va_rf p0), (1, .int p1), (2, .int p2), (3, va_rf p3)] := hl
  unfold fn_X0_place at h
  refine s_aload_n X (x := p3) dX0_place_0 rfl (lh_at hl 3 rfl) ?_
  refine lv_iconst (v := (0 : Int32)) hx hb dX0_place_1 (by decide) ?_
  refine s_aload_n X (x := p0) dX0_place_2 rfl (lh_at hl 0 rfl) ?_
  refine lv_iload_n hx hb dX0_place_3 rfl (lh_at hl 1 rfl) ?_
  refine lv_iload_n hx hb dX0_place_4 rfl (lh_at hl 2 rfl) ?_
  refine s_callVX X hG hl.1.1 (rv := (fun v => some (.int v))) cvX0_7 h (As := [.int p1, .int p2]) (fr := 6) (lo := 90) (fun a v T hf => w_X1_place l D dA E Hb N hst a p1 p2 _ T v hf) rfl rfl ⟨Nat.le_of_ble_eq_true rfl, Nat.le_of_ble_eq_true rfl⟩ (xsum (xcatc rfl (xcatc (va_rf_cat _) xcat0)) (Nat.le_of_ble_eq_true rfl)) dX0_place_5 (fun q5 S H locs cells slots hG h => ?_) (fun v1 S H locs cells slots hG h => ?_)
  · rcases xck_or h with ⟨hq, h⟩ | h
    · refine s_catch X hG hq (ci := 17) rfl htab [] (0, 10, 13, 13) [(0, 10, 17, 15)] rfl (fun _ hz => nomatch hz) (by decide +kernel) (by decide) q1972 (xnw_of q1660 rfl) ?_
      refine s_astore X (i := 4) (lv' := [(4, va_rf (some q5)), (0, va_rf p0), (1, .int p1), (2, .int p2), (3, va_rf p3)]) dX0_place_13 hl (by decide) rfl (fun ls hl => ?_)
      refine lv_iconst (v := (1 : Int32)) hx hb dX0_place_15 (by decide) ?_
      exact s_iret X hG hr hlocks h dX0_place_16
    rcases xck_or h with ⟨hq, h⟩ | h
    · refine s_catch X hG hq (ci := 18) rfl htab [(0, 10, 13, 13)] (0, 10, 17, 15) [] rfl (List.forall_mem_cons.mpr ⟨Or.inr ⟨by decide, _, q1972, X.2.2.2.2.2.2.2.2.2.2.2.2.2.1.2.2.2.2.2⟩, fun _ hz => nomatch hz⟩) (by decide +kernel) (by decide) q1973 (xnw_of q1068 rfl) ?_
      refine s_astore X (i := 4) (lv' := [(4, va_rf (some q5)), (0, va_rf p0), (1, .int p1), (2, .int p2), (3, va_rf p3)]) dX0_place_17 hl (by decide) rfl (fun ls hl => ?_)
      refine lv_iconst (v := (2 : Int32)) hx hb dX0_place_19 (by decide) ?_
      exact s_iret X hG hr hlocks h dX0_place_20
    exact (xno_elim h).elim
  · refine lv_i2l (v := v1.toInt64) hx hb dX0_place_8 rfl ?_
    refine s_last X hG h dX0_place_9 (fun S H locs hG h => ?_)
    refine lv_goto (tgt := 21) hx hb dX0_place_10 (by decide) ?_
    refine lv_iconst (v := (0 : Int32)) hx hb dX0_place_21 (by decide) ?_
    exact s_iret X hG hr hlocks h dX0_place_22
set_option maxHeartbeats 4000000 in
theorem b_L_law (l : Launch) (D : va_G) (dA : Nat → ClassId) (E : Nat → Nat → Nat) (Hb : Heap) (N : Nat) (hst : l.stackTraces = false) (p0 : Option Nat) (S0 S' : XS) (rv : Int32) (h : fn_L_law N E p0 S0 = some (rv, S')) {p : Program} {e : Env} {s : State} {m : MethodId} {below : List Frame} {meth : Method} {c : Code} {ls : Array Slot} (X : XX D dA E Hb p s m ([va_rf p0] : List Value).toArray c cL_law 7 RX0) (hr : meth.sig.returnType = some .boolean) (hlocks : meth.locks = false) (hG : XG D dA Hb { frames := 8192, cells := S0.2.2.1, slots := S0.2.2.2, locals := 104096 } s S0 s.heap [] 0 0) (hl : lh ls 7 [(0, va_rf p0)]) : W p l e { frames := 8192, cells := S0.2.2.1, slots := S0.2.2.2, locals := 104096 } s m ([va_rf p0] : List Value).toArray below meth c s.heap [] 0 0 (MBQ D dA Hb below s S0 (some (.int rv)) S') (F0 m 0 ls []) := by
  have hx := X.1
  have hb := X.2.1
  have hown := X.2.2.2.1
  have hts := X.2.2.2.2.1
  unfold fn_L_law at h
  refine s_new X hG (ci := 0) (q := (RX1, TX1, 10)) tyX1 rfl tyX1_ok df_X1 rfl q163 q164 q117 h dL_law_0 (fun v1 S H cells slots hG h => ?_)
  refine lv_dup hx hb dL_law_3 (va_rf_cat _) ?_
  refine s_callI X hG hl.1.1 ciX0_20 h (As := []) (fr := 5) (lo := 100) (fun a v T hf => w_X1_init l D dA E Hb N a _ T v hf) rfl rfl ⟨Nat.le_of_ble_eq_true rfl, Nat.le_of_ble_eq_true rfl⟩ (xsum (xcatc (va_rf_cat _) xcat0) (Nat.le_of_ble_eq_true rfl)) dL_law_4 (fun S H locs cells slots hG h => ?_)
  refine s_astore_n X (i := 1) (lv' := [(1, va_rf v1), (0, va_rf p0)]) dL_law_7 rfl hl (by decide) rfl (fun ls hl => ?_)
  refine s_new X hG (ci := 3) (q := (RX4, TX4, 61)) tyX4 rfl tyX4_ok df_X4 rfl q1996 q1997 q125 h dL_law_8 (fun v2 S H cells slots hG h => ?_)
  refine lv_dup hx hb dL_law_11 (va_rf_cat _) ?_
  refine s_callI X hG hl.1.1 ciX0_23 h (As := []) (fr := 3) (lo := 66) (fun a v T hf => w_X4_init l D dA E Hb N a _ T v hf) rfl rfl ⟨Nat.le_of_ble_eq_true rfl, Nat.le_of_ble_eq_true rfl⟩ (xsum (xcatc (va_rf_cat _) xcat0) (Nat.le_of_ble_eq_true rfl)) dL_law_12 (fun S H locs cells slots hG h => ?_)
  refine s_astore_n X (i := 2) (lv' := [(2, va_rf v2), (1, va_rf v1), (0, va_rf p0)]) dL_law_15 rfl hl (by decide) rfl (fun ls hl => ?_)
  refine lv_iconst (v := (1 : Int32)) hx hb dL_law_16 (by decide) ?_
  refine s_newarr X hG (kd := 2) (by decide) rfl q2706 h dL_law_17 (fun v3 S H cells slots hG h => ?_)
  refine s_astore_n X (i := 3) (lv' := [(3, va_rf v3), (2, va_rf v2), (1, va_rf v1), (0, va_rf p0)]) dL_law_19 rfl hl (by decide) rfl (fun ls hl => ?_)
  refine lv_iconst (v := (0 : Int32)) hx hb dL_law_20 (by decide) ?_
  refine s_istore X (i := 4) (lv' := [(4, .int (0 : Int32)), (3, va_rf v3), (2, va_rf v2), (1, va_rf v1), (0, va_rf p0)]) dL_law_21 hl (by decide) rfl (fun ls hl => ?_)
  have l23 : ∀ (n : Nat) (x4 : Int32) (S : XS) (H : Heap) (locs : List Loc) (cells slots : Nat) (ls : Array Slot), XG D dA Hb { frames := 8192, cells := S0.2.2.1, slots := S0.2.2.2, locals := 104096 } s S H locs cells slots → lh ls 7 [(0, va_rf p0), (1, va_rf v1), (2, va_rf v2), (3, va_rf v3), (4, .int x4)] → xlp1 (fn_L_law_23 N E p0 v1 v2 v3) n x4 S = some (rv, S') → W p l e { frames := 8192, cells := S0.2.2.1, slots := S0.2.2.2, locals := 104096 } s m ([va_rf p0] : List Value).toArray below meth c H locs cells slots (MBQ D dA Hb below s S0 (some (.int rv)) S') (F0 m 23 ls []) := by
    intro n
    induction n with
    | zero => intro x4 S H locs cells slots ls hG hl h; exact (xlp1_0 h).elim
    | succ n ih23 =>
      intro x4 S H locs cells slots ls hG hl h
      replace h := xlp1_s h
      obtain ⟨kb5, hkb⟩ : ∃ z, z = xlp1 (fn_L_law_23 N E p0 v1 v2 v3) n := ⟨_, rfl⟩
      rw [← hkb] at h ih23
      unfold fn_L_law_23 at h
      refine lv_iload hx hb dL_law_23 (lh_at hl 4 rfl) ?_
      refine s_aload_n X (x := p0) dL_law_25 rfl (lh_at hl 0 rfl) ?_
      refine s_alen X hG h dL_law_26 (fun v6 h => ?_)
      refine lv_bipush (v := (6 : Int32)) hx hb dL_law_27 (by decide) ?_
      refine lv_isub hx hb dL_law_29 ?_
      refine s_ic_gt X h dL_law_30 (tgt := 2331) (by decide) (fun h => ?_) (fun h => ?_)
      · refine lv_iconst (v := (1 : Int32)) hx hb dL_law_2331 (by decide) ?_
        exact s_zret X hG (t := 1) hr hlocks h dL_law_2332
      · refine s_aload_n X (x := p0) dL_law_33 rfl (lh_at hl 0 rfl) ?_
        refine lv_iload hx hb dL_law_34 (lh_at hl 4 rfl) ?_
        refine s_iald X hG h dL_law_36 (fun v7 h => ?_)
        refine lv_bipush (v := (63 : Int32)) hx hb dL_law_37 (by decide) ?_
        refine lv_iand hx hb dL_law_39 ?_
        have j2325 : ∀ (S : XS) (H : Heap) (locs : List Loc) (cells slots : Nat) (ls : Array Slot), XG D dA Hb { frames := 8192, cells := S0.2.2.1, slots := S0.2.2.2, locals := 104096 } s S H locs cells slots → lh ls 7 [(0, va_rf p0), (1, va_rf v1), (2, va_rf v2), (3, va_rf v3), (4, .int x4)] → fn_L_law_2325 N E kb5 x4 S = some (rv, S') → W p l e { frames := 8192, cells := S0.2.2.1, slots := S0.2.2.2, locals := 104096 } s m ([va_rf p0] : List Value).toArray below meth c H locs cells slots (MBQ D dA Hb below s S0 (some (.int rv)) S') (F0 m 2325 ls []) := by
          intro S H locs cells slots ls hG hl h
          unfold fn_L_law_2325 at h
          refine s_iinc X (i := 4) (v := (x4 + (6 : Int32))) (lv' := [(4, .int (x4 + (6 : Int32))), (0, va_rf p0), (1, va_rf v1), (2, va_rf v2), (3, va_rf v3)]) dL_law_2325 hl (k := 4) rfl rfl (by decide) rfl (fun ls hl => ?_)
          refine lv_goto (tgt := 23) hx hb dL_law_2328 (by decide) ?_
          exact ih23 _ _ _ _ _ _ _ hG (lh_sub hl [1, 2, 3, 4, 0] rfl) h
        rcases xbr_or h with ⟨k40_0, h⟩ | ⟨k40_0, h⟩
        · refine lv_tableIn hx hb dL_law_40 (by rw [k40_0]; decide) (by rw [k40_0]; decide) (off := 236) (tgt := 276) (by rw [k40_0]; decide +kernel) (by decide) ?_
          refine s_aload_n X (x := v1) dL_law_276 rfl (lh_at hl 1 rfl) ?_
          refine s_aload_n X (x := p0) dL_law_277 rfl (lh_at hl 0 rfl) ?_
          refine lv_iload hx hb dL_law_278 (lh_at hl 4 rfl) ?_
          refine lv_iconst (v := (1 : Int32)) hx hb dL_law_280 (by decide) ?_
          refine lv_iadd hx hb dL_law_281 ?_
          refine s_iald X hG h dL_law_282 (fun v8 h => ?_)
          refine s_aload_n X (x := p0) dL_law_283 rfl (lh_at hl 0 rfl) ?_
          refine lv_iload hx hb dL_law_284 (lh_at hl 4 rfl) ?_
          refine lv_iconst (v := (2 : Int32)) hx hb dL_law_286 (by decide) ?_
          refine lv_iadd hx hb dL_law_287 ?_
          refine s_iald X hG h dL_law_288 (fun v9 h => ?_)
          refine s_aload_n X (x := p0) dL_law_289 rfl (lh_at hl 0 rfl) ?_
          refine lv_iload hx hb dL_law_290 (lh_at hl 4 rfl) ?_
          refine lv_iconst (v := (3 : Int32)) hx hb dL_law_292 (by decide) ?_
          refine lv_iadd hx hb dL_law_293 ?_
          refine s_iald X hG h dL_law_294 (fun v10 h => ?_)
          refine s_aload_n X (x := p0) dL_law_295 rfl (lh_at hl 0 rfl) ?_
          refine lv_iload hx hb dL_law_296 (lh_at hl 4 rfl) ?_
          refine lv_iconst (v := (4 : Int32)) hx hb dL_law_298 (by decide) ?_
          refine lv_iadd hx hb dL_law_299 ?_
          refine s_iald X hG h dL_law_300 (fun v11 h => ?_)
          refine s_aload_n X (x := p0) dL_law_301 rfl (lh_at hl 0 rfl) ?_
          refine lv_iload hx hb dL_law_302 (lh_at hl 4 rfl) ?_
          refine lv_iconst (v := (5 : Int32)) hx hb dL_law_304 (by decide) ?_
          refine lv_iadd hx hb dL_law_305 ?_
          refine s_iald X hG h dL_law_306 (fun v12 h => ?_)
          refine s_callVi X hG hl.1.1 cvX0_24 h (As := [.int v8, .int v9, .int v10, .int v11, .int v12]) (fr := 0) (lo := 0) (fun a v T hf => w_X1_feed l D dA E Hb N a v8 v9 v10 v11 v12 _ T v hf) rfl rfl ⟨Nat.le_of_ble_eq_true rfl, Nat.le_of_ble_eq_true rfl⟩ (xsum xcat0 (Nat.le_of_ble_eq_true rfl)) dL_law_307 (fun v13 S H locs cells slots hG h => ?_)
          refine s_aload_n X (x := v2) dL_law_310 rfl (lh_at hl 2 rfl) ?_
          refine s_aload_n X (x := p0) dL_law_311 rfl (lh_at hl 0 rfl) ?_
          refine lv_iload hx hb dL_law_312 (lh_at hl 4 rfl) ?_
          refine lv_iconst (v := (1 : Int32)) hx hb dL_law_314 (by decide) ?_
          refine lv_iadd hx hb dL_law_315 ?_
          refine s_iald X hG h dL_law_316 (fun v14 h => ?_)
          refine s_aload_n X (x := p0) dL_law_317 rfl (lh_at hl 0 rfl) ?_
          refine lv_iload hx hb dL_law_318 (lh_at hl 4 rfl) ?_
          refine lv_iconst (v := (2 : Int32)) hx hb dL_law_320 (by decide) ?_
          refine lv_iadd hx hb dL_law_321 ?_
          refine s_iald X hG h dL_law_322 (fun v15 h => ?_)
          refine s_aload_n X (x := p0) dL_law_323 rfl (lh_at hl 0 rfl) ?_
          refine lv_iload hx hb dL_law_324 (lh_at hl 4 rfl) ?_
          refine lv_iconst (v := (3 : Int32)) hx hb dL_law_326 (by decide) ?_
          refine lv_iadd hx hb dL_law_327 ?_
          refine s_iald X hG h dL_law_328 (fun v16 h => ?_)
          refine s_aload_n X (x := p0) dL_law_329 rfl (lh_at hl 0 rfl) ?_
          refine lv_iload hx hb dL_law_330 (lh_at hl 4 rfl) ?_
          refine lv_iconst (v := (4 : Int32)) hx hb dL_law_332 (by decide) ?_
          refine lv_iadd hx hb dL_law_333 ?_
          refine s_iald X hG h dL_law_334 (fun v17 h => ?_)
          refine s_aload_n X (x := p0) dL_law_335 rfl (lh_at hl 0 rfl) ?_
          refine lv_iload hx hb dL_law_336 (lh_at hl 4 rfl) ?_
          refine lv_iconst (v := (5 : Int32)) hx hb dL_law_338 (by decide) ?_
          refine lv_iadd hx hb dL_law_339 ?_
          refine s_iald X hG h dL_law_340 (fun v18 h => ?_)
          refine s_callVi X hG hl.1.1 cvX0_28 h (As := [.int v14, .int v15, .int v16, .int v17, .int v18]) (fr := 1) (lo := 22) (fun a v T hf => w_X4_feed l D dA E Hb N a v14 v15 v16 v17 v18 _ T v hf) rfl rfl ⟨Nat.le_of_ble_eq_true rfl, Nat.le_of_ble_eq_true rfl⟩ (xsum (xcatc rfl xcat0) (Nat.le_of_ble_eq_true rfl)) dL_law_341 (fun v19 S H locs cells slots hG h => ?_)
          refine s_ic_eq X h dL_law_344 (tgt := 2325) (by decide) (fun h => ?_) (fun h => ?_)
          · exact j2325 _ _ _ _ _ _ hG (lh_sub hl [0, 1, 2, 3, 4] rfl) h
          · refine lv_iconst (v := (0 : Int32)) hx hb dL_law_347 (by decide) ?_
            exact s_zret X hG (t := 1) hr hlocks h dL_law_348
        · rcases xbr_or h with ⟨k40_1, h⟩ | ⟨k40_1, h⟩
          · refine lv_tableIn hx hb dL_law_40 (by rw [k40_1]; decide) (by rw [k40_1]; decide) (off := 309) (tgt := 349) (by rw [k40_1]; decide +kernel) (by decide) ?_
            refine s_aload_n X (x := v1) dL_law_349 rfl (lh_at hl 1 rfl) ?_
            refine s_aload_n X (x := p0) dL_law_350 rfl (lh_at hl 0 rfl) ?_
            refine lv_iload hx hb dL_law_351 (lh_at hl 4 rfl) ?_
            refine lv_iconst (v := (1 : Int32)) hx hb dL_law_353 (by decide) ?_
            refine lv_iadd hx hb dL_law_354 ?_
            refine s_iald X hG h dL_law_355 (fun v20 h => ?_)
            refine s_callVW X hG hl.1.1 cvX0_29 h (As := [.int v20]) (fr := 11) (lo := 261) (fun a v T hf => w_X1_text l D dA E Hb N a v20 _ T v hf) rfl rfl ⟨Nat.le_of_ble_eq_true rfl, Nat.le_of_ble_eq_true rfl⟩ (xsum xcat0 (Nat.le_of_ble_eq_true rfl)) dL_law_356 (fun v21 S H locs cells slots hG h => ?_)
            refine s_aload_n X (x := v2) dL_law_359 rfl (lh_at hl 2 rfl) ?_
            refine s_aload_n X (x := p0) dL_law_360 rfl (lh_at hl 0 rfl) ?_
            refine lv_iload hx hb dL_law_361 (lh_at hl 4 rfl) ?_
            refine lv_iconst (v := (1 : Int32)) hx hb dL_law_363 (by decide) ?_
            refine lv_iadd hx hb dL_law_364 ?_
            refine s_iald X hG h dL_law_365 (fun v22 h => ?_)
            refine s_callVi X hG hl.1.1 cvX0_33 h (As := [.int v22]) (fr := 8) (lo := 178) (fun a v T hf => w_X4_text l D dA E Hb N a v22 _ T v hf) rfl rfl ⟨Nat.le_of_ble_eq_true rfl, Nat.le_of_ble_eq_true rfl⟩ (xsum (xcatc rfl xcat0) (Nat.le_of_ble_eq_true rfl)) dL_law_366 (fun v23 S H locs cells slots hG h => ?_)
            refine s_ic_eq X h dL_law_369 (tgt := 2325) (by decide) (fun h => ?_) (fun h => ?_)
            · exact j2325 _ _ _ _ _ _ hG (lh_sub hl [0, 1, 2, 3, 4] rfl) h
            · refine lv_iconst (v := (0 : Int32)) hx hb dL_law_372 (by decide) ?_
              exact s_zret X hG (t := 1) hr hlocks h dL_law_373
          · rcases xbr_or h with ⟨k40_2, h⟩ | ⟨k40_2, h⟩
            · refine lv_tableIn hx hb dL_law_40 (by rw [k40_2]; decide) (by rw [k40_2]; decide) (off := 334) (tgt := 374) (by rw [k40_2]; decide +kernel) (by decide) ?_
              refine s_aload_n X (x := v1) dL_law_374 rfl (lh_at hl 1 rfl) ?_
              refine s_aload_n X (x := p0) dL_law_375 rfl (lh_at hl 0 rfl) ?_
              refine lv_iload hx hb dL_law_376 (lh_at hl 4 rfl) ?_
              refine lv_iconst (v := (1 : Int32)) hx hb dL_law_378 (by decide) ?_
              refine lv_iadd hx hb dL_law_379 ?_
              refine s_iald X hG h dL_law_380 (fun v24 h => ?_)
              refine s_callVi X hG hl.1.1 cvX0_34 h (As := [.int v24]) (fr := 0) (lo := 0) (fun a v T hf => w_X1_fault l D dA E Hb N a v24 _ T v hf) rfl rfl ⟨Nat.le_of_ble_eq_true rfl, Nat.le_of_ble_eq_true rfl⟩ (xsum xcat0 (Nat.le_of_ble_eq_true rfl)) dL_law_381 (fun v25 S H locs cells slots hG h => ?_)
              refine s_aload_n X (x := v2) dL_law_384 rfl (lh_at hl 2 rfl) ?_
              refine s_aload_n X (x := p0) dL_law_385 rfl (lh_at hl 0 rfl) ?_
              refine lv_iload hx hb dL_law_386 (lh_at hl 4 rfl) ?_
              refine lv_iconst (v := (1 : Int32)) hx hb dL_law_388 (by decide) ?_
              refine lv_iadd hx hb dL_law_389 ?_
              refine s_iald X hG h dL_law_390 (fun v26 h => ?_)
              refine s_callVi X hG hl.1.1 cvX0_37 h (As := [.int v26]) (fr := 0) (lo := 0) (fun a v T hf => w_X4_fault l D dA E Hb N a v26 _ T v hf) rfl rfl ⟨Nat.le_of_ble_eq_true rfl, Nat.le_of_ble_eq_true rfl⟩ (xsum (xcatc rfl xcat0) (Nat.le_of_ble_eq_true rfl)) dL_law_391 (fun v27 S H locs cells slots hG h => ?_)
              refine s_ic_eq X h dL_law_394 (tgt := 2325) (by decide) (fun h => ?_) (fun h => ?_)
              · exact j2325 _ _ _ _ _ _ hG (lh_sub hl [0, 1, 2, 3, 4] rfl) h
              · refine lv_iconst (v := (0 : Int32)) hx hb dL_law_397 (by decide) ?_
                exact s_zret X hG (t := 1) hr hlocks h dL_law_398
            · rcases xbr_or h with ⟨k40_3, h⟩ | ⟨k40_3, h⟩
              · refine lv_tableIn hx hb dL_law_40 (by rw [k40_3]; decide) (by rw [k40_3]; decide) (off := 359) (tgt := 399) (by rw [k40_3]; decide +kernel) (by decide) ?_
                refine s_aload_n X (x := v1) dL_law_399 rfl (lh_at hl 1 rfl) ?_
                refine s_aload_n X (x := p0) dL_law_400 rfl (lh_at hl 0 rfl) ?_
                refine lv_iload hx hb dL_law_401 (lh_at hl 4 rfl) ?_
                refine lv_iconst (v := (1 : Int32)) hx hb dL_law_403 (by decide) ?_
                refine lv_iadd hx hb dL_law_404 ?_
                refine s_iald X hG h dL_law_405 (fun v28 h => ?_)
                refine s_aload_n X (x := p0) dL_law_406 rfl (lh_at hl 0 rfl) ?_
                refine lv_iload hx hb dL_law_407 (lh_at hl 4 rfl) ?_
                refine lv_iconst (v := (2 : Int32)) hx hb dL_law_409 (by decide) ?_
                refine lv_iadd hx hb dL_law_410 ?_
                refine s_iald X hG h dL_law_411 (fun v29 h => ?_)
                refine s_aload_n X (x := v3) dL_law_412 rfl (lh_at hl 3 rfl) ?_
                refine s_callSW X hG hl.1.1 csX0_38 h (As := [va_rf v1, .int v28, .int v29, va_rf v3]) (fr := 7) (lo := 115) (fun v T hf => w_X0_place l D dA E Hb N hst v1 v28 v29 v3 _ T v hf) rfl rfl ⟨Nat.le_of_ble_eq_true rfl, Nat.le_of_ble_eq_true rfl⟩ (xsum xcat0 (Nat.le_of_ble_eq_true rfl)) dL_law_413 (fun v30 S H locs cells slots hG h => ?_)
                refine s_istore X (i := 5) (lv' := [(5, .int v30), (0, va_rf p0), (1, va_rf v1), (2, va_rf v2), (3, va_rf v3), (4, .int x4)]) dL_law_416 hl (by decide) rfl (fun ls hl => ?_)
                refine s_aload_n X (x := v2) dL_law_418 rfl (lh_at hl 3 rfl) ?_
                refine s_aload_n X (x := p0) dL_law_419 rfl (lh_at hl 1 rfl) ?_
                refine lv_iload hx hb dL_law_420 (lh_at hl 5 rfl) ?_
                refine lv_iconst (v := (1 : Int32)) hx hb dL_law_422 (by decide) ?_
                refine lv_iadd hx hb dL_law_423 ?_
                refine s_iald X hG h dL_law_424 (fun v31 h => ?_)
                refine s_aload_n X (x := p0) dL_law_425 rfl (lh_at hl 1 rfl) ?_
                refine lv_iload hx hb dL_law_426 (lh_at hl 5 rfl) ?_
                refine lv_iconst (v := (2 : Int32)) hx hb dL_law_428 (by decide) ?_
                refine lv_iadd hx hb dL_law_429 ?_
                refine s_iald X hG h dL_law_430 (fun v32 h => ?_)
                refine s_callVi X hG hl.1.1 cvX0_43 h (As := [.int v31, .int v32]) (fr := 2) (lo := 43) (fun a v T hf => w_X4_place l D dA E Hb N a v31 v32 _ T v hf) rfl rfl ⟨Nat.le_of_ble_eq_true rfl, Nat.le_of_ble_eq_true rfl⟩ (xsum xcat0 (Nat.le_of_ble_eq_true rfl)) dL_law_431 (fun v33 S H locs cells slots hG h => ?_)
                refine s_istore X (i := 6) (lv' := [(6, .int v33), (5, .int v30), (0, va_rf p0), (1, va_rf v1), (2, va_rf v2), (3, va_rf v3), (4, .int x4)]) dL_law_434 hl (by decide) rfl (fun ls hl => ?_)
                refine s_aload_n X (x := v2) dL_law_436 rfl (lh_at hl 4 rfl) ?_
                refine s_callVi X hG hl.1.1 cvX0_44 h (As := []) (fr := 0) (lo := 0) (fun a v T hf => w_X4_thrown l D dA E Hb N a _ T v hf) rfl rfl ⟨Nat.le_of_ble_eq_true rfl, Nat.le_of_ble_eq_true rfl⟩ (xsum xcat0 (Nat.le_of_ble_eq_true rfl)) dL_law_437 (fun v34 S H locs cells slots hG h => ?_)
                refine lv_iload hx hb dL_law_440 (lh_at hl 1 rfl) ?_
                refine s_ic_eq X h dL_law_442 (tgt := 447) (by decide) (fun h => ?_) (fun h => ?_)
                · refine lv_iload hx hb dL_law_447 (lh_at hl 1 rfl) ?_
                  have j464 : ∀ (S : XS) (H : Heap) (locs : List Loc) (cells slots : Nat) (ls : Array Slot), XG D dA Hb { frames := 8192, cells := S0.2.2.1, slots := S0.2.2.2, locals := 104096 } s S H locs cells slots → lh ls 7 [(0, va_rf p0), (1, va_rf v1), (2, va_rf v2), (3, va_rf v3), (4, .int x4)] → fn_L_law_464 N E kb5 x4 S = some (rv, S') → W p l e { frames := 8192, cells := S0.2.2.1, slots := S0.2.2.2, locals := 104096 } s m ([va_rf p0] : List Value).toArray below meth c H locs cells slots (MBQ D dA Hb below s S0 (some (.int rv)) S') (F0 m 464 ls []) := by
                    intro S H locs cells slots ls hG hl h
                    unfold fn_L_law_464 at h
                    refine lv_goto (tgt := 2325) hx hb dL_law_464 (by decide) ?_
                    exact j2325 _ _ _ _ _ _ hG (lh_sub hl [0, 1, 2, 3, 4] rfl) h
                  refine s_if_ne X h dL_law_449 (tgt := 464) (by decide) (fun h => ?_) (fun h => ?_)
                  · exact j464 _ _ _ _ _ _ hG (lh_sub hl [2, 3, 4, 5, 6] rfl) h
                  · refine s_aload_n X (x := v3) dL_law_452 rfl (lh_at hl 5 rfl) ?_
                    refine lv_iconst (v := (0 : Int32)) hx hb dL_law_453 (by decide) ?_
                    refine s_lald X hG h dL_law_454 (fun v35 h => ?_)
                    refine lv_iload hx hb dL_law_455 (lh_at hl 0 rfl) ?_
                    refine lv_i2l (v := v33.toInt64) hx hb dL_law_457 rfl ?_
                    refine W.lcmp hx hb dL_law_458 ?_
                    refine s_if_eq X h dL_law_459 (tgt := 464) (by decide) (fun h => ?_) (fun h => ?_)
                    · exact j464 _ _ _ _ _ _ hG (lh_sub hl [2, 3, 4, 5, 6] rfl) h
                    · refine lv_iconst (v := (0 : Int32)) hx hb dL_law_462 (by decide) ?_
                      exact s_zret X hG (t := 1) hr hlocks h dL_law_463
                · refine lv_iconst (v := (0 : Int32)) hx hb dL_law_445 (by decide) ?_
                  exact s_zret X hG (t := 1) hr hlocks h dL_law_446
              · rcases xbr_or h with ⟨k40_4, h⟩ | ⟨k40_4, h⟩
                · refine lv_tableIn hx hb dL_law_40 (by rw [k40_4]; decide) (by rw [k40_4]; decide) (off := 427) (tgt := 467) (by rw [k40_4]; decide +kernel) (by decide) ?_
                  refine s_aload_n X (x := v1) dL_law_467 rfl (lh_at hl 1 rfl) ?_
                  refine s_aload_n X (x := p0) dL_law_468 rfl (lh_at hl 0 rfl) ?_
                  refine lv_iload hx hb dL_law_469 (lh_at hl 4 rfl) ?_
                  refine lv_iconst (v := (1 : Int32)) hx hb dL_law_471 (by decide) ?_
                  refine lv_iadd hx hb dL_law_472 ?_
                  refine s_iald X hG h dL_law_473 (fun v36 h => ?_)
                  refine s_aload_n X (x := p0) dL_law_474 rfl (lh_at hl 0 rfl) ?_
                  refine lv_iload hx hb dL_law_475 (lh_at hl 4 rfl) ?_
                  refine lv_iconst (v := (2 : Int32)) hx hb dL_law_477 (by decide) ?_
                  refine lv_iadd hx hb dL_law_478 ?_
                  refine s_iald X hG h dL_law_479 (fun v37 h => ?_)
                  refine s_aload_n X (x := v3) dL_law_480 rfl (lh_at hl 3 rfl) ?_
                  refine s_callSW X hG hl.1.1 csX0_48 h (As := [va_rf v1, .int v36, .int v37, va_rf v3]) (fr := 7) (lo := 115) (fun v T hf => w_X0_edge l D dA E Hb N hst v1 v36 v37 v3 _ T v hf) rfl rfl ⟨Nat.le_of_ble_eq_true rfl, Nat.le_of_ble_eq_true rfl⟩ (xsum xcat0 (Nat.le_of_ble_eq_true rfl)) dL_law_481 (fun v38 S H locs cells slots hG h => ?_)
                  refine s_istore X (i := 5) (lv' := [(5, .int v38), (0, va_rf p0), (1, va_rf v1), (2, va_rf v2), (3, va_rf v3), (4, .int x4)]) dL_law_484 hl (by decide) rfl (fun ls hl => ?_)
                  refine s_aload_n X (x := v2) dL_law_486 rfl (lh_at hl 3 rfl) ?_
                  refine s_aload_n X (x := p0) dL_law_487 rfl (lh_at hl 1 rfl) ?_
                  refine lv_iload hx hb dL_law_488 (lh_at hl 5 rfl) ?_
                  refine lv_iconst (v := (1 : Int32)) hx hb dL_law_490 (by decide) ?_
                  refine lv_iadd hx hb dL_law_491 ?_
                  refine s_iald X hG h dL_law_492 (fun v39 h => ?_)
                  refine s_aload_n X (x := p0) dL_law_493 rfl (lh_at hl 1 rfl) ?_
                  refine lv_iload hx hb dL_law_494 (lh_at hl 5 rfl) ?_
                  refine lv_iconst (v := (2 : Int32)) hx hb dL_law_496 (by decide) ?_
                  refine lv_iadd hx hb dL_law_497 ?_
                  refine s_iald X hG h dL_law_498 (fun v40 h => ?_)
                  refine s_callVi X hG hl.1.1 cvX0_50 h (As := [.int v39, .int v40]) (fr := 2) (lo := 43) (fun a v T hf => w_X4_edge l D dA E Hb N a v39 v40 _ T v hf) rfl rfl ⟨Nat.le_of_ble_eq_true rfl, Nat.le_of_ble_eq_true rfl⟩ (xsum xcat0 (Nat.le_of_ble_eq_true rfl)) dL_law_499 (fun v41 S H locs cells slots hG h => ?_)
                  refine s_istore X (i := 6) (lv' := [(6, .int v41), (5, .int v38), (0, va_rf p0), (1, va_rf v1), (2, va_rf v2), (3, va_rf v3), (4, .int x4)]) dL_law_502 hl (by decide) rfl (fun ls hl => ?_)
                  refine s_aload_n X (x := v2) dL_law_504 rfl (lh_at hl 4 rfl) ?_
                  refine s_callVi X hG hl.1.1 cvX0_44 h (As := []) (fr := 0) (lo := 0) (fun a v T hf => w_X4_thrown l D dA E Hb N a _ T v hf) rfl rfl ⟨Nat.le_of_ble_eq_true rfl, Nat.le_of_ble_eq_true rfl⟩ (xsum xcat0 (Nat.le_of_ble_eq_true rfl)) dL_law_505 (fun v42 S H locs cells slots hG h => ?_)
                  refine lv_iload hx hb dL_law_508 (lh_at hl 1 rfl) ?_
                  refine s_ic_eq X h dL_law_510 (tgt := 515) (by decide) (fun h => ?_) (fun h => ?_)
                  · refine lv_iload hx hb dL_law_515 (lh_at hl 1 rfl) ?_
                    have j532 : ∀ (S : XS) (H : Heap) (locs : List Loc) (cells slots : Nat) (ls : Array Slot), XG D dA Hb { frames := 8192, cells := S0.2.2.1, slots := S0.2.2.2, locals := 104096 } s S H locs cells slots → lh ls 7 [(0, va_rf p0), (1, va_rf v1), (2, va_rf v2), (3, va_rf v3), (4, .int x4)] → fn_L_law_532 N E kb5 x4 S = some (rv, S') → W p l e { frames := 8192, cells := S0.2.2.1, slots := S0.2.2.2, locals := 104096 } s m ([va_rf p0] : List Value).toArray below meth c H locs cells slots (MBQ D dA Hb below s S0 (some (.int rv)) S') (F0 m 532 ls []) := by
                      intro S H locs cells slots ls hG hl h
                      unfold fn_L_law_532 at h
                      refine lv_goto (tgt := 2325) hx hb dL_law_532 (by decide) ?_
                      exact j2325 _ _ _ _ _ _ hG (lh_sub hl [0, 1, 2, 3, 4] rfl) h
                    refine s_if_ne X h dL_law_517 (tgt := 532) (by decide) (fun h => ?_) (fun h => ?_)
                    · exact j532 _ _ _ _ _ _ hG (lh_sub hl [2, 3, 4, 5, 6] rfl) h
                    · refine s_aload_n X (x := v3) dL_law_520 rfl (lh_at hl 5 rfl) ?_
                      refine lv_iconst (v := (0 : Int32)) hx hb dL_law_521 (by decide) ?_
                      refine s_lald X hG h dL_law_522 (fun v43 h => ?_)
                      refine lv_iload hx hb dL_law_523 (lh_at hl 0 rfl) ?_
                      refine lv_i2l (v := v41.toInt64) hx hb dL_law_525 rfl ?_
                      refine W.lcmp hx hb dL_law_526 ?_
                      refine s_if_eq X h dL_law_527 (tgt := 532) (by decide) (fun h => ?_) (fun h => ?_)
                      · exact j532 _ _ _ _ _ _ hG (lh_sub hl [2, 3, 4, 5, 6] rfl) h
                      · refine lv_iconst (v := (0 : Int32)) hx hb dL_law_530 (by decide) ?_
                        exact s_zret X hG (t := 1) hr hlocks h dL_law_531
                  · refine lv_iconst (v := (0 : Int32)) hx hb dL_law_513 (by decide) ?_
                    exact s_zret X hG (t := 1) hr hlocks h dL_law_514
                · rcases xbr_or h with ⟨k40_5, h⟩ | ⟨k40_5, h⟩
                  · refine lv_tableIn hx hb dL_law_40 (by rw [k40_5]; decide) (by rw [k40_5]; decide) (off := 495) (tgt := 535) (by rw [k40_5]; decide +kernel) (by decide) ?_
                    refine s_aload_n X (x := v1) dL_law_535 rfl (lh_at hl 1 rfl) ?_
                    refine s_aload_n X (x := p0) dL_law_536 rfl (lh_at hl 0 rfl) ?_
                    refine lv_iload hx hb dL_law_537 (lh_at hl 4 rfl) ?_
                    refine lv_iconst (v := (1 : Int32)) hx hb dL_law_539 (by decide) ?_
                    refine lv_iadd hx hb dL_law_540 ?_
                    refine s_iald X hG h dL_law_541 (fun v44 h => ?_)
                    refine s_aload_n X (x := p0) dL_law_542 rfl (lh_at hl 0 rfl) ?_
                    refine lv_iload hx hb dL_law_543 (lh_at hl 4 rfl) ?_
                    refine lv_iconst (v := (2 : Int32)) hx hb dL_law_545 (by decide) ?_
                    refine lv_iadd hx hb dL_law_546 ?_
                    refine s_iald X hG h dL_law_547 (fun v45 h => ?_)
                    refine s_aload_n X (x := p0) dL_law_548 rfl (lh_at hl 0 rfl) ?_
                    refine lv_iload hx hb dL_law_549 (lh_at hl 4 rfl) ?_
                    refine lv_iconst (v := (3 : Int32)) hx hb dL_law_551 (by decide) ?_
                    refine lv_iadd hx hb dL_law_552 ?_
                    refine s_iald X hG h dL_law_553 (fun v46 h => ?_)
                    refine s_callVi X hG hl.1.1 cvX0_51 h (As := [.int v44, .int v45, .int v46]) (fr := 3) (lo := 64) (fun a v T hf => w_X1_when l D dA E Hb N a v44 v45 v46 _ T v hf) rfl rfl ⟨Nat.le_of_ble_eq_true rfl, Nat.le_of_ble_eq_true rfl⟩ (xsum xcat0 (Nat.le_of_ble_eq_true rfl)) dL_law_554 (fun v47 S H locs cells slots hG h => ?_)
                    refine s_aload_n X (x := v2) dL_law_557 rfl (lh_at hl 2 rfl) ?_
                    refine s_aload_n X (x := p0) dL_law_558 rfl (lh_at hl 0 rfl) ?_
                    refine lv_iload hx hb dL_law_559 (lh_at hl 4 rfl) ?_
                    refine lv_iconst (v := (1 : Int32)) hx hb dL_law_561 (by decide) ?_
                    refine lv_iadd hx hb dL_law_562 ?_
                    refine s_iald X hG h dL_law_563 (fun v48 h => ?_)
                    refine s_aload_n X (x := p0) dL_law_564 rfl (lh_at hl 0 rfl) ?_
                    refine lv_iload hx hb dL_law_565 (lh_at hl 4 rfl) ?_
                    refine lv_iconst (v := (2 : Int32)) hx hb dL_law_567 (by decide) ?_
                    refine lv_iadd hx hb dL_law_568 ?_
                    refine s_iald X hG h dL_law_569 (fun v49 h => ?_)
                    refine s_aload_n X (x := p0) dL_law_570 rfl (lh_at hl 0 rfl) ?_
                    refine lv_iload hx hb dL_law_571 (lh_at hl 4 rfl) ?_
                    refine lv_iconst (v := (3 : Int32)) hx hb dL_law_573 (by decide) ?_
                    refine lv_iadd hx hb dL_law_574 ?_
                    refine s_iald X hG h dL_law_575 (fun v50 h => ?_)
                    refine s_callVi X hG hl.1.1 cvX0_55 h (As := [.int v48, .int v49, .int v50]) (fr := 2) (lo := 43) (fun a v T hf => w_X4_when l D dA E Hb N a v48 v49 v50 _ T v hf) rfl rfl ⟨Nat.le_of_ble_eq_true rfl, Nat.le_of_ble_eq_true rfl⟩ (xsum (xcatc rfl xcat0) (Nat.le_of_ble_eq_true rfl)) dL_law_576 (fun v51 S H locs cells slots hG h => ?_)
                    refine s_ic_eq X h dL_law_579 (tgt := 2325) (by decide) (fun h => ?_) (fun h => ?_)
                    · exact j2325 _ _ _ _ _ _ hG (lh_sub hl [0, 1, 2, 3, 4] rfl) h
                    · refine lv_iconst (v := (0 : Int32)) hx hb dL_law_582 (by decide) ?_
                      exact s_zret X hG (t := 1) hr hlocks h dL_law_583
                  · rcases xbr_or h with ⟨k40_6, h⟩ | ⟨k40_6, h⟩
                    · refine lv_tableIn hx hb dL_law_40 (by rw [k40_6]; decide) (by rw [k40_6]; decide) (off := 544) (tgt := 584) (by rw [k40_6]; decide +kernel) (by decide) ?_
                      refine s_aload_n X (x := v1) dL_law_584 rfl (lh_at hl 1 rfl) ?_
                      refine s_aload_n X (x := p0) dL_law_585 rfl (lh_at hl 0 rfl) ?_
                      refine lv_iload hx hb dL_law_586 (lh_at hl 4 rfl) ?_
                      refine lv_iconst (v := (1 : Int32)) hx hb dL_law_588 (by decide) ?_
                      refine lv_iadd hx hb dL_law_589 ?_
                      refine s_iald X hG h dL_law_590 (fun v52 h => ?_)
                      refine s_aload_n X (x := p0) dL_law_591 rfl (lh_at hl 0 rfl) ?_
                      refine lv_iload hx hb dL_law_592 (lh_at hl 4 rfl) ?_
                      refine lv_iconst (v := (2 : Int32)) hx hb dL_law_594 (by decide) ?_
                      refine lv_iadd hx hb dL_law_595 ?_
                      refine s_iald X hG h dL_law_596 (fun v53 h => ?_)
                      refine s_aload_n X (x := p0) dL_law_597 rfl (lh_at hl 0 rfl) ?_
                      refine lv_iload hx hb dL_law_598 (lh_at hl 4 rfl) ?_
                      refine lv_iconst (v := (3 : Int32)) hx hb dL_law_600 (by decide) ?_
                      refine lv_iadd hx hb dL_law_601 ?_
                      refine s_iald X hG h dL_law_602 (fun v54 h => ?_)
                      refine s_callVi X hG hl.1.1 cvX0_56 h (As := [.int v52, .int v53, .int v54]) (fr := 3) (lo := 64) (fun a v T hf => w_X1_set l D dA E Hb N a v52 v53 v54 _ T v hf) rfl rfl ⟨Nat.le_of_ble_eq_true rfl, Nat.le_of_ble_eq_true rfl⟩ (xsum xcat0 (Nat.le_of_ble_eq_true rfl)) dL_law_603 (fun v55 S H locs cells slots hG h => ?_)
                      refine s_aload_n X (x := v2) dL_law_606 rfl (lh_at hl 2 rfl) ?_
                      refine s_aload_n X (x := p0) dL_law_607 rfl (lh_at hl 0 rfl) ?_
                      refine lv_iload hx hb dL_law_608 (lh_at hl 4 rfl) ?_
                      refine lv_iconst (v := (1 : Int32)) hx hb dL_law_610 (by decide) ?_
                      refine lv_iadd hx hb dL_law_611 ?_
                      refine s_iald X hG h dL_law_612 (fun v56 h => ?_)
                      refine s_aload_n X (x := p0) dL_law_613 rfl (lh_at hl 0 rfl) ?_
                      refine lv_iload hx hb dL_law_614 (lh_at hl 4 rfl) ?_
                      refine lv_iconst (v := (2 : Int32)) hx hb dL_law_616 (by decide) ?_
                      refine lv_iadd hx hb dL_law_617 ?_
                      refine s_iald X hG h dL_law_618 (fun v57 h => ?_)
                      refine s_aload_n X (x := p0) dL_law_619 rfl (lh_at hl 0 rfl) ?_
                      refine lv_iload hx hb dL_law_620 (lh_at hl 4 rfl) ?_
                      refine lv_iconst (v := (3 : Int32)) hx hb dL_law_622 (by decide) ?_
                      refine lv_iadd hx hb dL_law_623 ?_
                      refine s_iald X hG h dL_law_624 (fun v58 h => ?_)
                      refine s_callVi X hG hl.1.1 cvX0_59 h (As := [.int v56, .int v57, .int v58]) (fr := 2) (lo := 43) (fun a v T hf => w_X4_set l D dA E Hb N a v56 v57 v58 _ T v hf) rfl rfl ⟨Nat.le_of_ble_eq_true rfl, Nat.le_of_ble_eq_true rfl⟩ (xsum (xcatc rfl xcat0) (Nat.le_of_ble_eq_true rfl)) dL_law_625 (fun v59 S H locs cells slots hG h => ?_)
                      refine s_ic_eq X h dL_law_628 (tgt := 2325) (by decide) (fun h => ?_) (fun h => ?_)
                      · exact j2325 _ _ _ _ _ _ hG (lh_sub hl [0, 1, 2, 3, 4] rfl) h
                      · refine lv_iconst (v := (0 : Int32)) hx hb dL_law_631 (by decide) ?_
                        exact s_zret X hG (t := 1) hr hlocks h dL_law_632
                    · rcases xbr_or h with ⟨k40_7, h⟩ | ⟨k40_7, h⟩
                      · refine lv_tableIn hx hb dL_law_40 (by rw [k40_7]; decide) (by rw [k40_7]; decide) (off := 593) (tgt := 633) (by rw [k40_7]; decide +kernel) (by decide) ?_
                        refine s_aload_n X (x := v1) dL_law_633 rfl (lh_at hl 1 rfl) ?_
                        refine s_aload_n X (x := p0) dL_law_634 rfl (lh_at hl 0 rfl) ?_
                        refine lv_iload hx hb dL_law_635 (lh_at hl 4 rfl) ?_
                        refine lv_iconst (v := (1 : Int32)) hx hb dL_law_637 (by decide) ?_
                        refine lv_iadd hx hb dL_law_638 ?_
                        refine s_iald X hG h dL_law_639 (fun v60 h => ?_)
                        refine s_callVi X hG hl.1.1 cvX0_60 h (As := [.int v60]) (fr := 2) (lo := 43) (fun a v T hf => w_X1_great l D dA E Hb N a v60 _ T v hf) rfl rfl ⟨Nat.le_of_ble_eq_true rfl, Nat.le_of_ble_eq_true rfl⟩ (xsum xcat0 (Nat.le_of_ble_eq_true rfl)) dL_law_640 (fun v61 S H locs cells slots hG h => ?_)
                        refine s_aload_n X (x := v2) dL_law_643 rfl (lh_at hl 2 rfl) ?_
                        refine s_aload_n X (x := p0) dL_law_644 rfl (lh_at hl 0 rfl) ?_
                        refine lv_iload hx hb dL_law_645 (lh_at hl 4 rfl) ?_
                        refine lv_iconst (v := (1 : Int32)) hx hb dL_law_647 (by decide) ?_
                        refine lv_iadd hx hb dL_law_648 ?_
                        refine s_iald X hG h dL_law_649 (fun v62 h => ?_)
                        refine s_callVi X hG hl.1.1 cvX0_63 h (As := [.int v62]) (fr := 2) (lo := 43) (fun a v T hf => w_X4_great l D dA E Hb N a v62 _ T v hf) rfl rfl ⟨Nat.le_of_ble_eq_true rfl, Nat.le_of_ble_eq_true rfl⟩ (xsum (xcatc rfl xcat0) (Nat.le_of_ble_eq_true rfl)) dL_law_650 (fun v63 S H locs cells slots hG h => ?_)
                        refine s_ic_eq X h dL_law_653 (tgt := 2325) (by decide) (fun h => ?_) (fun h => ?_)
                        · exact j2325 _ _ _ _ _ _ hG (lh_sub hl [0, 1, 2, 3, 4] rfl) h
                        · refine lv_iconst (v := (0 : Int32)) hx hb dL_law_656 (by decide) ?_
                          exact s_zret X hG (t := 1) hr hlocks h dL_law_657
                      · rcases xbr_or h with ⟨k40_8, h⟩ | ⟨k40_8, h⟩
                        · refine lv_tableIn hx hb dL_law_40 (by rw [k40_8]; decide) (by rw [k40_8]; decide) (off := 618) (tgt := 658) (by rw [k40_8]; decide +kernel) (by decide) ?_
                          refine s_aload_n X (x := v1) dL_law_658 rfl (lh_at hl 1 rfl) ?_
                          refine s_aload_n X (x := p0) dL_law_659 rfl (lh_at hl 0 rfl) ?_
                          refine lv_iload hx hb dL_law_660 (lh_at hl 4 rfl) ?_
                          refine lv_iconst (v := (1 : Int32)) hx hb dL_law_662 (by decide) ?_
                          refine lv_iadd hx hb dL_law_663 ?_
                          refine s_iald X hG h dL_law_664 (fun v64 h => ?_)
                          refine s_aload_n X (x := p0) dL_law_665 rfl (lh_at hl 0 rfl) ?_
                          refine lv_iload hx hb dL_law_666 (lh_at hl 4 rfl) ?_
                          refine lv_iconst (v := (2 : Int32)) hx hb dL_law_668 (by decide) ?_
                          refine lv_iadd hx hb dL_law_669 ?_
                          refine s_iald X hG h dL_law_670 (fun v65 h => ?_)
                          refine s_callVi X hG hl.1.1 cvX0_64 h (As := [.int v64, .int v65]) (fr := 7) (lo := 177) (fun a v T hf => w_X1_lay l D dA E Hb N a v64 v65 _ T v hf) rfl rfl ⟨Nat.le_of_ble_eq_true rfl, Nat.le_of_ble_eq_true rfl⟩ (xsum xcat0 (Nat.le_of_ble_eq_true rfl)) dL_law_671 (fun v66 S H locs cells slots hG h => ?_)
                          refine s_aload_n X (x := v2) dL_law_674 rfl (lh_at hl 2 rfl) ?_
                          refine s_aload_n X (x := p0) dL_law_675 rfl (lh_at hl 0 rfl) ?_
                          refine lv_iload hx hb dL_law_676 (lh_at hl 4 rfl) ?_
                          refine lv_iconst (v := (1 : Int32)) hx hb dL_law_678 (by decide) ?_
                          refine lv_iadd hx hb dL_law_679 ?_
                          refine s_iald X hG h dL_law_680 (fun v67 h => ?_)
                          refine s_aload_n X (x := p0) dL_law_681 rfl (lh_at hl 0 rfl) ?_
                          refine lv_iload hx hb dL_law_682 (lh_at hl 4 rfl) ?_
                          refine lv_iconst (v := (2 : Int32)) hx hb dL_law_684 (by decide) ?_
                          refine lv_iadd hx hb dL_law_685 ?_
                          refine s_iald X hG h dL_law_686 (fun v68 h => ?_)
                          refine s_callVi X hG hl.1.1 cvX0_68 h (As := [.int v67, .int v68]) (fr := 3) (lo := 66) (fun a v T hf => w_X4_lay l D dA E Hb N a v67 v68 _ T v hf) rfl rfl ⟨Nat.le_of_ble_eq_true rfl, Nat.le_of_ble_eq_true rfl⟩ (xsum (xcatc rfl xcat0) (Nat.le_of_ble_eq_true rfl)) dL_law_687 (fun v69 S H locs cells slots hG h => ?_)
                          refine s_ic_eq X h dL_law_690 (tgt := 2325) (by decide) (fun h => ?_) (fun h => ?_)
                          · exact j2325 _ _ _ _ _ _ hG (lh_sub hl [0, 1, 2, 3, 4] rfl) h
                          · refine lv_iconst (v := (0 : Int32)) hx hb dL_law_693 (by decide) ?_
                            exact s_zret X hG (t := 1) hr hlocks h dL_law_694
                        · rcases xbr_or h with ⟨k40_9, h⟩ | ⟨k40_9, h⟩
                          · refine lv_tableIn hx hb dL_law_40 (by rw [k40_9]; decide) (by rw [k40_9]; decide) (off := 655) (tgt := 695) (by rw [k40_9]; decide +kernel) (by decide) ?_
                            refine s_aload_n X (x := v1) dL_law_695 rfl (lh_at hl 1 rfl) ?_
                            refine s_aload_n X (x := p0) dL_law_696 rfl (lh_at hl 0 rfl) ?_
                            refine lv_iload hx hb dL_law_697 (lh_at hl 4 rfl) ?_
                            refine lv_iconst (v := (1 : Int32)) hx hb dL_law_699 (by decide) ?_
                            refine lv_iadd hx hb dL_law_700 ?_
                            refine s_iald X hG h dL_law_701 (fun v70 h => ?_)
                            refine s_aload_n X (x := p0) dL_law_702 rfl (lh_at hl 0 rfl) ?_
                            refine lv_iload hx hb dL_law_703 (lh_at hl 4 rfl) ?_
                            refine lv_iconst (v := (2 : Int32)) hx hb dL_law_705 (by decide) ?_
                            refine lv_iadd hx hb dL_law_706 ?_
                            refine s_iald X hG h dL_law_707 (fun v71 h => ?_)
                            refine s_aload_n X (x := p0) dL_law_708 rfl (lh_at hl 0 rfl) ?_
                            refine lv_iload hx hb dL_law_709 (lh_at hl 4 rfl) ?_
                            refine lv_iconst (v := (3 : Int32)) hx hb dL_law_711 (by decide) ?_
                            refine lv_iadd hx hb dL_law_712 ?_
                            refine s_iald X hG h dL_law_713 (fun v72 h => ?_)
                            refine s_aload_n X (x := p0) dL_law_714 rfl (lh_at hl 0 rfl) ?_
                            refine lv_iload hx hb dL_law_715 (lh_at hl 4 rfl) ?_
                            refine lv_iconst (v := (4 : Int32)) hx hb dL_law_717 (by decide) ?_
                            refine lv_iadd hx hb dL_law_718 ?_
                            refine s_iald X hG h dL_law_719 (fun v73 h => ?_)
                            refine s_aload_n X (x := p0) dL_law_720 rfl (lh_at hl 0 rfl) ?_
                            refine lv_iload hx hb dL_law_721 (lh_at hl 4 rfl) ?_
                            refine lv_iconst (v := (5 : Int32)) hx hb dL_law_723 (by decide) ?_
                            refine lv_iadd hx hb dL_law_724 ?_
                            refine s_iald X hG h dL_law_725 (fun v74 h => ?_)
                            refine s_callVi X hG hl.1.1 cvX0_69 h (As := [.int v70, .int v71, .int v72, .int v73, .int v74]) (fr := 7) (lo := 177) (fun a v T hf => w_X1_meet l D dA E Hb N a v70 v71 v72 v73 v74 _ T v hf) rfl rfl ⟨Nat.le_of_ble_eq_true rfl, Nat.le_of_ble_eq_true rfl⟩ (xsum xcat0 (Nat.le_of_ble_eq_true rfl)) dL_law_726 (fun v75 S H locs cells slots hG h => ?_)
                            refine s_aload_n X (x := v2) dL_law_729 rfl (lh_at hl 2 rfl) ?_
                            refine s_aload_n X (x := p0) dL_law_730 rfl (lh_at hl 0 rfl) ?_
                            refine lv_iload hx hb dL_law_731 (lh_at hl 4 rfl) ?_
                            refine lv_iconst (v := (1 : Int32)) hx hb dL_law_733 (by decide) ?_
                            refine lv_iadd hx hb dL_law_734 ?_
                            refine s_iald X hG h dL_law_735 (fun v76 h => ?_)
                            refine s_aload_n X (x := p0) dL_law_736 rfl (lh_at hl 0 rfl) ?_
                            refine lv_iload hx hb dL_law_737 (lh_at hl 4 rfl) ?_
                            refine lv_iconst (v := (2 : Int32)) hx hb dL_law_739 (by decide) ?_
                            refine lv_iadd hx hb dL_law_740 ?_
                            refine s_iald X hG h dL_law_741 (fun v77 h => ?_)
                            refine s_aload_n X (x := p0) dL_law_742 rfl (lh_at hl 0 rfl) ?_
                            refine lv_iload hx hb dL_law_743 (lh_at hl 4 rfl) ?_
                            refine lv_iconst (v := (3 : Int32)) hx hb dL_law_745 (by decide) ?_
                            refine lv_iadd hx hb dL_law_746 ?_
                            refine s_iald X hG h dL_law_747 (fun v78 h => ?_)
                            refine s_aload_n X (x := p0) dL_law_748 rfl (lh_at hl 0 rfl) ?_
                            refine lv_iload hx hb dL_law_749 (lh_at hl 4 rfl) ?_
                            refine lv_iconst (v := (4 : Int32)) hx hb dL_law_751 (by decide) ?_
                            refine lv_iadd hx hb dL_law_752 ?_
                            refine s_iald X hG h dL_law_753 (fun v79 h => ?_)
                            refine s_aload_n X (x := p0) dL_law_754 rfl (lh_at hl 0 rfl) ?_
                            refine lv_iload hx hb dL_law_755 (lh_at hl 4 rfl) ?_
                            refine lv_iconst (v := (5 : Int32)) hx hb dL_law_757 (by decide) ?_
                            refine lv_iadd hx hb dL_law_758 ?_
                            refine s_iald X hG h dL_law_759 (fun v80 h => ?_)
                            refine s_callVi X hG hl.1.1 cvX0_72 h (As := [.int v76, .int v77, .int v78, .int v79, .int v80]) (fr := 3) (lo := 70) (fun a v T hf => w_X4_meet l D dA E Hb N a v76 v77 v78 v79 v80 _ T v hf) rfl rfl ⟨Nat.le_of_ble_eq_true rfl, Nat.le_of_ble_eq_true rfl⟩ (xsum (xcatc rfl xcat0) (Nat.le_of_ble_eq_true rfl)) dL_law_760 (fun v81 S H locs cells slots hG h => ?_)
                            refine s_ic_eq X h dL_law_763 (tgt := 2325) (by decide) (fun h => ?_) (fun h => ?_)
                            · exact j2325 _ _ _ _ _ _ hG (lh_sub hl [0, 1, 2, 3, 4] rfl) h
                            · refine lv_iconst (v := (0 : Int32)) hx hb dL_law_766 (by decide) ?_
                              exact s_zret X hG (t := 1) hr hlocks h dL_law_767
                          · rcases xbr_or h with ⟨k40_10, h⟩ | ⟨k40_10, h⟩
                            · refine lv_tableIn hx hb dL_law_40 (by rw [k40_10]; decide) (by rw [k40_10]; decide) (off := 728) (tgt := 768) (by rw [k40_10]; decide +kernel) (by decide) ?_
                              refine s_aload_n X (x := v1) dL_law_768 rfl (lh_at hl 1 rfl) ?_
                              refine s_aload_n X (x := p0) dL_law_769 rfl (lh_at hl 0 rfl) ?_
                              refine lv_iload hx hb dL_law_770 (lh_at hl 4 rfl) ?_
                              refine lv_iconst (v := (1 : Int32)) hx hb dL_law_772 (by decide) ?_
                              refine lv_iadd hx hb dL_law_773 ?_
                              refine s_iald X hG h dL_law_774 (fun v82 h => ?_)
                              refine s_aload_n X (x := p0) dL_law_775 rfl (lh_at hl 0 rfl) ?_
                              refine lv_iload hx hb dL_law_776 (lh_at hl 4 rfl) ?_
                              refine lv_iconst (v := (2 : Int32)) hx hb dL_law_778 (by decide) ?_
                              refine lv_iadd hx hb dL_law_779 ?_
                              refine s_iald X hG h dL_law_780 (fun v83 h => ?_)
                              refine s_callVi X hG hl.1.1 cvX0_73 h (As := [.int v82, .int v83]) (fr := 7) (lo := 177) (fun a v T hf => w_X1_pass l D dA E Hb N a v82 v83 _ T v hf) rfl rfl ⟨Nat.le_of_ble_eq_true rfl, Nat.le_of_ble_eq_true rfl⟩ (xsum xcat0 (Nat.le_of_ble_eq_true rfl)) dL_law_781 (fun v84 S H locs cells slots hG h => ?_)
                              refine s_aload_n X (x := v2) dL_law_784 rfl (lh_at hl 2 rfl) ?_
                              refine s_aload_n X (x := p0) dL_law_785 rfl (lh_at hl 0 rfl) ?_
                              refine lv_iload hx hb dL_law_786 (lh_at hl 4 rfl) ?_
                              refine lv_iconst (v := (1 : Int32)) hx hb dL_law_788 (by decide) ?_
                              refine lv_iadd hx hb dL_law_789 ?_
                              refine s_iald X hG h dL_law_790 (fun v85 h => ?_)
                              refine s_aload_n X (x := p0) dL_law_791 rfl (lh_at hl 0 rfl) ?_
                              refine lv_iload hx hb dL_law_792 (lh_at hl 4 rfl) ?_
                              refine lv_iconst (v := (2 : Int32)) hx hb dL_law_794 (by decide) ?_
                              refine lv_iadd hx hb dL_law_795 ?_
                              refine s_iald X hG h dL_law_796 (fun v86 h => ?_)
                              refine s_callVi X hG hl.1.1 cvX0_76 h (As := [.int v85, .int v86]) (fr := 4) (lo := 90) (fun a v T hf => w_X4_pass l D dA E Hb N a v85 v86 _ T v hf) rfl rfl ⟨Nat.le_of_ble_eq_true rfl, Nat.le_of_ble_eq_true rfl⟩ (xsum (xcatc rfl xcat0) (Nat.le_of_ble_eq_true rfl)) dL_law_797 (fun v87 S H locs cells slots hG h => ?_)
                              refine s_ic_eq X h dL_law_800 (tgt := 2325) (by decide) (fun h => ?_) (fun h => ?_)
                              · exact j2325 _ _ _ _ _ _ hG (lh_sub hl [0, 1, 2, 3, 4] rfl) h
                              · refine lv_iconst (v := (0 : Int32)) hx hb dL_law_803 (by decide) ?_
                                exact s_zret X hG (t := 1) hr hlocks h dL_law_804
                            · rcases xbr_or h with ⟨k40_11, h⟩ | ⟨k40_11, h⟩
                              · refine lv_tableIn hx hb dL_law_40 (by rw [k40_11]; decide) (by rw [k40_11]; decide) (off := 765) (tgt := 805) (by rw [k40_11]; decide +kernel) (by decide) ?_
                                refine s_aload_n X (x := v1) dL_law_805 rfl (lh_at hl 1 rfl) ?_
                                refine s_aload_n X (x := p0) dL_law_806 rfl (lh_at hl 0 rfl) ?_
                                refine lv_iload hx hb dL_law_807 (lh_at hl 4 rfl) ?_
                                refine lv_iconst (v := (1 : Int32)) hx hb dL_law_809 (by decide) ?_
                                refine lv_iadd hx hb dL_law_810 ?_
                                refine s_iald X hG h dL_law_811 (fun v88 h => ?_)
                                refine s_aload_n X (x := p0) dL_law_812 rfl (lh_at hl 0 rfl) ?_
                                refine lv_iload hx hb dL_law_813 (lh_at hl 4 rfl) ?_
                                refine lv_iconst (v := (2 : Int32)) hx hb dL_law_815 (by decide) ?_
                                refine lv_iadd hx hb dL_law_816 ?_
                                refine s_iald X hG h dL_law_817 (fun v89 h => ?_)
                                refine s_aload_n X (x := p0) dL_law_818 rfl (lh_at hl 0 rfl) ?_
                                refine lv_iload hx hb dL_law_819 (lh_at hl 4 rfl) ?_
                                refine lv_iconst (v := (3 : Int32)) hx hb dL_law_821 (by decide) ?_
                                refine lv_iadd hx hb dL_law_822 ?_
                                refine s_iald X hG h dL_law_823 (fun v90 h => ?_)
                                refine s_callVi X hG hl.1.1 cvX0_77 h (As := [.int v88, .int v89, .int v90]) (fr := 7) (lo := 177) (fun a v T hf => w_X1_reset l D dA E Hb N a v88 v89 v90 _ T v hf) rfl rfl ⟨Nat.le_of_ble_eq_true rfl, Nat.le_of_ble_eq_true rfl⟩ (xsum xcat0 (Nat.le_of_ble_eq_true rfl)) dL_law_824 (fun v91 S H locs cells slots hG h => ?_)
                                refine s_aload_n X (x := v2) dL_law_827 rfl (lh_at hl 2 rfl) ?_
                                refine s_aload_n X (x := p0) dL_law_828 rfl (lh_at hl 0 rfl) ?_
                                refine lv_iload hx hb dL_law_829 (lh_at hl 4 rfl) ?_
                                refine lv_iconst (v := (1 : Int32)) hx hb dL_law_831 (by decide) ?_
                                refine lv_iadd hx hb dL_law_832 ?_
                                refine s_iald X hG h dL_law_833 (fun v92 h => ?_)
                                refine s_aload_n X (x := p0) dL_law_834 rfl (lh_at hl 0 rfl) ?_
                                refine lv_iload hx hb dL_law_835 (lh_at hl 4 rfl) ?_
                                refine lv_iconst (v := (2 : Int32)) hx hb dL_law_837 (by decide) ?_
                                refine lv_iadd hx hb dL_law_838 ?_
                                refine s_iald X hG h dL_law_839 (fun v93 h => ?_)
                                refine s_aload_n X (x := p0) dL_law_840 rfl (lh_at hl 0 rfl) ?_
                                refine lv_iload hx hb dL_law_841 (lh_at hl 4 rfl) ?_
                                refine lv_iconst (v := (3 : Int32)) hx hb dL_law_843 (by decide) ?_
                                refine lv_iadd hx hb dL_law_844 ?_
                                refine s_iald X hG h dL_law_845 (fun v94 h => ?_)
                                refine s_callVi X hG hl.1.1 cvX0_80 h (As := [.int v92, .int v93, .int v94]) (fr := 3) (lo := 66) (fun a v T hf => w_X4_reset l D dA E Hb N a v92 v93 v94 _ T v hf) rfl rfl ⟨Nat.le_of_ble_eq_true rfl, Nat.le_of_ble_eq_true rfl⟩ (xsum (xcatc rfl xcat0) (Nat.le_of_ble_eq_true rfl)) dL_law_846 (fun v95 S H locs cells slots hG h => ?_)
                                refine s_ic_eq X h dL_law_849 (tgt := 2325) (by decide) (fun h => ?_) (fun h => ?_)
                                · exact j2325 _ _ _ _ _ _ hG (lh_sub hl [0, 1, 2, 3, 4] rfl) h
                                · refine lv_iconst (v := (0 : Int32)) hx hb dL_law_852 (by decide) ?_
                                  exact s_zret X hG (t := 1) hr hlocks h dL_law_853
                              · rcases xbr_or h with ⟨k40_12, h⟩ | ⟨k40_12, h⟩
                                · refine lv_tableIn hx hb dL_law_40 (by rw [k40_12]; decide) (by rw [k40_12]; decide) (off := 814) (tgt := 854) (by rw [k40_12]; decide +kernel) (by decide) ?_
                                  refine s_aload_n X (x := v1) dL_law_854 rfl (lh_at hl 1 rfl) ?_
                                  refine s_aload_n X (x := p0) dL_law_855 rfl (lh_at hl 0 rfl) ?_
                                  refine lv_iload hx hb dL_law_856 (lh_at hl 4 rfl) ?_
                                  refine lv_iconst (v := (1 : Int32)) hx hb dL_law_858 (by decide) ?_
                                  refine lv_iadd hx hb dL_law_859 ?_
                                  refine s_iald X hG h dL_law_860 (fun v96 h => ?_)
                                  refine s_aload_n X (x := p0) dL_law_861 rfl (lh_at hl 0 rfl) ?_
                                  refine lv_iload hx hb dL_law_862 (lh_at hl 4 rfl) ?_
                                  refine lv_iconst (v := (2 : Int32)) hx hb dL_law_864 (by decide) ?_
                                  refine lv_iadd hx hb dL_law_865 ?_
                                  refine s_iald X hG h dL_law_866 (fun v97 h => ?_)
                                  refine s_callVi X hG hl.1.1 cvX0_81 h (As := [.int v96, .int v97]) (fr := 7) (lo := 177) (fun a v T hf => w_X1_free l D dA E Hb N a v96 v97 _ T v hf) rfl rfl ⟨Nat.le_of_ble_eq_true rfl, Nat.le_of_ble_eq_true rfl⟩ (xsum xcat0 (Nat.le_of_ble_eq_true rfl)) dL_law_867 (fun v98 S H locs cells slots hG h => ?_)
                                  refine s_aload_n X (x := v2) dL_law_870 rfl (lh_at hl 2 rfl) ?_
                                  refine s_aload_n X (x := p0) dL_law_871 rfl (lh_at hl 0 rfl) ?_
                                  refine lv_iload hx hb dL_law_872 (lh_at hl 4 rfl) ?_
                                  refine lv_iconst (v := (1 : Int32)) hx hb dL_law_874 (by decide) ?_
                                  refine lv_iadd hx hb dL_law_875 ?_
                                  refine s_iald X hG h dL_law_876 (fun v99 h => ?_)
                                  refine s_aload_n X (x := p0) dL_law_877 rfl (lh_at hl 0 rfl) ?_
                                  refine lv_iload hx hb dL_law_878 (lh_at hl 4 rfl) ?_
                                  refine lv_iconst (v := (2 : Int32)) hx hb dL_law_880 (by decide) ?_
                                  refine lv_iadd hx hb dL_law_881 ?_
                                  refine s_iald X hG h dL_law_882 (fun v100 h => ?_)
                                  refine s_callVi X hG hl.1.1 cvX0_84 h (As := [.int v99, .int v100]) (fr := 3) (lo := 66) (fun a v T hf => w_X4_free l D dA E Hb N a v99 v100 _ T v hf) rfl rfl ⟨Nat.le_of_ble_eq_true rfl, Nat.le_of_ble_eq_true rfl⟩ (xsum (xcatc rfl xcat0) (Nat.le_of_ble_eq_true rfl)) dL_law_883 (fun v101 S H locs cells slots hG h => ?_)
                                  refine s_ic_eq X h dL_law_886 (tgt := 2325) (by decide) (fun h => ?_) (fun h => ?_)
                                  · exact j2325 _ _ _ _ _ _ hG (lh_sub hl [0, 1, 2, 3, 4] rfl) h
                                  · refine lv_iconst (v := (0 : Int32)) hx hb dL_law_889 (by decide) ?_
                                    exact s_zret X hG (t := 1) hr hlocks h dL_law_890
                                · rcases xbr_or h with ⟨k40_13, h⟩ | ⟨k40_13, h⟩
                                  · refine lv_tableIn hx hb dL_law_40 (by rw [k40_13]; decide) (by rw [k40_13]; decide) (off := 851) (tgt := 891) (by rw [k40_13]; decide +kernel) (by decide) ?_
                                    refine s_aload_n X (x := v1) dL_law_891 rfl (lh_at hl 1 rfl) ?_
                                    refine s_aload_n X (x := p0) dL_law_892 rfl (lh_at hl 0 rfl) ?_
                                    refine lv_iload hx hb dL_law_893 (lh_at hl 4 rfl) ?_
                                    refine lv_iconst (v := (1 : Int32)) hx hb dL_law_895 (by decide) ?_
                                    refine lv_iadd hx hb dL_law_896 ?_
                                    refine s_iald X hG h dL_law_897 (fun v102 h => ?_)
                                    refine s_aload_n X (x := p0) dL_law_898 rfl (lh_at hl 0 rfl) ?_
                                    refine lv_iload hx hb dL_law_899 (lh_at hl 4 rfl) ?_
                                    refine lv_iconst (v := (2 : Int32)) hx hb dL_law_901 (by decide) ?_
                                    refine lv_iadd hx hb dL_law_902 ?_
                                    refine s_iald X hG h dL_law_903 (fun v103 h => ?_)
                                    refine s_callVi X hG hl.1.1 cvX0_85 h (As := [.int v102, .int v103]) (fr := 7) (lo := 177) (fun a v T hf => w_X1_copy l D dA E Hb N a v102 v103 _ T v hf) rfl rfl ⟨Nat.le_of_ble_eq_true rfl, Nat.le_of_ble_eq_true rfl⟩ (xsum xcat0 (Nat.le_of_ble_eq_true rfl)) dL_law_904 (fun v104 S H locs cells slots hG h => ?_)
                                    refine s_aload_n X (x := v2) dL_law_907 rfl (lh_at hl 2 rfl) ?_
                                    refine s_aload_n X (x := p0) dL_law_908 rfl (lh_at hl 0 rfl) ?_
                                    refine lv_iload hx hb dL_law_909 (lh_at hl 4 rfl) ?_
                                    refine lv_iconst (v := (1 : Int32)) hx hb dL_law_911 (by decide) ?_
                                    refine lv_iadd hx hb dL_law_912 ?_
                                    refine s_iald X hG h dL_law_913 (fun v105 h => ?_)
                                    refine s_aload_n X (x := p0) dL_law_914 rfl (lh_at hl 0 rfl) ?_
                                    refine lv_iload hx hb dL_law_915 (lh_at hl 4 rfl) ?_
                                    refine lv_iconst (v := (2 : Int32)) hx hb dL_law_917 (by decide) ?_
                                    refine lv_iadd hx hb dL_law_918 ?_
                                    refine s_iald X hG h dL_law_919 (fun v106 h => ?_)
                                    refine s_callVi X hG hl.1.1 cvX0_88 h (As := [.int v105, .int v106]) (fr := 3) (lo := 66) (fun a v T hf => w_X4_copy l D dA E Hb N a v105 v106 _ T v hf) rfl rfl ⟨Nat.le_of_ble_eq_true rfl, Nat.le_of_ble_eq_true rfl⟩ (xsum (xcatc rfl xcat0) (Nat.le_of_ble_eq_true rfl)) dL_law_920 (fun v107 S H locs cells slots hG h => ?_)
                                    refine s_ic_eq X h dL_law_923 (tgt := 2325) (by decide) (fun h => ?_) (fun h => ?_)
                                    · exact j2325 _ _ _ _ _ _ hG (lh_sub hl [0, 1, 2, 3, 4] rfl) h
                                    · refine lv_iconst (v := (0 : Int32)) hx hb dL_law_926 (by decide) ?_
                                      exact s_zret X hG (t := 1) hr hlocks h dL_law_927
                                  · rcases xbr_or h with ⟨k40_14, h⟩ | ⟨k40_14, h⟩
                                    · refine lv_tableIn hx hb dL_law_40 (by rw [k40_14]; decide) (by rw [k40_14]; decide) (off := 888) (tgt := 928) (by rw [k40_14]; decide +kernel) (by decide) ?_
                                      refine s_aload_n X (x := v1) dL_law_928 rfl (lh_at hl 1 rfl) ?_
                                      refine s_aload_n X (x := p0) dL_law_929 rfl (lh_at hl 0 rfl) ?_
                                      refine lv_iload hx hb dL_law_930 (lh_at hl 4 rfl) ?_
                                      refine lv_iconst (v := (1 : Int32)) hx hb dL_law_932 (by decide) ?_
                                      refine lv_iadd hx hb dL_law_933 ?_
                                      refine s_iald X hG h dL_law_934 (fun v108 h => ?_)
                                      refine s_aload_n X (x := p0) dL_law_935 rfl (lh_at hl 0 rfl) ?_
                                      refine lv_iload hx hb dL_law_936 (lh_at hl 4 rfl) ?_
                                      refine lv_iconst (v := (2 : Int32)) hx hb dL_law_938 (by decide) ?_
                                      refine lv_iadd hx hb dL_law_939 ?_
                                      refine s_iald X hG h dL_law_940 (fun v109 h => ?_)
                                      refine s_callVi X hG hl.1.1 cvX0_89 h (As := [.int v108, .int v109]) (fr := 7) (lo := 177) (fun a v T hf => w_X1_join l D dA E Hb N a v108 v109 _ T v hf) rfl rfl ⟨Nat.le_of_ble_eq_true rfl, Nat.le_of_ble_eq_true rfl⟩ (xsum xcat0 (Nat.le_of_ble_eq_true rfl)) dL_law_941 (fun v110 S H locs cells slots hG h => ?_)
                                      refine s_aload_n X (x := v2) dL_law_944 rfl (lh_at hl 2 rfl) ?_
                                      refine s_aload_n X (x := p0) dL_law_945 rfl (lh_at hl 0 rfl) ?_
                                      refine lv_iload hx hb dL_law_946 (lh_at hl 4 rfl) ?_
                                      refine lv_iconst (v := (1 : Int32)) hx hb dL_law_948 (by decide) ?_
                                      refine lv_iadd hx hb dL_law_949 ?_
                                      refine s_iald X hG h dL_law_950 (fun v111 h => ?_)
                                      refine s_aload_n X (x := p0) dL_law_951 rfl (lh_at hl 0 rfl) ?_
                                      refine lv_iload hx hb dL_law_952 (lh_at hl 4 rfl) ?_
                                      refine lv_iconst (v := (2 : Int32)) hx hb dL_law_954 (by decide) ?_
                                      refine lv_iadd hx hb dL_law_955 ?_
                                      refine s_iald X hG h dL_law_956 (fun v112 h => ?_)
                                      refine s_callVi X hG hl.1.1 cvX0_92 h (As := [.int v111, .int v112]) (fr := 3) (lo := 66) (fun a v T hf => w_X4_join l D dA E Hb N a v111 v112 _ T v hf) rfl rfl ⟨Nat.le_of_ble_eq_true rfl, Nat.le_of_ble_eq_true rfl⟩ (xsum (xcatc rfl xcat0) (Nat.le_of_ble_eq_true rfl)) dL_law_957 (fun v113 S H locs cells slots hG h => ?_)
                                      refine s_ic_eq X h dL_law_960 (tgt := 2325) (by decide) (fun h => ?_) (fun h => ?_)
                                      · exact j2325 _ _ _ _ _ _ hG (lh_sub hl [0, 1, 2, 3, 4] rfl) h
                                      · refine lv_iconst (v := (0 : Int32)) hx hb dL_law_963 (by decide) ?_
                                        exact s_zret X hG (t := 1) hr hlocks h dL_law_964
                                    · rcases xbr_or h with ⟨k40_15, h⟩ | ⟨k40_15, h⟩
                                      · refine lv_tableIn hx hb dL_law_40 (by rw [k40_15]; decide) (by rw [k40_15]; decide) (off := 925) (tgt := 965) (by rw [k40_15]; decide +kernel) (by decide) ?_
                                        refine s_aload_n X (x := v1) dL_law_965 rfl (lh_at hl 1 rfl) ?_
                                        refine s_aload_n X (x := p0) dL_law_966 rfl (lh_at hl 0 rfl) ?_
                                        refine lv_iload hx hb dL_law_967 (lh_at hl 4 rfl) ?_
                                        refine lv_iconst (v := (1 : Int32)) hx hb dL_law_969 (by decide) ?_
                                        refine lv_iadd hx hb dL_law_970 ?_
                                        refine s_iald X hG h dL_law_971 (fun v114 h => ?_)
                                        refine s_aload_n X (x := p0) dL_law_972 rfl (lh_at hl 0 rfl) ?_
                                        refine lv_iload hx hb dL_law_973 (lh_at hl 4 rfl) ?_
                                        refine lv_iconst (v := (2 : Int32)) hx hb dL_law_975 (by decide) ?_
                                        refine lv_iadd hx hb dL_law_976 ?_
                                        refine s_iald X hG h dL_law_977 (fun v115 h => ?_)
                                        refine s_callVi X hG hl.1.1 cvX0_93 h (As := [.int v114, .int v115]) (fr := 7) (lo := 177) (fun a v T hf => w_X1_both l D dA E Hb N a v114 v115 _ T v hf) rfl rfl ⟨Nat.le_of_ble_eq_true rfl, Nat.le_of_ble_eq_true rfl⟩ (xsum xcat0 (Nat.le_of_ble_eq_true rfl)) dL_law_978 (fun v116 S H locs cells slots hG h => ?_)
                                        refine s_aload_n X (x := v2) dL_law_981 rfl (lh_at hl 2 rfl) ?_
                                        refine s_aload_n X (x := p0) dL_law_982 rfl (lh_at hl 0 rfl) ?_
                                        refine lv_iload hx hb dL_law_983 (lh_at hl 4 rfl) ?_
                                        refine lv_iconst (v := (1 : Int32)) hx hb dL_law_985 (by decide) ?_
                                        refine lv_iadd hx hb dL_law_986 ?_
                                        refine s_iald X hG h dL_law_987 (fun v117 h => ?_)
                                        refine s_aload_n X (x := p0) dL_law_988 rfl (lh_at hl 0 rfl) ?_
                                        refine lv_iload hx hb dL_law_989 (lh_at hl 4 rfl) ?_
                                        refine lv_iconst (v := (2 : Int32)) hx hb dL_law_991 (by decide) ?_
                                        refine lv_iadd hx hb dL_law_992 ?_
                                        refine s_iald X hG h dL_law_993 (fun v118 h => ?_)
                                        refine s_callVi X hG hl.1.1 cvX0_96 h (As := [.int v117, .int v118]) (fr := 4) (lo := 93) (fun a v T hf => w_X4_both l D dA E Hb N a v117 v118 _ T v hf) rfl rfl ⟨Nat.le_of_ble_eq_true rfl, Nat.le_of_ble_eq_true rfl⟩ (xsum (xcatc rfl xcat0) (Nat.le_of_ble_eq_true rfl)) dL_law_994 (fun v119 S H locs cells slots hG h => ?_)
                                        refine s_ic_eq X h dL_law_997 (tgt := 2325) (by decide) (fun h => ?_) (fun h => ?_)
                                        · exact j2325 _ _ _ _ _ _ hG (lh_sub hl [0, 1, 2, 3, 4] rfl) h
                                        · refine lv_iconst (v := (0 : Int32)) hx hb dL_law_1000 (by decide) ?_
                                          exact s_zret X hG (t := 1) hr hlocks h dL_law_1001
                                      · rcases xbr_or h with ⟨k40_16, h⟩ | ⟨k40_16, h⟩
                                        · refine lv_tableIn hx hb dL_law_40 (by rw [k40_16]; decide) (by rw [k40_16]; decide) (off := 962) (tgt := 1002) (by rw [k40_16]; decide +kernel) (by decide) ?_
                                          refine s_aload_n X (x := v1) dL_law_1002 rfl (lh_at hl 1 rfl) ?_
                                          refine s_aload_n X (x := p0) dL_law_1003 rfl (lh_at hl 0 rfl) ?_
                                          refine lv_iload hx hb dL_law_1004 (lh_at hl 4 rfl) ?_
                                          refine lv_iconst (v := (1 : Int32)) hx hb dL_law_1006 (by decide) ?_
                                          refine lv_iadd hx hb dL_law_1007 ?_
                                          refine s_iald X hG h dL_law_1008 (fun v120 h => ?_)
                                          refine s_aload_n X (x := p0) dL_law_1009 rfl (lh_at hl 0 rfl) ?_
                                          refine lv_iload hx hb dL_law_1010 (lh_at hl 4 rfl) ?_
                                          refine lv_iconst (v := (2 : Int32)) hx hb dL_law_1012 (by decide) ?_
                                          refine lv_iadd hx hb dL_law_1013 ?_
                                          refine s_iald X hG h dL_law_1014 (fun v121 h => ?_)
                                          refine s_callVi X hG hl.1.1 cvX0_97 h (As := [.int v120, .int v121]) (fr := 7) (lo := 177) (fun a v T hf => w_X1_step l D dA E Hb N a v120 v121 _ T v hf) rfl rfl ⟨Nat.le_of_ble_eq_true rfl, Nat.le_of_ble_eq_true rfl⟩ (xsum xcat0 (Nat.le_of_ble_eq_true rfl)) dL_law_1015 (fun v122 S H locs cells slots hG h => ?_)
                                          refine s_aload_n X (x := v2) dL_law_1018 rfl (lh_at hl 2 rfl) ?_
                                          refine s_aload_n X (x := p0) dL_law_1019 rfl (lh_at hl 0 rfl) ?_
                                          refine lv_iload hx hb dL_law_1020 (lh_at hl 4 rfl) ?_
                                          refine lv_iconst (v := (1 : Int32)) hx hb dL_law_1022 (by decide) ?_
                                          refine lv_iadd hx hb dL_law_1023 ?_
                                          refine s_iald X hG h dL_law_1024 (fun v123 h => ?_)
                                          refine s_aload_n X (x := p0) dL_law_1025 rfl (lh_at hl 0 rfl) ?_
                                          refine lv_iload hx hb dL_law_1026 (lh_at hl 4 rfl) ?_
                                          refine lv_iconst (v := (2 : Int32)) hx hb dL_law_1028 (by decide) ?_
                                          refine lv_iadd hx hb dL_law_1029 ?_
                                          refine s_iald X hG h dL_law_1030 (fun v124 h => ?_)
                                          refine s_callVi X hG hl.1.1 cvX0_100 h (As := [.int v123, .int v124]) (fr := 6) (lo := 135) (fun a v T hf => w_X4_step l D dA E Hb N a v123 v124 _ T v hf) rfl rfl ⟨Nat.le_of_ble_eq_true rfl, Nat.le_of_ble_eq_true rfl⟩ (xsum (xcatc rfl xcat0) (Nat.le_of_ble_eq_true rfl)) dL_law_1031 (fun v125 S H locs cells slots hG h => ?_)
                                          refine s_ic_eq X h dL_law_1034 (tgt := 2325) (by decide) (fun h => ?_) (fun h => ?_)
                                          · exact j2325 _ _ _ _ _ _ hG (lh_sub hl [0, 1, 2, 3, 4] rfl) h
                                          · refine lv_iconst (v := (0 : Int32)) hx hb dL_law_1037 (by decide) ?_
                                            exact s_zret X hG (t := 1) hr hlocks h dL_law_1038
                                        · rcases xbr_or h with ⟨k40_17, h⟩ | ⟨k40_17, h⟩
                                          · refine lv_tableIn hx hb dL_law_40 (by rw [k40_17]; decide) (by rw [k40_17]; decide) (off := 999) (tgt := 1039) (by rw [k40_17]; decide +kernel) (by decide) ?_
                                            refine s_aload_n X (x := v1) dL_law_1039 rfl (lh_at hl 1 rfl) ?_
                                            refine s_aload_n X (x := p0) dL_law_1040 rfl (lh_at hl 0 rfl) ?_
                                            refine lv_iload hx hb dL_law_1041 (lh_at hl 4 rfl) ?_
                                            refine lv_iconst (v := (1 : Int32)) hx hb dL_law_1043 (by decide) ?_
                                            refine lv_iadd hx hb dL_law_1044 ?_
                                            refine s_iald X hG h dL_law_1045 (fun v126 h => ?_)
                                            refine s_aload_n X (x := p0) dL_law_1046 rfl (lh_at hl 0 rfl) ?_
                                            refine lv_iload hx hb dL_law_1047 (lh_at hl 4 rfl) ?_
                                            refine lv_iconst (v := (2 : Int32)) hx hb dL_law_1049 (by decide) ?_
                                            refine lv_iadd hx hb dL_law_1050 ?_
                                            refine s_iald X hG h dL_law_1051 (fun v127 h => ?_)
                                            refine s_callVi X hG hl.1.1 cvX0_101 h (As := [.int v126, .int v127]) (fr := 7) (lo := 177) (fun a v T hf => w_X1_stay l D dA E Hb N a v126 v127 _ T v hf) rfl rfl ⟨Nat.le_of_ble_eq_true rfl, Nat.le_of_ble_eq_true rfl⟩ (xsum xcat0 (Nat.le_of_ble_eq_true rfl)) dL_law_1052 (fun v128 S H locs cells slots hG h => ?_)
                                            refine s_aload_n X (x := v2) dL_law_1055 rfl (lh_at hl 2 rfl) ?_
                                            refine s_aload_n X (x := p0) dL_law_1056 rfl (lh_at hl 0 rfl) ?_
                                            refine lv_iload hx hb dL_law_1057 (lh_at hl 4 rfl) ?_
                                            refine lv_iconst (v := (1 : Int32)) hx hb dL_law_1059 (by decide) ?_
                                            refine lv_iadd hx hb dL_law_1060 ?_
                                            refine s_iald X hG h dL_law_1061 (fun v129 h => ?_)
                                            refine s_aload_n X (x := p0) dL_law_1062 rfl (lh_at hl 0 rfl) ?_
                                            refine lv_iload hx hb dL_law_1063 (lh_at hl 4 rfl) ?_
                                            refine lv_iconst (v := (2 : Int32)) hx hb dL_law_1065 (by decide) ?_
                                            refine lv_iadd hx hb dL_law_1066 ?_
                                            refine s_iald X hG h dL_law_1067 (fun v130 h => ?_)
                                            refine s_callVi X hG hl.1.1 cvX0_104 h (As := [.int v129, .int v130]) (fr := 5) (lo := 113) (fun a v T hf => w_X4_stay l D dA E Hb N a v129 v130 _ T v hf) rfl rfl ⟨Nat.le_of_ble_eq_true rfl, Nat.le_of_ble_eq_true rfl⟩ (xsum (xcatc rfl xcat0) (Nat.le_of_ble_eq_true rfl)) dL_law_1068 (fun v131 S H locs cells slots hG h => ?_)
                                            refine s_ic_eq X h dL_law_1071 (tgt := 2325) (by decide) (fun h => ?_) (fun h => ?_)
                                            · exact j2325 _ _ _ _ _ _ hG (lh_sub hl [0, 1, 2, 3, 4] rfl) h
                                            · refine lv_iconst (v := (0 : Int32)) hx hb dL_law_1074 (by decide) ?_
                                              exact s_zret X hG (t := 1) hr hlocks h dL_law_1075
                                          · rcases xbr_or h with ⟨k40_18, h⟩ | ⟨k40_18, h⟩
                                            · refine lv_tableIn hx hb dL_law_40 (by rw [k40_18]; decide) (by rw [k40_18]; decide) (off := 1036) (tgt := 1076) (by rw [k40_18]; decide +kernel) (by decide) ?_
                                              refine s_aload_n X (x := v1) dL_law_1076 rfl (lh_at hl 1 rfl) ?_
                                              refine s_aload_n X (x := p0) dL_law_1077 rfl (lh_at hl 0 rfl) ?_
                                              refine lv_iload hx hb dL_law_1078 (lh_at hl 4 rfl) ?_
                                              refine lv_iconst (v := (1 : Int32)) hx hb dL_law_1080 (by decide) ?_
                                              refine lv_iadd hx hb dL_law_1081 ?_
                                              refine s_iald X hG h dL_law_1082 (fun v132 h => ?_)
                                              refine s_callVi X hG hl.1.1 cvX0_105 h (As := [.int v132]) (fr := 7) (lo := 177) (fun a v T hf => w_X1_rough l D dA E Hb N a v132 _ T v hf) rfl rfl ⟨Nat.le_of_ble_eq_true rfl, Nat.le_of_ble_eq_true rfl⟩ (xsum xcat0 (Nat.le_of_ble_eq_true rfl)) dL_law_1083 (fun v133 S H locs cells slots hG h => ?_)
                                              refine s_aload_n X (x := v2) dL_law_1086 rfl (lh_at hl 2 rfl) ?_
                                              refine s_aload_n X (x := p0) dL_law_1087 rfl (lh_at hl 0 rfl) ?_
                                              refine lv_iload hx hb dL_law_1088 (lh_at hl 4 rfl) ?_
                                              refine lv_iconst (v := (1 : Int32)) hx hb dL_law_1090 (by decide) ?_
                                              refine lv_iadd hx hb dL_law_1091 ?_
                                              refine s_iald X hG h dL_law_1092 (fun v134 h => ?_)
                                              refine s_callVi X hG hl.1.1 cvX0_108 h (As := [.int v134]) (fr := 4) (lo := 92) (fun a v T hf => w_X4_rough l D dA E Hb N a v134 _ T v hf) rfl rfl ⟨Nat.le_of_ble_eq_true rfl, Nat.le_of_ble_eq_true rfl⟩ (xsum (xcatc rfl xcat0) (Nat.le_of_ble_eq_true rfl)) dL_law_1093 (fun v135 S H locs cells slots hG h => ?_)
                                              refine s_ic_eq X h dL_law_1096 (tgt := 2325) (by decide) (fun h => ?_) (fun h => ?_)
                                              · exact j2325 _ _ _ _ _ _ hG (lh_sub hl [0, 1, 2, 3, 4] rfl) h
                                              · refine lv_iconst (v := (0 : Int32)) hx hb dL_law_1099 (by decide) ?_
                                                exact s_zret X hG (t := 1) hr hlocks h dL_law_1100
                                            · rcases xbr_or h with ⟨k40_19, h⟩ | ⟨k40_19, h⟩
                                              · refine lv_tableIn hx hb dL_law_40 (by rw [k40_19]; decide) (by rw [k40_19]; decide) (off := 1061) (tgt := 1101) (by rw [k40_19]; decide +kernel) (by decide) ?_
                                                refine s_aload_n X (x := v1) dL_law_1101 rfl (lh_at hl 1 rfl) ?_
                                                refine s_aload_n X (x := p0) dL_law_1102 rfl (lh_at hl 0 rfl) ?_
                                                refine lv_iload hx hb dL_law_1103 (lh_at hl 4 rfl) ?_
                                                refine lv_iconst (v := (1 : Int32)) hx hb dL_law_1105 (by decide) ?_
                                                refine lv_iadd hx hb dL_law_1106 ?_
                                                refine s_iald X hG h dL_law_1107 (fun v136 h => ?_)
                                                refine s_aload_n X (x := p0) dL_law_1108 rfl (lh_at hl 0 rfl) ?_
                                                refine lv_iload hx hb dL_law_1109 (lh_at hl 4 rfl) ?_
                                                refine lv_iconst (v := (2 : Int32)) hx hb dL_law_1111 (by decide) ?_
                                                refine lv_iadd hx hb dL_law_1112 ?_
                                                refine s_iald X hG h dL_law_1113 (fun v137 h => ?_)
                                                refine s_callVi X hG hl.1.1 cvX0_109 h (As := [.int v136, .int v137]) (fr := 7) (lo := 177) (fun a v T hf => w_X1_take l D dA E Hb N a v136 v137 _ T v hf) rfl rfl ⟨Nat.le_of_ble_eq_true rfl, Nat.le_of_ble_eq_true rfl⟩ (xsum xcat0 (Nat.le_of_ble_eq_true rfl)) dL_law_1114 (fun v138 S H locs cells slots hG h => ?_)
                                                refine s_aload_n X (x := v2) dL_law_1117 rfl (lh_at hl 2 rfl) ?_
                                                refine s_aload_n X (x := p0) dL_law_1118 rfl (lh_at hl 0 rfl) ?_
                                                refine lv_iload hx hb dL_law_1119 (lh_at hl 4 rfl) ?_
                                                refine lv_iconst (v := (1 : Int32)) hx hb dL_law_1121 (by decide) ?_
                                                refine lv_iadd hx hb dL_law_1122 ?_
                                                refine s_iald X hG h dL_law_1123 (fun v139 h => ?_)
                                                refine s_aload_n X (x := p0) dL_law_1124 rfl (lh_at hl 0 rfl) ?_
                                                refine lv_iload hx hb dL_law_1125 (lh_at hl 4 rfl) ?_
                                                refine lv_iconst (v := (2 : Int32)) hx hb dL_law_1127 (by decide) ?_
                                                refine lv_iadd hx hb dL_law_1128 ?_
                                                refine s_iald X hG h dL_law_1129 (fun v140 h => ?_)
                                                refine s_callVi X hG hl.1.1 cvX0_112 h (As := [.int v139, .int v140]) (fr := 3) (lo := 66) (fun a v T hf => w_X4_take l D dA E Hb N a v139 v140 _ T v hf) rfl rfl ⟨Nat.le_of_ble_eq_true rfl, Nat.le_of_ble_eq_true rfl⟩ (xsum (xcatc rfl xcat0) (Nat.le_of_ble_eq_true rfl)) dL_law_1130 (fun v141 S H locs cells slots hG h => ?_)
                                                refine s_ic_eq X h dL_law_1133 (tgt := 2325) (by decide) (fun h => ?_) (fun h => ?_)
                                                · exact j2325 _ _ _ _ _ _ hG (lh_sub hl [0, 1, 2, 3, 4] rfl) h
                                                · refine lv_iconst (v := (0 : Int32)) hx hb dL_law_1136 (by decide) ?_
                                                  exact s_zret X hG (t := 1) hr hlocks h dL_law_1137
                                              · rcases xbr_or h with ⟨k40_20, h⟩ | ⟨k40_20, h⟩
                                                · refine lv_tableIn hx hb dL_law_40 (by rw [k40_20]; decide) (by rw [k40_20]; decide) (off := 1098) (tgt := 1138) (by rw [k40_20]; decide +kernel) (by decide) ?_
                                                  refine s_aload_n X (x := v1) dL_law_1138 rfl (lh_at hl 1 rfl) ?_
                                                  refine s_callVi X hG hl.1.1 cvX0_113 h (As := []) (fr := 3) (lo := 65) (fun a v T hf => w_X1_undo l D dA E Hb N a _ T v hf) rfl rfl ⟨Nat.le_of_ble_eq_true rfl, Nat.le_of_ble_eq_true rfl⟩ (xsum xcat0 (Nat.le_of_ble_eq_true rfl)) dL_law_1139 (fun v142 S H locs cells slots hG h => ?_)
                                                  refine s_aload_n X (x := v2) dL_law_1142 rfl (lh_at hl 2 rfl) ?_
                                                  refine s_callVi X hG hl.1.1 cvX0_116 h (As := []) (fr := 0) (lo := 0) (fun a v T hf => w_X4_undo l D dA E Hb N a _ T v hf) rfl rfl ⟨Nat.le_of_ble_eq_true rfl, Nat.le_of_ble_eq_true rfl⟩ (xsum (xcatc rfl xcat0) (Nat.le_of_ble_eq_true rfl)) dL_law_1143 (fun v143 S H locs cells slots hG h => ?_)
                                                  refine s_ic_eq X h dL_law_1146 (tgt := 2325) (by decide) (fun h => ?_) (fun h => ?_)
                                                  · exact j2325 _ _ _ _ _ _ hG (lh_sub hl [0, 1, 2, 3, 4] rfl) h
                                                  · refine lv_iconst (v := (0 : Int32)) hx hb dL_law_1149 (by decide) ?_
                                                    exact s_zret X hG (t := 1) hr hlocks h dL_law_1150
                                                · rcases xbr_or h with ⟨k40_21, h⟩ | ⟨k40_21, h⟩
                                                  · refine lv_tableIn hx hb dL_law_40 (by rw [k40_21]; decide) (by rw [k40_21]; decide) (off := 1111) (tgt := 1151) (by rw [k40_21]; decide +kernel) (by decide) ?_
                                                    refine s_aload_n X (x := v1) dL_law_1151 rfl (lh_at hl 1 rfl) ?_
                                                    refine s_aload_n X (x := p0) dL_law_1152 rfl (lh_at hl 0 rfl) ?_
                                                    refine lv_iload hx hb dL_law_1153 (lh_at hl 4 rfl) ?_
                                                    refine lv_iconst (v := (1 : Int32)) hx hb dL_law_1155 (by decide) ?_
                                                    refine lv_iadd hx hb dL_law_1156 ?_
                                                    refine s_iald X hG h dL_law_1157 (fun v144 h => ?_)
                                                    refine s_aload_n X (x := p0) dL_law_1158 rfl (lh_at hl 0 rfl) ?_
                                                    refine lv_iload hx hb dL_law_1159 (lh_at hl 4 rfl) ?_
                                                    refine lv_iconst (v := (2 : Int32)) hx hb dL_law_1161 (by decide) ?_
                                                    refine lv_iadd hx hb dL_law_1162 ?_
                                                    refine s_iald X hG h dL_law_1163 (fun v145 h => ?_)
                                                    refine s_aload_n X (x := p0) dL_law_1164 rfl (lh_at hl 0 rfl) ?_
                                                    refine lv_iload hx hb dL_law_1165 (lh_at hl 4 rfl) ?_
                                                    refine lv_iconst (v := (3 : Int32)) hx hb dL_law_1167 (by decide) ?_
                                                    refine lv_iadd hx hb dL_law_1168 ?_
                                                    refine s_iald X hG h dL_law_1169 (fun v146 h => ?_)
                                                    refine s_aload_n X (x := p0) dL_law_1170 rfl (lh_at hl 0 rfl) ?_
                                                    refine lv_iload hx hb dL_law_1171 (lh_at hl 4 rfl) ?_
                                                    refine lv_iconst (v := (4 : Int32)) hx hb dL_law_1173 (by decide) ?_
                                                    refine lv_iadd hx hb dL_law_1174 ?_
                                                    refine s_iald X hG h dL_law_1175 (fun v147 h => ?_)
                                                    refine s_callVi X hG hl.1.1 cvX0_117 h (As := [.int v144, .int v145, .int v146, .int v147]) (fr := 3) (lo := 64) (fun a v T hf => w_X1_bound l D dA E Hb N a v144 v145 v146 v147 _ T v hf) rfl rfl ⟨Nat.le_of_ble_eq_true rfl, Nat.le_of_ble_eq_true rfl⟩ (xsum xcat0 (Nat.le_of_ble_eq_true rfl)) dL_law_1176 (fun v148 S H locs cells slots hG h => ?_)
                                                    refine s_aload_n X (x := v2) dL_law_1179 rfl (lh_at hl 2 rfl) ?_
                                                    refine s_aload_n X (x := p0) dL_law_1180 rfl (lh_at hl 0 rfl) ?_
                                                    refine lv_iload hx hb dL_law_1181 (lh_at hl 4 rfl) ?_
                                                    refine lv_iconst (v := (1 : Int32)) hx hb dL_law_1183 (by decide) ?_
                                                    refine lv_iadd hx hb dL_law_1184 ?_
                                                    refine s_iald X hG h dL_law_1185 (fun v149 h => ?_)
                                                    refine s_aload_n X (x := p0) dL_law_1186 rfl (lh_at hl 0 rfl) ?_
                                                    refine lv_iload hx hb dL_law_1187 (lh_at hl 4 rfl) ?_
                                                    refine lv_iconst (v := (2 : Int32)) hx hb dL_law_1189 (by decide) ?_
                                                    refine lv_iadd hx hb dL_law_1190 ?_
                                                    refine s_iald X hG h dL_law_1191 (fun v150 h => ?_)
                                                    refine s_aload_n X (x := p0) dL_law_1192 rfl (lh_at hl 0 rfl) ?_
                                                    refine lv_iload hx hb dL_law_1193 (lh_at hl 4 rfl) ?_
                                                    refine lv_iconst (v := (3 : Int32)) hx hb dL_law_1195 (by decide) ?_
                                                    refine lv_iadd hx hb dL_law_1196 ?_
                                                    refine s_iald X hG h dL_law_1197 (fun v151 h => ?_)
                                                    refine s_aload_n X (x := p0) dL_law_1198 rfl (lh_at hl 0 rfl) ?_
                                                    refine lv_iload hx hb dL_law_1199 (lh_at hl 4 rfl) ?_
                                                    refine lv_iconst (v := (4 : Int32)) hx hb dL_law_1201 (by decide) ?_
                                                    refine lv_iadd hx hb dL_law_1202 ?_
                                                    refine s_iald X hG h dL_law_1203 (fun v152 h => ?_)
                                                    refine s_callVi X hG hl.1.1 cvX0_121 h (As := [.int v149, .int v150, .int v151, .int v152]) (fr := 2) (lo := 46) (fun a v T hf => w_X4_bound l D dA E Hb N a v149 v150 v151 v152 _ T v hf) rfl rfl ⟨Nat.le_of_ble_eq_true rfl, Nat.le_of_ble_eq_true rfl⟩ (xsum (xcatc rfl xcat0) (Nat.le_of_ble_eq_true rfl)) dL_law_1204 (fun v153 S H locs cells slots hG h => ?_)
                                                    refine s_ic_eq X h dL_law_1207 (tgt := 2325) (by decide) (fun h => ?_) (fun h => ?_)
                                                    · exact j2325 _ _ _ _ _ _ hG (lh_sub hl [0, 1, 2, 3, 4] rfl) h
                                                    · refine lv_iconst (v := (0 : Int32)) hx hb dL_law_1210 (by decide) ?_
                                                      exact s_zret X hG (t := 1) hr hlocks h dL_law_1211
                                                  · rcases xbr_or h with ⟨k40_22, h⟩ | ⟨k40_22, h⟩
                                                    · refine lv_tableIn hx hb dL_law_40 (by rw [k40_22]; decide) (by rw [k40_22]; decide) (off := 1172) (tgt := 1212) (by rw [k40_22]; decide +kernel) (by decide) ?_
                                                      refine s_aload_n X (x := v1) dL_law_1212 rfl (lh_at hl 1 rfl) ?_
                                                      refine s_aload_n X (x := p0) dL_law_1213 rfl (lh_at hl 0 rfl) ?_
                                                      refine lv_iload hx hb dL_law_1214 (lh_at hl 4 rfl) ?_
                                                      refine lv_iconst (v := (1 : Int32)) hx hb dL_law_1216 (by decide) ?_
                                                      refine lv_iadd hx hb dL_law_1217 ?_
                                                      refine s_iald X hG h dL_law_1218 (fun v154 h => ?_)
                                                      refine s_callVi X hG hl.1.1 cvX0_122 h (As := [.int v154]) (fr := 2) (lo := 42) (fun a v T hf => w_X1_empty l D dA E Hb N a v154 _ T v hf) rfl rfl ⟨Nat.le_of_ble_eq_true rfl, Nat.le_of_ble_eq_true rfl⟩ (xsum xcat0 (Nat.le_of_ble_eq_true rfl)) dL_law_1219 (fun v155 S H locs cells slots hG h => ?_)
                                                      refine s_aload_n X (x := v2) dL_law_1222 rfl (lh_at hl 2 rfl) ?_
                                                      refine s_aload_n X (x := p0) dL_law_1223 rfl (lh_at hl 0 rfl) ?_
                                                      refine lv_iload hx hb dL_law_1224 (lh_at hl 4 rfl) ?_
                                                      refine lv_iconst (v := (1 : Int32)) hx hb dL_law_1226 (by decide) ?_
                                                      refine lv_iadd hx hb dL_law_1227 ?_
                                                      refine s_iald X hG h dL_law_1228 (fun v156 h => ?_)
                                                      refine s_callVi X hG hl.1.1 cvX0_125 h (As := [.int v156]) (fr := 2) (lo := 42) (fun a v T hf => w_X4_empty l D dA E Hb N a v156 _ T v hf) rfl rfl ⟨Nat.le_of_ble_eq_true rfl, Nat.le_of_ble_eq_true rfl⟩ (xsum (xcatc rfl xcat0) (Nat.le_of_ble_eq_true rfl)) dL_law_1229 (fun v157 S H locs cells slots hG h => ?_)
                                                      refine s_ic_eq X h dL_law_1232 (tgt := 2325) (by decide) (fun h => ?_) (fun h => ?_)
                                                      · exact j2325 _ _ _ _ _ _ hG (lh_sub hl [0, 1, 2, 3, 4] rfl) h
                                                      · refine lv_iconst (v := (0 : Int32)) hx hb dL_law_1235 (by decide) ?_
                                                        exact s_zret X hG (t := 1) hr hlocks h dL_law_1236
                                                    · rcases xbr_or h with ⟨k40_23, h⟩ | ⟨k40_23, h⟩
                                                      · refine lv_tableIn hx hb dL_law_40 (by rw [k40_23]; decide) (by rw [k40_23]; decide) (off := 1197) (tgt := 1237) (by rw [k40_23]; decide +kernel) (by decide) ?_
                                                        refine s_aload_n X (x := v1) dL_law_1237 rfl (lh_at hl 1 rfl) ?_
                                                        refine s_aload_n X (x := p0) dL_law_1238 rfl (lh_at hl 0 rfl) ?_
                                                        refine lv_iload hx hb dL_law_1239 (lh_at hl 4 rfl) ?_
                                                        refine lv_iconst (v := (1 : Int32)) hx hb dL_law_1241 (by decide) ?_
                                                        refine lv_iadd hx hb dL_law_1242 ?_
                                                        refine s_iald X hG h dL_law_1243 (fun v158 h => ?_)
                                                        refine s_aload_n X (x := p0) dL_law_1244 rfl (lh_at hl 0 rfl) ?_
                                                        refine lv_iload hx hb dL_law_1245 (lh_at hl 4 rfl) ?_
                                                        refine lv_iconst (v := (2 : Int32)) hx hb dL_law_1247 (by decide) ?_
                                                        refine lv_iadd hx hb dL_law_1248 ?_
                                                        refine s_iald X hG h dL_law_1249 (fun v159 h => ?_)
                                                        refine s_callVi X hG hl.1.1 cvX0_126 h (As := [.int v158, .int v159]) (fr := 2) (lo := 42) (fun a v T hf => w_X1_within l D dA E Hb N a v158 v159 _ T v hf) rfl rfl ⟨Nat.le_of_ble_eq_true rfl, Nat.le_of_ble_eq_true rfl⟩ (xsum xcat0 (Nat.le_of_ble_eq_true rfl)) dL_law_1250 (fun v160 S H locs cells slots hG h => ?_)
                                                        refine s_aload_n X (x := v2) dL_law_1253 rfl (lh_at hl 2 rfl) ?_
                                                        refine s_aload_n X (x := p0) dL_law_1254 rfl (lh_at hl 0 rfl) ?_
                                                        refine lv_iload hx hb dL_law_1255 (lh_at hl 4 rfl) ?_
                                                        refine lv_iconst (v := (1 : Int32)) hx hb dL_law_1257 (by decide) ?_
                                                        refine lv_iadd hx hb dL_law_1258 ?_
                                                        refine s_iald X hG h dL_law_1259 (fun v161 h => ?_)
                                                        refine s_aload_n X (x := p0) dL_law_1260 rfl (lh_at hl 0 rfl) ?_
                                                        refine lv_iload hx hb dL_law_1261 (lh_at hl 4 rfl) ?_
                                                        refine lv_iconst (v := (2 : Int32)) hx hb dL_law_1263 (by decide) ?_
                                                        refine lv_iadd hx hb dL_law_1264 ?_
                                                        refine s_iald X hG h dL_law_1265 (fun v162 h => ?_)
                                                        refine s_callVi X hG hl.1.1 cvX0_129 h (As := [.int v161, .int v162]) (fr := 2) (lo := 46) (fun a v T hf => w_X4_within l D dA E Hb N a v161 v162 _ T v hf) rfl rfl ⟨Nat.le_of_ble_eq_true rfl, Nat.le_of_ble_eq_true rfl⟩ (xsum (xcatc rfl xcat0) (Nat.le_of_ble_eq_true rfl)) dL_law_1266 (fun v163 S H locs cells slots hG h => ?_)
                                                        refine s_ic_eq X h dL_law_1269 (tgt := 2325) (by decide) (fun h => ?_) (fun h => ?_)
                                                        · exact j2325 _ _ _ _ _ _ hG (lh_sub hl [0, 1, 2, 3, 4] rfl) h
                                                        · refine lv_iconst (v := (0 : Int32)) hx hb dL_law_1272 (by decide) ?_
                                                          exact s_zret X hG (t := 1) hr hlocks h dL_law_1273
                                                      · rcases xbr_or h with ⟨k40_24, h⟩ | ⟨k40_24, h⟩
                                                        · refine lv_tableIn hx hb dL_law_40 (by rw [k40_24]; decide) (by rw [k40_24]; decide) (off := 1234) (tgt := 1274) (by rw [k40_24]; decide +kernel) (by decide) ?_
                                                          refine s_aload_n X (x := v1) dL_law_1274 rfl (lh_at hl 1 rfl) ?_
                                                          refine s_aload_n X (x := p0) dL_law_1275 rfl (lh_at hl 0 rfl) ?_
                                                          refine lv_iload hx hb dL_law_1276 (lh_at hl 4 rfl) ?_
                                                          refine lv_iconst (v := (1 : Int32)) hx hb dL_law_1278 (by decide) ?_
                                                          refine lv_iadd hx hb dL_law_1279 ?_
                                                          refine s_iald X hG h dL_law_1280 (fun v164 h => ?_)
                                                          refine s_aload_n X (x := p0) dL_law_1281 rfl (lh_at hl 0 rfl) ?_
                                                          refine lv_iload hx hb dL_law_1282 (lh_at hl 4 rfl) ?_
                                                          refine lv_iconst (v := (2 : Int32)) hx hb dL_law_1284 (by decide) ?_
                                                          refine lv_iadd hx hb dL_law_1285 ?_
                                                          refine s_iald X hG h dL_law_1286 (fun v165 h => ?_)
                                                          refine s_aload_n X (x := p0) dL_law_1287 rfl (lh_at hl 0 rfl) ?_
                                                          refine lv_iload hx hb dL_law_1288 (lh_at hl 4 rfl) ?_
                                                          refine lv_iconst (v := (3 : Int32)) hx hb dL_law_1290 (by decide) ?_
                                                          refine lv_iadd hx hb dL_law_1291 ?_
                                                          refine s_iald X hG h dL_law_1292 (fun v166 h => ?_)
                                                          refine s_aload_n X (x := p0) dL_law_1293 rfl (lh_at hl 0 rfl) ?_
                                                          refine lv_iload hx hb dL_law_1294 (lh_at hl 4 rfl) ?_
                                                          refine lv_iconst (v := (4 : Int32)) hx hb dL_law_1296 (by decide) ?_
                                                          refine lv_iadd hx hb dL_law_1297 ?_
                                                          refine s_iald X hG h dL_law_1298 (fun v167 h => ?_)
                                                          refine s_aload_n X (x := p0) dL_law_1299 rfl (lh_at hl 0 rfl) ?_
                                                          refine lv_iload hx hb dL_law_1300 (lh_at hl 4 rfl) ?_
                                                          refine lv_iconst (v := (5 : Int32)) hx hb dL_law_1302 (by decide) ?_
                                                          refine lv_iadd hx hb dL_law_1303 ?_
                                                          refine s_iald X hG h dL_law_1304 (fun v168 h => ?_)
                                                          refine s_callVi X hG hl.1.1 cvX0_130 h (As := [.int v164, .int v165, .int v166, .int v167, .int v168]) (fr := 2) (lo := 48) (fun a v T hf => w_X1_has l D dA E Hb N a v164 v165 v166 v167 v168 _ T v hf) rfl rfl ⟨Nat.le_of_ble_eq_true rfl, Nat.le_of_ble_eq_true rfl⟩ (xsum xcat0 (Nat.le_of_ble_eq_true rfl)) dL_law_1305 (fun v169 S H locs cells slots hG h => ?_)
                                                          refine s_aload_n X (x := v2) dL_law_1308 rfl (lh_at hl 2 rfl) ?_
                                                          refine s_aload_n X (x := p0) dL_law_1309 rfl (lh_at hl 0 rfl) ?_
                                                          refine lv_iload hx hb dL_law_1310 (lh_at hl 4 rfl) ?_
                                                          refine lv_iconst (v := (1 : Int32)) hx hb dL_law_1312 (by decide) ?_
                                                          refine lv_iadd hx hb dL_law_1313 ?_
                                                          refine s_iald X hG h dL_law_1314 (fun v170 h => ?_)
                                                          refine s_aload_n X (x := p0) dL_law_1315 rfl (lh_at hl 0 rfl) ?_
                                                          refine lv_iload hx hb dL_law_1316 (lh_at hl 4 rfl) ?_
                                                          refine lv_iconst (v := (2 : Int32)) hx hb dL_law_1318 (by decide) ?_
                                                          refine lv_iadd hx hb dL_law_1319 ?_
                                                          refine s_iald X hG h dL_law_1320 (fun v171 h => ?_)
                                                          refine s_aload_n X (x := p0) dL_law_1321 rfl (lh_at hl 0 rfl) ?_
                                                          refine lv_iload hx hb dL_law_1322 (lh_at hl 4 rfl) ?_
                                                          refine lv_iconst (v := (3 : Int32)) hx hb dL_law_1324 (by decide) ?_
                                                          refine lv_iadd hx hb dL_law_1325 ?_
                                                          refine s_iald X hG h dL_law_1326 (fun v172 h => ?_)
                                                          refine s_aload_n X (x := p0) dL_law_1327 rfl (lh_at hl 0 rfl) ?_
                                                          refine lv_iload hx hb dL_law_1328 (lh_at hl 4 rfl) ?_
                                                          refine lv_iconst (v := (4 : Int32)) hx hb dL_law_1330 (by decide) ?_
                                                          refine lv_iadd hx hb dL_law_1331 ?_
                                                          refine s_iald X hG h dL_law_1332 (fun v173 h => ?_)
                                                          refine s_aload_n X (x := p0) dL_law_1333 rfl (lh_at hl 0 rfl) ?_
                                                          refine lv_iload hx hb dL_law_1334 (lh_at hl 4 rfl) ?_
                                                          refine lv_iconst (v := (5 : Int32)) hx hb dL_law_1336 (by decide) ?_
                                                          refine lv_iadd hx hb dL_law_1337 ?_
                                                          refine s_iald X hG h dL_law_1338 (fun v174 h => ?_)
                                                          refine s_callVi X hG hl.1.1 cvX0_133 h (As := [.int v170, .int v171, .int v172, .int v173, .int v174]) (fr := 2) (lo := 48) (fun a v T hf => w_X4_has l D dA E Hb N a v170 v171 v172 v173 v174 _ T v hf) rfl rfl ⟨Nat.le_of_ble_eq_true rfl, Nat.le_of_ble_eq_true rfl⟩ (xsum (xcatc rfl xcat0) (Nat.le_of_ble_eq_true rfl)) dL_law_1339 (fun v175 S H locs cells slots hG h => ?_)
                                                          refine s_ic_eq X h dL_law_1342 (tgt := 2325) (by decide) (fun h => ?_) (fun h => ?_)
                                                          · exact j2325 _ _ _ _ _ _ hG (lh_sub hl [0, 1, 2, 3, 4] rfl) h
                                                          · refine lv_iconst (v := (0 : Int32)) hx hb dL_law_1345 (by decide) ?_
                                                            exact s_zret X hG (t := 1) hr hlocks h dL_law_1346
                                                        · rcases xbr_or h with ⟨k40_25, h⟩ | ⟨k40_25, h⟩
                                                          · refine lv_tableIn hx hb dL_law_40 (by rw [k40_25]; decide) (by rw [k40_25]; decide) (off := 1307) (tgt := 1347) (by rw [k40_25]; decide +kernel) (by decide) ?_
                                                            refine s_aload_n X (x := v1) dL_law_1347 rfl (lh_at hl 1 rfl) ?_
                                                            refine s_aload_n X (x := p0) dL_law_1348 rfl (lh_at hl 0 rfl) ?_
                                                            refine lv_iload hx hb dL_law_1349 (lh_at hl 4 rfl) ?_
                                                            refine lv_iconst (v := (1 : Int32)) hx hb dL_law_1351 (by decide) ?_
                                                            refine lv_iadd hx hb dL_law_1352 ?_
                                                            refine s_iald X hG h dL_law_1353 (fun v176 h => ?_)
                                                            refine s_aload_n X (x := p0) dL_law_1354 rfl (lh_at hl 0 rfl) ?_
                                                            refine lv_iload hx hb dL_law_1355 (lh_at hl 4 rfl) ?_
                                                            refine lv_iconst (v := (2 : Int32)) hx hb dL_law_1357 (by decide) ?_
                                                            refine lv_iadd hx hb dL_law_1358 ?_
                                                            refine s_iald X hG h dL_law_1359 (fun v177 h => ?_)
                                                            refine s_callVi X hG hl.1.1 cvX0_134 h (As := [.int v176, .int v177]) (fr := 2) (lo := 45) (fun a v T hf => w_X1_pairs l D dA E Hb N a v176 v177 _ T v hf) rfl rfl ⟨Nat.le_of_ble_eq_true rfl, Nat.le_of_ble_eq_true rfl⟩ (xsum xcat0 (Nat.le_of_ble_eq_true rfl)) dL_law_1360 (fun v178 S H locs cells slots hG h => ?_)
                                                            refine s_aload_n X (x := v2) dL_law_1363 rfl (lh_at hl 2 rfl) ?_
                                                            refine s_aload_n X (x := p0) dL_law_1364 rfl (lh_at hl 0 rfl) ?_
                                                            refine lv_iload hx hb dL_law_1365 (lh_at hl 4 rfl) ?_
                                                            refine lv_iconst (v := (1 : Int32)) hx hb dL_law_1367 (by decide) ?_
                                                            refine lv_iadd hx hb dL_law_1368 ?_
                                                            refine s_iald X hG h dL_law_1369 (fun v179 h => ?_)
                                                            refine s_aload_n X (x := p0) dL_law_1370 rfl (lh_at hl 0 rfl) ?_
                                                            refine lv_iload hx hb dL_law_1371 (lh_at hl 4 rfl) ?_
                                                            refine lv_iconst (v := (2 : Int32)) hx hb dL_law_1373 (by decide) ?_
                                                            refine lv_iadd hx hb dL_law_1374 ?_
                                                            refine s_iald X hG h dL_law_1375 (fun v180 h => ?_)
                                                            refine s_callVi X hG hl.1.1 cvX0_137 h (As := [.int v179, .int v180]) (fr := 2) (lo := 46) (fun a v T hf => w_X4_pairs l D dA E Hb N a v179 v180 _ T v hf) rfl rfl ⟨Nat.le_of_ble_eq_true rfl, Nat.le_of_ble_eq_true rfl⟩ (xsum (xcatc rfl xcat0) (Nat.le_of_ble_eq_true rfl)) dL_law_1376 (fun v181 S H locs cells slots hG h => ?_)
                                                            refine s_ic_eq X h dL_law_1379 (tgt := 2325) (by decide) (fun h => ?_) (fun h => ?_)
                                                            · exact j2325 _ _ _ _ _ _ hG (lh_sub hl [0, 1, 2, 3, 4] rfl) h
                                                            · refine lv_iconst (v := (0 : Int32)) hx hb dL_law_1382 (by decide) ?_
                                                              exact s_zret X hG (t := 1) hr hlocks h dL_law_1383
                                                          · rcases xbr_or h with ⟨k40_26, h⟩ | ⟨k40_26, h⟩
                                                            · refine lv_tableIn hx hb dL_law_40 (by rw [k40_26]; decide) (by rw [k40_26]; decide) (off := 1344) (tgt := 1384) (by rw [k40_26]; decide +kernel) (by decide) ?_
                                                              refine s_aload_n X (x := v1) dL_law_1384 rfl (lh_at hl 1 rfl) ?_
                                                              refine s_aload_n X (x := p0) dL_law_1385 rfl (lh_at hl 0 rfl) ?_
                                                              refine lv_iload hx hb dL_law_1386 (lh_at hl 4 rfl) ?_
                                                              refine lv_iconst (v := (1 : Int32)) hx hb dL_law_1388 (by decide) ?_
                                                              refine lv_iadd hx hb dL_law_1389 ?_
                                                              refine s_iald X hG h dL_law_1390 (fun v182 h => ?_)
                                                              refine s_aload_n X (x := p0) dL_law_1391 rfl (lh_at hl 0 rfl) ?_
                                                              refine lv_iload hx hb dL_law_1392 (lh_at hl 4 rfl) ?_
                                                              refine lv_iconst (v := (2 : Int32)) hx hb dL_law_1394 (by decide) ?_
                                                              refine lv_iadd hx hb dL_law_1395 ?_
                                                              refine s_iald X hG h dL_law_1396 (fun v183 h => ?_)
                                                              refine s_callVi X hG hl.1.1 cvX0_138 h (As := [.int v182, .int v183]) (fr := 2) (lo := 48) (fun a v T hf => w_X1_whole l D dA E Hb N a v182 v183 _ T v hf) rfl rfl ⟨Nat.le_of_ble_eq_true rfl, Nat.le_of_ble_eq_true rfl⟩ (xsum xcat0 (Nat.le_of_ble_eq_true rfl)) dL_law_1397 (fun v184 S H locs cells slots hG h => ?_)
                                                              refine s_aload_n X (x := v2) dL_law_1400 rfl (lh_at hl 2 rfl) ?_
                                                              refine s_aload_n X (x := p0) dL_law_1401 rfl (lh_at hl 0 rfl) ?_
                                                              refine lv_iload hx hb dL_law_1402 (lh_at hl 4 rfl) ?_
                                                              refine lv_iconst (v := (1 : Int32)) hx hb dL_law_1404 (by decide) ?_
                                                              refine lv_iadd hx hb dL_law_1405 ?_
                                                              refine s_iald X hG h dL_law_1406 (fun v185 h => ?_)
                                                              refine s_aload_n X (x := p0) dL_law_1407 rfl (lh_at hl 0 rfl) ?_
                                                              refine lv_iload hx hb dL_law_1408 (lh_at hl 4 rfl) ?_
                                                              refine lv_iconst (v := (2 : Int32)) hx hb dL_law_1410 (by decide) ?_
                                                              refine lv_iadd hx hb dL_law_1411 ?_
                                                              refine s_iald X hG h dL_law_1412 (fun v186 h => ?_)
                                                              refine s_callVi X hG hl.1.1 cvX0_141 h (As := [.int v185, .int v186]) (fr := 2) (lo := 48) (fun a v T hf => w_X4_whole l D dA E Hb N a v185 v186 _ T v hf) rfl rfl ⟨Nat.le_of_ble_eq_true rfl, Nat.le_of_ble_eq_true rfl⟩ (xsum (xcatc rfl xcat0) (Nat.le_of_ble_eq_true rfl)) dL_law_1413 (fun v187 S H locs cells slots hG h => ?_)
                                                              refine s_ic_eq X h dL_law_1416 (tgt := 2325) (by decide) (fun h => ?_) (fun h => ?_)
                                                              · exact j2325 _ _ _ _ _ _ hG (lh_sub hl [0, 1, 2, 3, 4] rfl) h
                                                              · refine lv_iconst (v := (0 : Int32)) hx hb dL_law_1419 (by decide) ?_
                                                                exact s_zret X hG (t := 1) hr hlocks h dL_law_1420
                                                            · rcases xbr_or h with ⟨k40_27, h⟩ | ⟨k40_27, h⟩
                                                              · refine lv_tableIn hx hb dL_law_40 (by rw [k40_27]; decide) (by rw [k40_27]; decide) (off := 1381) (tgt := 1421) (by rw [k40_27]; decide +kernel) (by decide) ?_
                                                                refine s_aload_n X (x := v1) dL_law_1421 rfl (lh_at hl 1 rfl) ?_
                                                                refine s_aload_n X (x := p0) dL_law_1422 rfl (lh_at hl 0 rfl) ?_
                                                                refine lv_iload hx hb dL_law_1423 (lh_at hl 4 rfl) ?_
                                                                refine lv_iconst (v := (1 : Int32)) hx hb dL_law_1425 (by decide) ?_
                                                                refine lv_iadd hx hb dL_law_1426 ?_
                                                                refine s_iald X hG h dL_law_1427 (fun v188 h => ?_)
                                                                refine s_aload_n X (x := p0) dL_law_1428 rfl (lh_at hl 0 rfl) ?_
                                                                refine lv_iload hx hb dL_law_1429 (lh_at hl 4 rfl) ?_
                                                                refine lv_iconst (v := (2 : Int32)) hx hb dL_law_1431 (by decide) ?_
                                                                refine lv_iadd hx hb dL_law_1432 ?_
                                                                refine s_iald X hG h dL_law_1433 (fun v189 h => ?_)
                                                                refine s_callVi X hG hl.1.1 cvX0_142 h (As := [.int v188, .int v189]) (fr := 4) (lo := 109) (fun a v T hf => w_X1_first l D dA E Hb N a v188 v189 _ T v hf) rfl rfl ⟨Nat.le_of_ble_eq_true rfl, Nat.le_of_ble_eq_true rfl⟩ (xsum xcat0 (Nat.le_of_ble_eq_true rfl)) dL_law_1434 (fun v190 S H locs cells slots hG h => ?_)
                                                                refine s_aload_n X (x := v2) dL_law_1437 rfl (lh_at hl 2 rfl) ?_
                                                                refine s_aload_n X (x := p0) dL_law_1438 rfl (lh_at hl 0 rfl) ?_
                                                                refine lv_iload hx hb dL_law_1439 (lh_at hl 4 rfl) ?_
                                                                refine lv_iconst (v := (1 : Int32)) hx hb dL_law_1441 (by decide) ?_
                                                                refine lv_iadd hx hb dL_law_1442 ?_
                                                                refine s_iald X hG h dL_law_1443 (fun v191 h => ?_)
                                                                refine s_aload_n X (x := p0) dL_law_1444 rfl (lh_at hl 0 rfl) ?_
                                                                refine lv_iload hx hb dL_law_1445 (lh_at hl 4 rfl) ?_
                                                                refine lv_iconst (v := (2 : Int32)) hx hb dL_law_1447 (by decide) ?_
                                                                refine lv_iadd hx hb dL_law_1448 ?_
                                                                refine s_iald X hG h dL_law_1449 (fun v192 h => ?_)
                                                                refine s_callVi X hG hl.1.1 cvX0_145 h (As := [.int v191, .int v192]) (fr := 4) (lo := 91) (fun a v T hf => w_X4_first l D dA E Hb N a v191 v192 _ T v hf) rfl rfl ⟨Nat.le_of_ble_eq_true rfl, Nat.le_of_ble_eq_true rfl⟩ (xsum (xcatc rfl xcat0) (Nat.le_of_ble_eq_true rfl)) dL_law_1450 (fun v193 S H locs cells slots hG h => ?_)
                                                                refine s_ic_eq X h dL_law_1453 (tgt := 2325) (by decide) (fun h => ?_) (fun h => ?_)
                                                                · exact j2325 _ _ _ _ _ _ hG (lh_sub hl [0, 1, 2, 3, 4] rfl) h
                                                                · refine lv_iconst (v := (0 : Int32)) hx hb dL_law_1456 (by decide) ?_
                                                                  exact s_zret X hG (t := 1) hr hlocks h dL_law_1457
                                                              · rcases xbr_or h with ⟨k40_28, h⟩ | ⟨k40_28, h⟩
                                                                · refine lv_tableIn hx hb dL_law_40 (by rw [k40_28]; decide) (by rw [k40_28]; decide) (off := 1418) (tgt := 1458) (by rw [k40_28]; decide +kernel) (by decide) ?_
                                                                  refine s_aload_n X (x := v1) dL_law_1458 rfl (lh_at hl 1 rfl) ?_
                                                                  refine s_callVi X hG hl.1.1 cvX0_146 h (As := []) (fr := 1) (lo := 20) (fun a v T hf => w_X1_nodes l D dA E Hb N a _ T v hf) rfl rfl ⟨Nat.le_of_ble_eq_true rfl, Nat.le_of_ble_eq_true rfl⟩ (xsum xcat0 (Nat.le_of_ble_eq_true rfl)) dL_law_1459 (fun v194 S H locs cells slots hG h => ?_)
                                                                  refine s_aload_n X (x := v2) dL_law_1462 rfl (lh_at hl 2 rfl) ?_
                                                                  refine s_callVi X hG hl.1.1 cvX0_149 h (As := []) (fr := 0) (lo := 0) (fun a v T hf => w_X4_nodes l D dA E Hb N a _ T v hf) rfl rfl ⟨Nat.le_of_ble_eq_true rfl, Nat.le_of_ble_eq_true rfl⟩ (xsum (xcatc rfl xcat0) (Nat.le_of_ble_eq_true rfl)) dL_law_1463 (fun v195 S H locs cells slots hG h => ?_)
                                                                  refine s_ic_eq X h dL_law_1466 (tgt := 2325) (by decide) (fun h => ?_) (fun h => ?_)
                                                                  · exact j2325 _ _ _ _ _ _ hG (lh_sub hl [0, 1, 2, 3, 4] rfl) h
                                                                  · refine lv_iconst (v := (0 : Int32)) hx hb dL_law_1469 (by decide) ?_
                                                                    exact s_zret X hG (t := 1) hr hlocks h dL_law_1470
                                                                · rcases xbr_or h with ⟨k40_29, h⟩ | ⟨k40_29, h⟩
                                                                  · refine lv_tableIn hx hb dL_law_40 (by rw [k40_29]; decide) (by rw [k40_29]; decide) (off := 1431) (tgt := 1471) (by rw [k40_29]; decide +kernel) (by decide) ?_
                                                                    refine s_aload_n X (x := v1) dL_law_1471 rfl (lh_at hl 1 rfl) ?_
                                                                    refine s_aload_n X (x := p0) dL_law_1472 rfl (lh_at hl 0 rfl) ?_
                                                                    refine lv_iload hx hb dL_law_1473 (lh_at hl 4 rfl) ?_
                                                                    refine lv_iconst (v := (1 : Int32)) hx hb dL_law_1475 (by decide) ?_
                                                                    refine lv_iadd hx hb dL_law_1476 ?_
                                                                    refine s_iald X hG h dL_law_1477 (fun v196 h => ?_)
                                                                    refine s_aload_n X (x := p0) dL_law_1478 rfl (lh_at hl 0 rfl) ?_
                                                                    refine lv_iload hx hb dL_law_1479 (lh_at hl 4 rfl) ?_
                                                                    refine lv_iconst (v := (2 : Int32)) hx hb dL_law_1481 (by decide) ?_
                                                                    refine lv_iadd hx hb dL_law_1482 ?_
                                                                    refine s_iald X hG h dL_law_1483 (fun v197 h => ?_)
                                                                    refine s_callVi X hG hl.1.1 cvX0_150 h (As := [.int v196, .int v197]) (fr := 3) (lo := 64) (fun a v T hf => w_X1_node l D dA E Hb N a v196 v197 _ T v hf) rfl rfl ⟨Nat.le_of_ble_eq_true rfl, Nat.le_of_ble_eq_true rfl⟩ (xsum xcat0 (Nat.le_of_ble_eq_true rfl)) dL_law_1484 (fun v198 S H locs cells slots hG h => ?_)
                                                                    refine s_aload_n X (x := v2) dL_law_1487 rfl (lh_at hl 2 rfl) ?_
                                                                    refine s_aload_n X (x := p0) dL_law_1488 rfl (lh_at hl 0 rfl) ?_
                                                                    refine lv_iload hx hb dL_law_1489 (lh_at hl 4 rfl) ?_
                                                                    refine lv_iconst (v := (1 : Int32)) hx hb dL_law_1491 (by decide) ?_
                                                                    refine lv_iadd hx hb dL_law_1492 ?_
                                                                    refine s_iald X hG h dL_law_1493 (fun v199 h => ?_)
                                                                    refine s_aload_n X (x := p0) dL_law_1494 rfl (lh_at hl 0 rfl) ?_
                                                                    refine lv_iload hx hb dL_law_1495 (lh_at hl 4 rfl) ?_
                                                                    refine lv_iconst (v := (2 : Int32)) hx hb dL_law_1497 (by decide) ?_
                                                                    refine lv_iadd hx hb dL_law_1498 ?_
                                                                    refine s_iald X hG h dL_law_1499 (fun v200 h => ?_)
                                                                    refine s_callVi X hG hl.1.1 cvX0_153 h (As := [.int v199, .int v200]) (fr := 1) (lo := 23) (fun a v T hf => w_X4_node l D dA E Hb N a v199 v200 _ T v hf) rfl rfl ⟨Nat.le_of_ble_eq_true rfl, Nat.le_of_ble_eq_true rfl⟩ (xsum (xcatc rfl xcat0) (Nat.le_of_ble_eq_true rfl)) dL_law_1500 (fun v201 S H locs cells slots hG h => ?_)
                                                                    refine s_ic_eq X h dL_law_1503 (tgt := 2325) (by decide) (fun h => ?_) (fun h => ?_)
                                                                    · exact j2325 _ _ _ _ _ _ hG (lh_sub hl [0, 1, 2, 3, 4] rfl) h
                                                                    · refine lv_iconst (v := (0 : Int32)) hx hb dL_law_1506 (by decide) ?_
                                                                      exact s_zret X hG (t := 1) hr hlocks h dL_law_1507
                                                                  · rcases xbr_or h with ⟨k40_30, h⟩ | ⟨k40_30, h⟩
                                                                    · refine lv_tableIn hx hb dL_law_40 (by rw [k40_30]; decide) (by rw [k40_30]; decide) (off := 1468) (tgt := 1508) (by rw [k40_30]; decide +kernel) (by decide) ?_
                                                                      refine s_aload_n X (x := v1) dL_law_1508 rfl (lh_at hl 1 rfl) ?_
                                                                      refine s_aload_n X (x := p0) dL_law_1509 rfl (lh_at hl 0 rfl) ?_
                                                                      refine lv_iload hx hb dL_law_1510 (lh_at hl 4 rfl) ?_
                                                                      refine lv_iconst (v := (1 : Int32)) hx hb dL_law_1512 (by decide) ?_
                                                                      refine lv_iadd hx hb dL_law_1513 ?_
                                                                      refine s_iald X hG h dL_law_1514 (fun v202 h => ?_)
                                                                      refine s_aload_n X (x := p0) dL_law_1515 rfl (lh_at hl 0 rfl) ?_
                                                                      refine lv_iload hx hb dL_law_1516 (lh_at hl 4 rfl) ?_
                                                                      refine lv_iconst (v := (2 : Int32)) hx hb dL_law_1518 (by decide) ?_
                                                                      refine lv_iadd hx hb dL_law_1519 ?_
                                                                      refine s_iald X hG h dL_law_1520 (fun v203 h => ?_)
                                                                      refine s_aload_n X (x := p0) dL_law_1521 rfl (lh_at hl 0 rfl) ?_
                                                                      refine lv_iload hx hb dL_law_1522 (lh_at hl 4 rfl) ?_
                                                                      refine lv_iconst (v := (3 : Int32)) hx hb dL_law_1524 (by decide) ?_
                                                                      refine lv_iadd hx hb dL_law_1525 ?_
                                                                      refine s_iald X hG h dL_law_1526 (fun v204 h => ?_)
                                                                      refine s_aload_n X (x := p0) dL_law_1527 rfl (lh_at hl 0 rfl) ?_
                                                                      refine lv_iload hx hb dL_law_1528 (lh_at hl 4 rfl) ?_
                                                                      refine lv_iconst (v := (4 : Int32)) hx hb dL_law_1530 (by decide) ?_
                                                                      refine lv_iadd hx hb dL_law_1531 ?_
                                                                      refine s_iald X hG h dL_law_1532 (fun v205 h => ?_)
                                                                      refine s_callVi X hG hl.1.1 cvX0_154 h (As := [.int v202, .int v203, .int v204, .int v205]) (fr := 3) (lo := 64) (fun a v T hf => w_X1_nodeBound l D dA E Hb N a v202 v203 v204 v205 _ T v hf) rfl rfl ⟨Nat.le_of_ble_eq_true rfl, Nat.le_of_ble_eq_true rfl⟩ (xsum xcat0 (Nat.le_of_ble_eq_true rfl)) dL_law_1533 (fun v206 S H locs cells slots hG h => ?_)
                                                                      refine s_aload_n X (x := v2) dL_law_1536 rfl (lh_at hl 2 rfl) ?_
                                                                      refine s_aload_n X (x := p0) dL_law_1537 rfl (lh_at hl 0 rfl) ?_
                                                                      refine lv_iload hx hb dL_law_1538 (lh_at hl 4 rfl) ?_
                                                                      refine lv_iconst (v := (1 : Int32)) hx hb dL_law_1540 (by decide) ?_
                                                                      refine lv_iadd hx hb dL_law_1541 ?_
                                                                      refine s_iald X hG h dL_law_1542 (fun v207 h => ?_)
                                                                      refine s_aload_n X (x := p0) dL_law_1543 rfl (lh_at hl 0 rfl) ?_
                                                                      refine lv_iload hx hb dL_law_1544 (lh_at hl 4 rfl) ?_
                                                                      refine lv_iconst (v := (2 : Int32)) hx hb dL_law_1546 (by decide) ?_
                                                                      refine lv_iadd hx hb dL_law_1547 ?_
                                                                      refine s_iald X hG h dL_law_1548 (fun v208 h => ?_)
                                                                      refine s_aload_n X (x := p0) dL_law_1549 rfl (lh_at hl 0 rfl) ?_
                                                                      refine lv_iload hx hb dL_law_1550 (lh_at hl 4 rfl) ?_
                                                                      refine lv_iconst (v := (3 : Int32)) hx hb dL_law_1552 (by decide) ?_
                                                                      refine lv_iadd hx hb dL_law_1553 ?_
                                                                      refine s_iald X hG h dL_law_1554 (fun v209 h => ?_)
                                                                      refine s_aload_n X (x := p0) dL_law_1555 rfl (lh_at hl 0 rfl) ?_
                                                                      refine lv_iload hx hb dL_law_1556 (lh_at hl 4 rfl) ?_
                                                                      refine lv_iconst (v := (4 : Int32)) hx hb dL_law_1558 (by decide) ?_
                                                                      refine lv_iadd hx hb dL_law_1559 ?_
                                                                      refine s_iald X hG h dL_law_1560 (fun v210 h => ?_)
                                                                      refine s_callVi X hG hl.1.1 cvX0_157 h (As := [.int v207, .int v208, .int v209, .int v210]) (fr := 2) (lo := 46) (fun a v T hf => w_X4_nodeBound l D dA E Hb N a v207 v208 v209 v210 _ T v hf) rfl rfl ⟨Nat.le_of_ble_eq_true rfl, Nat.le_of_ble_eq_true rfl⟩ (xsum (xcatc rfl xcat0) (Nat.le_of_ble_eq_true rfl)) dL_law_1561 (fun v211 S H locs cells slots hG h => ?_)
                                                                      refine s_ic_eq X h dL_law_1564 (tgt := 2325) (by decide) (fun h => ?_) (fun h => ?_)
                                                                      · exact j2325 _ _ _ _ _ _ hG (lh_sub hl [0, 1, 2, 3, 4] rfl) h
                                                                      · refine lv_iconst (v := (0 : Int32)) hx hb dL_law_1567 (by decide) ?_
                                                                        exact s_zret X hG (t := 1) hr hlocks h dL_law_1568
                                                                    · rcases xbr_or h with ⟨k40_31, h⟩ | ⟨k40_31, h⟩
                                                                      · refine lv_tableIn hx hb dL_law_40 (by rw [k40_31]; decide) (by rw [k40_31]; decide) (off := 1529) (tgt := 1569) (by rw [k40_31]; decide +kernel) (by decide) ?_
                                                                        refine s_aload_n X (x := v1) dL_law_1569 rfl (lh_at hl 1 rfl) ?_
                                                                        refine s_aload_n X (x := p0) dL_law_1570 rfl (lh_at hl 0 rfl) ?_
                                                                        refine lv_iload hx hb dL_law_1571 (lh_at hl 4 rfl) ?_
                                                                        refine lv_iconst (v := (1 : Int32)) hx hb dL_law_1573 (by decide) ?_
                                                                        refine lv_iadd hx hb dL_law_1574 ?_
                                                                        refine s_iald X hG h dL_law_1575 (fun v212 h => ?_)
                                                                        refine s_aload_n X (x := p0) dL_law_1576 rfl (lh_at hl 0 rfl) ?_
                                                                        refine lv_iload hx hb dL_law_1577 (lh_at hl 4 rfl) ?_
                                                                        refine lv_iconst (v := (2 : Int32)) hx hb dL_law_1579 (by decide) ?_
                                                                        refine lv_iadd hx hb dL_law_1580 ?_
                                                                        refine s_iald X hG h dL_law_1581 (fun v213 h => ?_)
                                                                        refine s_callVi X hG hl.1.1 cvX0_158 h (As := [.int v212, .int v213]) (fr := 7) (lo := 174) (fun a v T hf => w_X1_way l D dA E Hb N a v212 v213 _ T v hf) rfl rfl ⟨Nat.le_of_ble_eq_true rfl, Nat.le_of_ble_eq_true rfl⟩ (xsum xcat0 (Nat.le_of_ble_eq_true rfl)) dL_law_1582 (fun v214 S H locs cells slots hG h => ?_)
                                                                        refine s_aload_n X (x := v2) dL_law_1585 rfl (lh_at hl 2 rfl) ?_
                                                                        refine s_aload_n X (x := p0) dL_law_1586 rfl (lh_at hl 0 rfl) ?_
                                                                        refine lv_iload hx hb dL_law_1587 (lh_at hl 4 rfl) ?_
                                                                        refine lv_iconst (v := (1 : Int32)) hx hb dL_law_1589 (by decide) ?_
                                                                        refine lv_iadd hx hb dL_law_1590 ?_
                                                                        refine s_iald X hG h dL_law_1591 (fun v215 h => ?_)
                                                                        refine s_aload_n X (x := p0) dL_law_1592 rfl (lh_at hl 0 rfl) ?_
                                                                        refine lv_iload hx hb dL_law_1593 (lh_at hl 4 rfl) ?_
                                                                        refine lv_iconst (v := (2 : Int32)) hx hb dL_law_1595 (by decide) ?_
                                                                        refine lv_iadd hx hb dL_law_1596 ?_
                                                                        refine s_iald X hG h dL_law_1597 (fun v216 h => ?_)
                                                                        refine s_callVi X hG hl.1.1 cvX0_161 h (As := [.int v215, .int v216]) (fr := 2) (lo := 47) (fun a v T hf => w_X4_way l D dA E Hb N a v215 v216 _ T v hf) rfl rfl ⟨Nat.le_of_ble_eq_true rfl, Nat.le_of_ble_eq_true rfl⟩ (xsum (xcatc rfl xcat0) (Nat.le_of_ble_eq_true rfl)) dL_law_1598 (fun v217 S H locs cells slots hG h => ?_)
                                                                        refine s_ic_eq X h dL_law_1601 (tgt := 2325) (by decide) (fun h => ?_) (fun h => ?_)
                                                                        · exact j2325 _ _ _ _ _ _ hG (lh_sub hl [0, 1, 2, 3, 4] rfl) h
                                                                        · refine lv_iconst (v := (0 : Int32)) hx hb dL_law_1604 (by decide) ?_
                                                                          exact s_zret X hG (t := 1) hr hlocks h dL_law_1605
                                                                      · rcases xbr_or h with ⟨k40_32, h⟩ | ⟨k40_32, h⟩
                                                                        · refine lv_tableIn hx hb dL_law_40 (by rw [k40_32]; decide) (by rw [k40_32]; decide) (off := 1566) (tgt := 1606) (by rw [k40_32]; decide +kernel) (by decide) ?_
                                                                          refine s_aload_n X (x := v1) dL_law_1606 rfl (lh_at hl 1 rfl) ?_
                                                                          refine s_aload_n X (x := p0) dL_law_1607 rfl (lh_at hl 0 rfl) ?_
                                                                          refine lv_iload hx hb dL_law_1608 (lh_at hl 4 rfl) ?_
                                                                          refine lv_iconst (v := (1 : Int32)) hx hb dL_law_1610 (by decide) ?_
                                                                          refine lv_iadd hx hb dL_law_1611 ?_
                                                                          refine s_iald X hG h dL_law_1612 (fun v218 h => ?_)
                                                                          refine s_callVi X hG hl.1.1 cvX0_162 h (As := [.int v218]) (fr := 7) (lo := 181) (fun a v T hf => w_X1_open l D dA E Hb N a v218 _ T v hf) rfl rfl ⟨Nat.le_of_ble_eq_true rfl, Nat.le_of_ble_eq_true rfl⟩ (xsum xcat0 (Nat.le_of_ble_eq_true rfl)) dL_law_1613 (fun v219 S H locs cells slots hG h => ?_)
                                                                          refine s_aload_n X (x := v2) dL_law_1616 rfl (lh_at hl 2 rfl) ?_
                                                                          refine s_aload_n X (x := p0) dL_law_1617 rfl (lh_at hl 0 rfl) ?_
                                                                          refine lv_iload hx hb dL_law_1618 (lh_at hl 4 rfl) ?_
                                                                          refine lv_iconst (v := (1 : Int32)) hx hb dL_law_1620 (by decide) ?_
                                                                          refine lv_iadd hx hb dL_law_1621 ?_
                                                                          refine s_iald X hG h dL_law_1622 (fun v220 h => ?_)
                                                                          refine s_callVi X hG hl.1.1 cvX0_165 h (As := [.int v220]) (fr := 7) (lo := 158) (fun a v T hf => w_X4_open l D dA E Hb N a v220 _ T v hf) rfl rfl ⟨Nat.le_of_ble_eq_true rfl, Nat.le_of_ble_eq_true rfl⟩ (xsum (xcatc rfl xcat0) (Nat.le_of_ble_eq_true rfl)) dL_law_1623 (fun v221 S H locs cells slots hG h => ?_)
                                                                          refine s_ic_eq X h dL_law_1626 (tgt := 2325) (by decide) (fun h => ?_) (fun h => ?_)
                                                                          · exact j2325 _ _ _ _ _ _ hG (lh_sub hl [0, 1, 2, 3, 4] rfl) h
                                                                          · refine lv_iconst (v := (0 : Int32)) hx hb dL_law_1629 (by decide) ?_
                                                                            exact s_zret X hG (t := 1) hr hlocks h dL_law_1630
                                                                        · rcases xbr_or h with ⟨k40_33, h⟩ | ⟨k40_33, h⟩
                                                                          · refine lv_tableIn hx hb dL_law_40 (by rw [k40_33]; decide) (by rw [k40_33]; decide) (off := 1591) (tgt := 1631) (by rw [k40_33]; decide +kernel) (by decide) ?_
                                                                            refine s_aload_n X (x := v1) dL_law_1631 rfl (lh_at hl 1 rfl) ?_
                                                                            refine s_callVi X hG hl.1.1 cvX0_166 h (As := []) (fr := 7) (lo := 181) (fun a v T hf => w_X1_stuck l D dA E Hb N a _ T v hf) rfl rfl ⟨Nat.le_of_ble_eq_true rfl, Nat.le_of_ble_eq_true rfl⟩ (xsum xcat0 (Nat.le_of_ble_eq_true rfl)) dL_law_1632 (fun v222 S H locs cells slots hG h => ?_)
                                                                            refine s_aload_n X (x := v2) dL_law_1635 rfl (lh_at hl 2 rfl) ?_
                                                                            refine s_callVi X hG hl.1.1 cvX0_169 h (As := []) (fr := 7) (lo := 158) (fun a v T hf => w_X4_stuck l D dA E Hb N a _ T v hf) rfl rfl ⟨Nat.le_of_ble_eq_true rfl, Nat.le_of_ble_eq_true rfl⟩ (xsum (xcatc rfl xcat0) (Nat.le_of_ble_eq_true rfl)) dL_law_1636 (fun v223 S H locs cells slots hG h => ?_)
                                                                            refine s_ic_eq X h dL_law_1639 (tgt := 2325) (by decide) (fun h => ?_) (fun h => ?_)
                                                                            · exact j2325 _ _ _ _ _ _ hG (lh_sub hl [0, 1, 2, 3, 4] rfl) h
                                                                            · refine lv_iconst (v := (0 : Int32)) hx hb dL_law_1642 (by decide) ?_
                                                                              exact s_zret X hG (t := 1) hr hlocks h dL_law_1643
                                                                          · rcases xbr_or h with ⟨k40_34, h⟩ | ⟨k40_34, h⟩
                                                                            · refine lv_tableIn hx hb dL_law_40 (by rw [k40_34]; decide) (by rw [k40_34]; decide) (off := 1604) (tgt := 1644) (by rw [k40_34]; decide +kernel) (by decide) ?_
                                                                              refine s_aload_n X (x := v1) dL_law_1644 rfl (lh_at hl 1 rfl) ?_
                                                                              refine s_callVi X hG hl.1.1 cvX0_170 h (As := []) (fr := 3) (lo := 61) (fun a v T hf => w_X1_reached_2 l D dA E Hb N a _ T v hf) rfl rfl ⟨Nat.le_of_ble_eq_true rfl, Nat.le_of_ble_eq_true rfl⟩ (xsum xcat0 (Nat.le_of_ble_eq_true rfl)) dL_law_1645 (fun v224 S H locs cells slots hG h => ?_)
                                                                              refine s_aload_n X (x := v2) dL_law_1648 rfl (lh_at hl 2 rfl) ?_
                                                                              refine s_callVi X hG hl.1.1 cvX0_173 h (As := []) (fr := 0) (lo := 0) (fun a v T hf => w_X4_reached_2 l D dA E Hb N a _ T v hf) rfl rfl ⟨Nat.le_of_ble_eq_true rfl, Nat.le_of_ble_eq_true rfl⟩ (xsum (xcatc rfl xcat0) (Nat.le_of_ble_eq_true rfl)) dL_law_1649 (fun v225 S H locs cells slots hG h => ?_)
                                                                              refine s_ic_eq X h dL_law_1652 (tgt := 2325) (by decide) (fun h => ?_) (fun h => ?_)
                                                                              · exact j2325 _ _ _ _ _ _ hG (lh_sub hl [0, 1, 2, 3, 4] rfl) h
                                                                              · refine lv_iconst (v := (0 : Int32)) hx hb dL_law_1655 (by decide) ?_
                                                                                exact s_zret X hG (t := 1) hr hlocks h dL_law_1656
                                                                            · rcases xbr_or h with ⟨k40_35, h⟩ | ⟨k40_35, h⟩
                                                                              · refine lv_tableIn hx hb dL_law_40 (by rw [k40_35]; decide) (by rw [k40_35]; decide) (off := 1617) (tgt := 1657) (by rw [k40_35]; decide +kernel) (by decide) ?_
                                                                                refine s_aload_n X (x := v1) dL_law_1657 rfl (lh_at hl 1 rfl) ?_
                                                                                refine s_aload_n X (x := p0) dL_law_1658 rfl (lh_at hl 0 rfl) ?_
                                                                                refine lv_iload hx hb dL_law_1659 (lh_at hl 4 rfl) ?_
                                                                                refine lv_iconst (v := (1 : Int32)) hx hb dL_law_1661 (by decide) ?_
                                                                                refine lv_iadd hx hb dL_law_1662 ?_
                                                                                refine s_iald X hG h dL_law_1663 (fun v226 h => ?_)
                                                                                refine s_callVi X hG hl.1.1 cvX0_174 h (As := [.int v226]) (fr := 7) (lo := 176) (fun a v T hf => w_X1_add l D dA E Hb N a v226 _ T v hf) rfl rfl ⟨Nat.le_of_ble_eq_true rfl, Nat.le_of_ble_eq_true rfl⟩ (xsum xcat0 (Nat.le_of_ble_eq_true rfl)) dL_law_1664 (fun v227 S H locs cells slots hG h => ?_)
                                                                                refine s_aload_n X (x := v2) dL_law_1667 rfl (lh_at hl 2 rfl) ?_
                                                                                refine s_aload_n X (x := p0) dL_law_1668 rfl (lh_at hl 0 rfl) ?_
                                                                                refine lv_iload hx hb dL_law_1669 (lh_at hl 4 rfl) ?_
                                                                                refine lv_iconst (v := (1 : Int32)) hx hb dL_law_1671 (by decide) ?_
                                                                                refine lv_iadd hx hb dL_law_1672 ?_
                                                                                refine s_iald X hG h dL_law_1673 (fun v228 h => ?_)
                                                                                refine s_callVi X hG hl.1.1 cvX0_177 h (As := [.int v228]) (fr := 2) (lo := 43) (fun a v T hf => w_X4_add l D dA E Hb N a v228 _ T v hf) rfl rfl ⟨Nat.le_of_ble_eq_true rfl, Nat.le_of_ble_eq_true rfl⟩ (xsum (xcatc rfl xcat0) (Nat.le_of_ble_eq_true rfl)) dL_law_1674 (fun v229 S H locs cells slots hG h => ?_)
                                                                                refine s_ic_eq X h dL_law_1677 (tgt := 2325) (by decide) (fun h => ?_) (fun h => ?_)
                                                                                · exact j2325 _ _ _ _ _ _ hG (lh_sub hl [0, 1, 2, 3, 4] rfl) h
                                                                                · refine lv_iconst (v := (0 : Int32)) hx hb dL_law_1680 (by decide) ?_
                                                                                  exact s_zret X hG (t := 1) hr hlocks h dL_law_1681
                                                                              · rcases xbr_or h with ⟨k40_36, h⟩ | ⟨k40_36, h⟩
                                                                                · refine lv_tableIn hx hb dL_law_40 (by rw [k40_36]; decide) (by rw [k40_36]; decide) (off := 1642) (tgt := 1682) (by rw [k40_36]; decide +kernel) (by decide) ?_
                                                                                  refine s_aload_n X (x := v1) dL_law_1682 rfl (lh_at hl 1 rfl) ?_
                                                                                  refine s_aload_n X (x := p0) dL_law_1683 rfl (lh_at hl 0 rfl) ?_
                                                                                  refine lv_iload hx hb dL_law_1684 (lh_at hl 4 rfl) ?_
                                                                                  refine lv_iconst (v := (1 : Int32)) hx hb dL_law_1686 (by decide) ?_
                                                                                  refine lv_iadd hx hb dL_law_1687 ?_
                                                                                  refine s_iald X hG h dL_law_1688 (fun v230 h => ?_)
                                                                                  refine s_callVi X hG hl.1.1 cvX0_178 h (As := [.int v230]) (fr := 7) (lo := 176) (fun a v T hf => w_X1_lead l D dA E Hb N a v230 _ T v hf) rfl rfl ⟨Nat.le_of_ble_eq_true rfl, Nat.le_of_ble_eq_true rfl⟩ (xsum xcat0 (Nat.le_of_ble_eq_true rfl)) dL_law_1689 (fun v231 S H locs cells slots hG h => ?_)
                                                                                  refine s_aload_n X (x := v2) dL_law_1692 rfl (lh_at hl 2 rfl) ?_
                                                                                  refine s_aload_n X (x := p0) dL_law_1693 rfl (lh_at hl 0 rfl) ?_
                                                                                  refine lv_iload hx hb dL_law_1694 (lh_at hl 4 rfl) ?_
                                                                                  refine lv_iconst (v := (1 : Int32)) hx hb dL_law_1696 (by decide) ?_
                                                                                  refine lv_iadd hx hb dL_law_1697 ?_
                                                                                  refine s_iald X hG h dL_law_1698 (fun v232 h => ?_)
                                                                                  refine s_callVi X hG hl.1.1 cvX0_181 h (As := [.int v232]) (fr := 2) (lo := 47) (fun a v T hf => w_X4_lead l D dA E Hb N a v232 _ T v hf) rfl rfl ⟨Nat.le_of_ble_eq_true rfl, Nat.le_of_ble_eq_true rfl⟩ (xsum (xcatc rfl xcat0) (Nat.le_of_ble_eq_true rfl)) dL_law_1699 (fun v233 S H locs cells slots hG h => ?_)
                                                                                  refine s_ic_eq X h dL_law_1702 (tgt := 2325) (by decide) (fun h => ?_) (fun h => ?_)
                                                                                  · exact j2325 _ _ _ _ _ _ hG (lh_sub hl [0, 1, 2, 3, 4] rfl) h
                                                                                  · refine lv_iconst (v := (0 : Int32)) hx hb dL_law_1705 (by decide) ?_
                                                                                    exact s_zret X hG (t := 1) hr hlocks h dL_law_1706
                                                                                · rcases xbr_or h with ⟨k40_37, h⟩ | ⟨k40_37, h⟩
                                                                                  · refine lv_tableIn hx hb dL_law_40 (by rw [k40_37]; decide) (by rw [k40_37]; decide) (off := 1667) (tgt := 1707) (by rw [k40_37]; decide +kernel) (by decide) ?_
                                                                                    refine s_aload_n X (x := v1) dL_law_1707 rfl (lh_at hl 1 rfl) ?_
                                                                                    refine s_aload_n X (x := p0) dL_law_1708 rfl (lh_at hl 0 rfl) ?_
                                                                                    refine lv_iload hx hb dL_law_1709 (lh_at hl 4 rfl) ?_
                                                                                    refine lv_iconst (v := (1 : Int32)) hx hb dL_law_1711 (by decide) ?_
                                                                                    refine lv_iadd hx hb dL_law_1712 ?_
                                                                                    refine s_iald X hG h dL_law_1713 (fun v234 h => ?_)
                                                                                    refine s_callVi X hG hl.1.1 cvX0_182 h (As := [.int v234]) (fr := 3) (lo := 64) (fun a v T hf => w_X1_trace l D dA E Hb N a v234 _ T v hf) rfl rfl ⟨Nat.le_of_ble_eq_true rfl, Nat.le_of_ble_eq_true rfl⟩ (xsum xcat0 (Nat.le_of_ble_eq_true rfl)) dL_law_1714 (fun v235 S H locs cells slots hG h => ?_)
                                                                                    refine s_aload_n X (x := v2) dL_law_1717 rfl (lh_at hl 2 rfl) ?_
                                                                                    refine s_aload_n X (x := p0) dL_law_1718 rfl (lh_at hl 0 rfl) ?_
                                                                                    refine lv_iload hx hb dL_law_1719 (lh_at hl 4 rfl) ?_
                                                                                    refine lv_iconst (v := (1 : Int32)) hx hb dL_law_1721 (by decide) ?_
                                                                                    refine lv_iadd hx hb dL_law_1722 ?_
                                                                                    refine s_iald X hG h dL_law_1723 (fun v236 h => ?_)
                                                                                    refine s_callVi X hG hl.1.1 cvX0_185 h (As := [.int v236]) (fr := 1) (lo := 20) (fun a v T hf => w_X4_trace l D dA E Hb N a v236 _ T v hf) rfl rfl ⟨Nat.le_of_ble_eq_true rfl, Nat.le_of_ble_eq_true rfl⟩ (xsum (xcatc rfl xcat0) (Nat.le_of_ble_eq_true rfl)) dL_law_1724 (fun v237 S H locs cells slots hG h => ?_)
                                                                                    refine s_ic_eq X h dL_law_1727 (tgt := 2325) (by decide) (fun h => ?_) (fun h => ?_)
                                                                                    · exact j2325 _ _ _ _ _ _ hG (lh_sub hl [0, 1, 2, 3, 4] rfl) h
                                                                                    · refine lv_iconst (v := (0 : Int32)) hx hb dL_law_1730 (by decide) ?_
                                                                                      exact s_zret X hG (t := 1) hr hlocks h dL_law_1731
                                                                                  · rcases xbr_or h with ⟨k40_38, h⟩ | ⟨k40_38, h⟩
                                                                                    · refine lv_tableIn hx hb dL_law_40 (by rw [k40_38]; decide) (by rw [k40_38]; decide) (off := 1692) (tgt := 1732) (by rw [k40_38]; decide +kernel) (by decide) ?_
                                                                                      refine s_aload_n X (x := v1) dL_law_1732 rfl (lh_at hl 1 rfl) ?_
                                                                                      refine s_callVi X hG hl.1.1 cvX0_186 h (As := []) (fr := 8) (lo := 203) (fun a v T hf => w_X1_can l D dA E Hb N a _ T v hf) rfl rfl ⟨Nat.le_of_ble_eq_true rfl, Nat.le_of_ble_eq_true rfl⟩ (xsum xcat0 (Nat.le_of_ble_eq_true rfl)) dL_law_1733 (fun v238 S H locs cells slots hG h => ?_)
                                                                                      refine s_aload_n X (x := v2) dL_law_1736 rfl (lh_at hl 2 rfl) ?_
                                                                                      refine s_callVi X hG hl.1.1 cvX0_189 h (As := []) (fr := 6) (lo := 142) (fun a v T hf => w_X4_can l D dA E Hb N a _ T v hf) rfl rfl ⟨Nat.le_of_ble_eq_true rfl, Nat.le_of_ble_eq_true rfl⟩ (xsum (xcatc rfl xcat0) (Nat.le_of_ble_eq_true rfl)) dL_law_1737 (fun v239 S H locs cells slots hG h => ?_)
                                                                                      refine s_ic_eq X h dL_law_1740 (tgt := 2325) (by decide) (fun h => ?_) (fun h => ?_)
                                                                                      · exact j2325 _ _ _ _ _ _ hG (lh_sub hl [0, 1, 2, 3, 4] rfl) h
                                                                                      · refine lv_iconst (v := (0 : Int32)) hx hb dL_law_1743 (by decide) ?_
                                                                                        exact s_zret X hG (t := 1) hr hlocks h dL_law_1744
                                                                                    · rcases xbr_or h with ⟨k40_39, h⟩ | ⟨k40_39, h⟩
                                                                                      · refine lv_tableIn hx hb dL_law_40 (by rw [k40_39]; decide) (by rw [k40_39]; decide) (off := 1705) (tgt := 1745) (by rw [k40_39]; decide +kernel) (by decide) ?_
                                                                                        refine s_aload_n X (x := v1) dL_law_1745 rfl (lh_at hl 1 rfl) ?_
                                                                                        refine s_aload_n X (x := p0) dL_law_1746 rfl (lh_at hl 0 rfl) ?_
                                                                                        refine lv_iload hx hb dL_law_1747 (lh_at hl 4 rfl) ?_
                                                                                        refine lv_iconst (v := (1 : Int32)) hx hb dL_law_1749 (by decide) ?_
                                                                                        refine lv_iadd hx hb dL_law_1750 ?_
                                                                                        refine s_iald X hG h dL_law_1751 (fun v240 h => ?_)
                                                                                        refine s_aload_n X (x := p0) dL_law_1752 rfl (lh_at hl 0 rfl) ?_
                                                                                        refine lv_iload hx hb dL_law_1753 (lh_at hl 4 rfl) ?_
                                                                                        refine lv_iconst (v := (2 : Int32)) hx hb dL_law_1755 (by decide) ?_
                                                                                        refine lv_iadd hx hb dL_law_1756 ?_
                                                                                        refine s_iald X hG h dL_law_1757 (fun v241 h => ?_)
                                                                                        refine s_callVi X hG hl.1.1 cvX0_190 h (As := [.int v240, .int v241]) (fr := 8) (lo := 203) (fun a v T hf => w_X1_window l D dA E Hb N a v240 v241 _ T v hf) rfl rfl ⟨Nat.le_of_ble_eq_true rfl, Nat.le_of_ble_eq_true rfl⟩ (xsum xcat0 (Nat.le_of_ble_eq_true rfl)) dL_law_1758 (fun v242 S H locs cells slots hG h => ?_)
                                                                                        refine s_aload_n X (x := v2) dL_law_1761 rfl (lh_at hl 2 rfl) ?_
                                                                                        refine s_aload_n X (x := p0) dL_law_1762 rfl (lh_at hl 0 rfl) ?_
                                                                                        refine lv_iload hx hb dL_law_1763 (lh_at hl 4 rfl) ?_
                                                                                        refine lv_iconst (v := (1 : Int32)) hx hb dL_law_1765 (by decide) ?_
                                                                                        refine lv_iadd hx hb dL_law_1766 ?_
                                                                                        refine s_iald X hG h dL_law_1767 (fun v243 h => ?_)
                                                                                        refine s_aload_n X (x := p0) dL_law_1768 rfl (lh_at hl 0 rfl) ?_
                                                                                        refine lv_iload hx hb dL_law_1769 (lh_at hl 4 rfl) ?_
                                                                                        refine lv_iconst (v := (2 : Int32)) hx hb dL_law_1771 (by decide) ?_
                                                                                        refine lv_iadd hx hb dL_law_1772 ?_
                                                                                        refine s_iald X hG h dL_law_1773 (fun v244 h => ?_)
                                                                                        refine s_callVi X hG hl.1.1 cvX0_193 h (As := [.int v243, .int v244]) (fr := 6) (lo := 142) (fun a v T hf => w_X4_window l D dA E Hb N a v243 v244 _ T v hf) rfl rfl ⟨Nat.le_of_ble_eq_true rfl, Nat.le_of_ble_eq_true rfl⟩ (xsum (xcatc rfl xcat0) (Nat.le_of_ble_eq_true rfl)) dL_law_1774 (fun v245 S H locs cells slots hG h => ?_)
                                                                                        refine s_ic_eq X h dL_law_1777 (tgt := 2325) (by decide) (fun h => ?_) (fun h => ?_)
                                                                                        · exact j2325 _ _ _ _ _ _ hG (lh_sub hl [0, 1, 2, 3, 4] rfl) h
                                                                                        · refine lv_iconst (v := (0 : Int32)) hx hb dL_law_1780 (by decide) ?_
                                                                                          exact s_zret X hG (t := 1) hr hlocks h dL_law_1781
                                                                                      · rcases xbr_or h with ⟨k40_40, h⟩ | ⟨k40_40, h⟩
                                                                                        · refine lv_tableIn hx hb dL_law_40 (by rw [k40_40]; decide) (by rw [k40_40]; decide) (off := 1742) (tgt := 1782) (by rw [k40_40]; decide +kernel) (by decide) ?_
                                                                                          refine s_aload_n X (x := v1) dL_law_1782 rfl (lh_at hl 1 rfl) ?_
                                                                                          refine s_aload_n X (x := p0) dL_law_1783 rfl (lh_at hl 0 rfl) ?_
                                                                                          refine lv_iload hx hb dL_law_1784 (lh_at hl 4 rfl) ?_
                                                                                          refine lv_iconst (v := (1 : Int32)) hx hb dL_law_1786 (by decide) ?_
                                                                                          refine lv_iadd hx hb dL_law_1787 ?_
                                                                                          refine s_iald X hG h dL_law_1788 (fun v246 h => ?_)
                                                                                          refine s_aload_n X (x := p0) dL_law_1789 rfl (lh_at hl 0 rfl) ?_
                                                                                          refine lv_iload hx hb dL_law_1790 (lh_at hl 4 rfl) ?_
                                                                                          refine lv_iconst (v := (2 : Int32)) hx hb dL_law_1792 (by decide) ?_
                                                                                          refine lv_iadd hx hb dL_law_1793 ?_
                                                                                          refine s_iald X hG h dL_law_1794 (fun v247 h => ?_)
                                                                                          refine s_aload_n X (x := p0) dL_law_1795 rfl (lh_at hl 0 rfl) ?_
                                                                                          refine lv_iload hx hb dL_law_1796 (lh_at hl 4 rfl) ?_
                                                                                          refine lv_iconst (v := (3 : Int32)) hx hb dL_law_1798 (by decide) ?_
                                                                                          refine lv_iadd hx hb dL_law_1799 ?_
                                                                                          refine s_iald X hG h dL_law_1800 (fun v248 h => ?_)
                                                                                          refine s_callVi X hG hl.1.1 cvX0_194 h (As := [.int v246, .int v247, .int v248]) (fr := 8) (lo := 203) (fun a v T hf => w_X1_between l D dA E Hb N a v246 v247 v248 _ T v hf) rfl rfl ⟨Nat.le_of_ble_eq_true rfl, Nat.le_of_ble_eq_true rfl⟩ (xsum xcat0 (Nat.le_of_ble_eq_true rfl)) dL_law_1801 (fun v249 S H locs cells slots hG h => ?_)
                                                                                          refine s_aload_n X (x := v2) dL_law_1804 rfl (lh_at hl 2 rfl) ?_
                                                                                          refine s_aload_n X (x := p0) dL_law_1805 rfl (lh_at hl 0 rfl) ?_
                                                                                          refine lv_iload hx hb dL_law_1806 (lh_at hl 4 rfl) ?_
                                                                                          refine lv_iconst (v := (1 : Int32)) hx hb dL_law_1808 (by decide) ?_
                                                                                          refine lv_iadd hx hb dL_law_1809 ?_
                                                                                          refine s_iald X hG h dL_law_1810 (fun v250 h => ?_)
                                                                                          refine s_aload_n X (x := p0) dL_law_1811 rfl (lh_at hl 0 rfl) ?_
                                                                                          refine lv_iload hx hb dL_law_1812 (lh_at hl 4 rfl) ?_
                                                                                          refine lv_iconst (v := (2 : Int32)) hx hb dL_law_1814 (by decide) ?_
                                                                                          refine lv_iadd hx hb dL_law_1815 ?_
                                                                                          refine s_iald X hG h dL_law_1816 (fun v251 h => ?_)
                                                                                          refine s_aload_n X (x := p0) dL_law_1817 rfl (lh_at hl 0 rfl) ?_
                                                                                          refine lv_iload hx hb dL_law_1818 (lh_at hl 4 rfl) ?_
                                                                                          refine lv_iconst (v := (3 : Int32)) hx hb dL_law_1820 (by decide) ?_
                                                                                          refine lv_iadd hx hb dL_law_1821 ?_
                                                                                          refine s_iald X hG h dL_law_1822 (fun v252 h => ?_)
                                                                                          refine s_callVi X hG hl.1.1 cvX0_197 h (As := [.int v250, .int v251, .int v252]) (fr := 6) (lo := 142) (fun a v T hf => w_X4_between l D dA E Hb N a v250 v251 v252 _ T v hf) rfl rfl ⟨Nat.le_of_ble_eq_true rfl, Nat.le_of_ble_eq_true rfl⟩ (xsum (xcatc rfl xcat0) (Nat.le_of_ble_eq_true rfl)) dL_law_1823 (fun v253 S H locs cells slots hG h => ?_)
                                                                                          refine s_ic_eq X h dL_law_1826 (tgt := 2325) (by decide) (fun h => ?_) (fun h => ?_)
                                                                                          · exact j2325 _ _ _ _ _ _ hG (lh_sub hl [0, 1, 2, 3, 4] rfl) h
                                                                                          · refine lv_iconst (v := (0 : Int32)) hx hb dL_law_1829 (by decide) ?_
                                                                                            exact s_zret X hG (t := 1) hr hlocks h dL_law_1830
                                                                                        · rcases xbr_or h with ⟨k40_41, h⟩ | ⟨k40_41, h⟩
                                                                                          · refine lv_tableIn hx hb dL_law_40 (by rw [k40_41]; decide) (by rw [k40_41]; decide) (off := 1791) (tgt := 1831) (by rw [k40_41]; decide +kernel) (by decide) ?_
                                                                                            refine s_aload_n X (x := v1) dL_law_1831 rfl (lh_at hl 1 rfl) ?_
                                                                                            refine s_aload_n X (x := p0) dL_law_1832 rfl (lh_at hl 0 rfl) ?_
                                                                                            refine lv_iload hx hb dL_law_1833 (lh_at hl 4 rfl) ?_
                                                                                            refine lv_iconst (v := (1 : Int32)) hx hb dL_law_1835 (by decide) ?_
                                                                                            refine lv_iadd hx hb dL_law_1836 ?_
                                                                                            refine s_iald X hG h dL_law_1837 (fun v254 h => ?_)
                                                                                            refine s_aload_n X (x := p0) dL_law_1838 rfl (lh_at hl 0 rfl) ?_
                                                                                            refine lv_iload hx hb dL_law_1839 (lh_at hl 4 rfl) ?_
                                                                                            refine lv_iconst (v := (2 : Int32)) hx hb dL_law_1841 (by decide) ?_
                                                                                            refine lv_iadd hx hb dL_law_1842 ?_
                                                                                            refine s_iald X hG h dL_law_1843 (fun v255 h => ?_)
                                                                                            refine s_aload_n X (x := p0) dL_law_1844 rfl (lh_at hl 0 rfl) ?_
                                                                                            refine lv_iload hx hb dL_law_1845 (lh_at hl 4 rfl) ?_
                                                                                            refine lv_iconst (v := (3 : Int32)) hx hb dL_law_1847 (by decide) ?_
                                                                                            refine lv_iadd hx hb dL_law_1848 ?_
                                                                                            refine s_iald X hG h dL_law_1849 (fun v256 h => ?_)
                                                                                            refine s_callVi X hG hl.1.1 cvX0_198 h (As := [.int v254, .int v255, .int v256]) (fr := 8) (lo := 203) (fun a v T hf => w_X1_value l D dA E Hb N a v254 v255 v256 _ T v hf) rfl rfl ⟨Nat.le_of_ble_eq_true rfl, Nat.le_of_ble_eq_true rfl⟩ (xsum xcat0 (Nat.le_of_ble_eq_true rfl)) dL_law_1850 (fun v257 S H locs cells slots hG h => ?_)
                                                                                            refine s_aload_n X (x := v2) dL_law_1853 rfl (lh_at hl 2 rfl) ?_
                                                                                            refine s_aload_n X (x := p0) dL_law_1854 rfl (lh_at hl 0 rfl) ?_
                                                                                            refine lv_iload hx hb dL_law_1855 (lh_at hl 4 rfl) ?_
                                                                                            refine lv_iconst (v := (1 : Int32)) hx hb dL_law_1857 (by decide) ?_
                                                                                            refine lv_iadd hx hb dL_law_1858 ?_
                                                                                            refine s_iald X hG h dL_law_1859 (fun v258 h => ?_)
                                                                                            refine s_aload_n X (x := p0) dL_law_1860 rfl (lh_at hl 0 rfl) ?_
                                                                                            refine lv_iload hx hb dL_law_1861 (lh_at hl 4 rfl) ?_
                                                                                            refine lv_iconst (v := (2 : Int32)) hx hb dL_law_1863 (by decide) ?_
                                                                                            refine lv_iadd hx hb dL_law_1864 ?_
                                                                                            refine s_iald X hG h dL_law_1865 (fun v259 h => ?_)
                                                                                            refine s_aload_n X (x := p0) dL_law_1866 rfl (lh_at hl 0 rfl) ?_
                                                                                            refine lv_iload hx hb dL_law_1867 (lh_at hl 4 rfl) ?_
                                                                                            refine lv_iconst (v := (3 : Int32)) hx hb dL_law_1869 (by decide) ?_
                                                                                            refine lv_iadd hx hb dL_law_1870 ?_
                                                                                            refine s_iald X hG h dL_law_1871 (fun v260 h => ?_)
                                                                                            refine s_callVi X hG hl.1.1 cvX0_201 h (As := [.int v258, .int v259, .int v260]) (fr := 6) (lo := 142) (fun a v T hf => w_X4_value l D dA E Hb N a v258 v259 v260 _ T v hf) rfl rfl ⟨Nat.le_of_ble_eq_true rfl, Nat.le_of_ble_eq_true rfl⟩ (xsum (xcatc rfl xcat0) (Nat.le_of_ble_eq_true rfl)) dL_law_1872 (fun v261 S H locs cells slots hG h => ?_)
                                                                                            refine s_ic_eq X h dL_law_1875 (tgt := 2325) (by decide) (fun h => ?_) (fun h => ?_)
                                                                                            · exact j2325 _ _ _ _ _ _ hG (lh_sub hl [0, 1, 2, 3, 4] rfl) h
                                                                                            · refine lv_iconst (v := (0 : Int32)) hx hb dL_law_1878 (by decide) ?_
                                                                                              exact s_zret X hG (t := 1) hr hlocks h dL_law_1879
                                                                                          · rcases xbr_or h with ⟨k40_42, h⟩ | ⟨k40_42, h⟩
                                                                                            · refine lv_tableIn hx hb dL_law_40 (by rw [k40_42]; decide) (by rw [k40_42]; decide) (off := 1840) (tgt := 1880) (by rw [k40_42]; decide +kernel) (by decide) ?_
                                                                                              refine s_aload_n X (x := v1) dL_law_1880 rfl (lh_at hl 1 rfl) ?_
                                                                                              refine s_callVi X hG hl.1.1 cvX0_202 h (As := []) (fr := 8) (lo := 203) (fun a v T hf => w_X1_breaks l D dA E Hb N a _ T v hf) rfl rfl ⟨Nat.le_of_ble_eq_true rfl, Nat.le_of_ble_eq_true rfl⟩ (xsum xcat0 (Nat.le_of_ble_eq_true rfl)) dL_law_1881 (fun v262 S H locs cells slots hG h => ?_)
                                                                                              refine s_aload_n X (x := v2) dL_law_1884 rfl (lh_at hl 2 rfl) ?_
                                                                                              refine s_callVi X hG hl.1.1 cvX0_205 h (As := []) (fr := 5) (lo := 122) (fun a v T hf => w_X4_breaks l D dA E Hb N a _ T v hf) rfl rfl ⟨Nat.le_of_ble_eq_true rfl, Nat.le_of_ble_eq_true rfl⟩ (xsum (xcatc rfl xcat0) (Nat.le_of_ble_eq_true rfl)) dL_law_1885 (fun v263 S H locs cells slots hG h => ?_)
                                                                                              refine s_ic_eq X h dL_law_1888 (tgt := 2325) (by decide) (fun h => ?_) (fun h => ?_)
                                                                                              · exact j2325 _ _ _ _ _ _ hG (lh_sub hl [0, 1, 2, 3, 4] rfl) h
                                                                                              · refine lv_iconst (v := (0 : Int32)) hx hb dL_law_1891 (by decide) ?_
                                                                                                exact s_zret X hG (t := 1) hr hlocks h dL_law_1892
                                                                                            · rcases xbr_or h with ⟨k40_43, h⟩ | ⟨k40_43, h⟩
                                                                                              · refine lv_tableIn hx hb dL_law_40 (by rw [k40_43]; decide) (by rw [k40_43]; decide) (off := 1853) (tgt := 1893) (by rw [k40_43]; decide +kernel) (by decide) ?_
                                                                                                refine s_aload_n X (x := v1) dL_law_1893 rfl (lh_at hl 1 rfl) ?_
                                                                                                refine s_aload_n X (x := p0) dL_law_1894 rfl (lh_at hl 0 rfl) ?_
                                                                                                refine lv_iload hx hb dL_law_1895 (lh_at hl 4 rfl) ?_
                                                                                                refine lv_iconst (v := (1 : Int32)) hx hb dL_law_1897 (by decide) ?_
                                                                                                refine lv_iadd hx hb dL_law_1898 ?_
                                                                                                refine s_iald X hG h dL_law_1899 (fun v264 h => ?_)
                                                                                                refine s_aload_n X (x := p0) dL_law_1900 rfl (lh_at hl 0 rfl) ?_
                                                                                                refine lv_iload hx hb dL_law_1901 (lh_at hl 4 rfl) ?_
                                                                                                refine lv_iconst (v := (2 : Int32)) hx hb dL_law_1903 (by decide) ?_
                                                                                                refine lv_iadd hx hb dL_law_1904 ?_
                                                                                                refine s_iald X hG h dL_law_1905 (fun v265 h => ?_)
                                                                                                refine s_aload_n X (x := p0) dL_law_1906 rfl (lh_at hl 0 rfl) ?_
                                                                                                refine lv_iload hx hb dL_law_1907 (lh_at hl 4 rfl) ?_
                                                                                                refine lv_iconst (v := (3 : Int32)) hx hb dL_law_1909 (by decide) ?_
                                                                                                refine lv_iadd hx hb dL_law_1910 ?_
                                                                                                refine s_iald X hG h dL_law_1911 (fun v266 h => ?_)
                                                                                                refine s_aload_n X (x := p0) dL_law_1912 rfl (lh_at hl 0 rfl) ?_
                                                                                                refine lv_iload hx hb dL_law_1913 (lh_at hl 4 rfl) ?_
                                                                                                refine lv_iconst (v := (4 : Int32)) hx hb dL_law_1915 (by decide) ?_
                                                                                                refine lv_iadd hx hb dL_law_1916 ?_
                                                                                                refine s_iald X hG h dL_law_1917 (fun v267 h => ?_)
                                                                                                refine s_callVi X hG hl.1.1 cvX0_206 h (As := [.int v264, .int v265, .int v266, .int v267]) (fr := 3) (lo := 64) (fun a v T hf => w_X1_width l D dA E Hb N a v264 v265 v266 v267 _ T v hf) rfl rfl ⟨Nat.le_of_ble_eq_true rfl, Nat.le_of_ble_eq_true rfl⟩ (xsum xcat0 (Nat.le_of_ble_eq_true rfl)) dL_law_1918 (fun v268 S H locs cells slots hG h => ?_)
                                                                                                refine s_aload_n X (x := v2) dL_law_1921 rfl (lh_at hl 2 rfl) ?_
                                                                                                refine s_aload_n X (x := p0) dL_law_1922 rfl (lh_at hl 0 rfl) ?_
                                                                                                refine lv_iload hx hb dL_law_1923 (lh_at hl 4 rfl) ?_
                                                                                                refine lv_iconst (v := (1 : Int32)) hx hb dL_law_1925 (by decide) ?_
                                                                                                refine lv_iadd hx hb dL_law_1926 ?_
                                                                                                refine s_iald X hG h dL_law_1927 (fun v269 h => ?_)
                                                                                                refine s_aload_n X (x := p0) dL_law_1928 rfl (lh_at hl 0 rfl) ?_
                                                                                                refine lv_iload hx hb dL_law_1929 (lh_at hl 4 rfl) ?_
                                                                                                refine lv_iconst (v := (2 : Int32)) hx hb dL_law_1931 (by decide) ?_
                                                                                                refine lv_iadd hx hb dL_law_1932 ?_
                                                                                                refine s_iald X hG h dL_law_1933 (fun v270 h => ?_)
                                                                                                refine s_aload_n X (x := p0) dL_law_1934 rfl (lh_at hl 0 rfl) ?_
                                                                                                refine lv_iload hx hb dL_law_1935 (lh_at hl 4 rfl) ?_
                                                                                                refine lv_iconst (v := (3 : Int32)) hx hb dL_law_1937 (by decide) ?_
                                                                                                refine lv_iadd hx hb dL_law_1938 ?_
                                                                                                refine s_iald X hG h dL_law_1939 (fun v271 h => ?_)
                                                                                                refine s_aload_n X (x := p0) dL_law_1940 rfl (lh_at hl 0 rfl) ?_
                                                                                                refine lv_iload hx hb dL_law_1941 (lh_at hl 4 rfl) ?_
                                                                                                refine lv_iconst (v := (4 : Int32)) hx hb dL_law_1943 (by decide) ?_
                                                                                                refine lv_iadd hx hb dL_law_1944 ?_
                                                                                                refine s_iald X hG h dL_law_1945 (fun v272 h => ?_)
                                                                                                refine s_callVi X hG hl.1.1 cvX0_209 h (As := [.int v269, .int v270, .int v271, .int v272]) (fr := 2) (lo := 46) (fun a v T hf => w_X4_width l D dA E Hb N a v269 v270 v271 v272 _ T v hf) rfl rfl ⟨Nat.le_of_ble_eq_true rfl, Nat.le_of_ble_eq_true rfl⟩ (xsum (xcatc rfl xcat0) (Nat.le_of_ble_eq_true rfl)) dL_law_1946 (fun v273 S H locs cells slots hG h => ?_)
                                                                                                refine s_ic_eq X h dL_law_1949 (tgt := 2325) (by decide) (fun h => ?_) (fun h => ?_)
                                                                                                · exact j2325 _ _ _ _ _ _ hG (lh_sub hl [0, 1, 2, 3, 4] rfl) h
                                                                                                · refine lv_iconst (v := (0 : Int32)) hx hb dL_law_1952 (by decide) ?_
                                                                                                  exact s_zret X hG (t := 1) hr hlocks h dL_law_1953
                                                                                              · rcases xbr_or h with ⟨k40_44, h⟩ | ⟨k40_44, h⟩
                                                                                                · refine lv_tableIn hx hb dL_law_40 (by rw [k40_44]; decide) (by rw [k40_44]; decide) (off := 1914) (tgt := 1954) (by rw [k40_44]; decide +kernel) (by decide) ?_
                                                                                                  refine s_aload_n X (x := v1) dL_law_1954 rfl (lh_at hl 1 rfl) ?_
                                                                                                  refine s_aload_n X (x := p0) dL_law_1955 rfl (lh_at hl 0 rfl) ?_
                                                                                                  refine lv_iload hx hb dL_law_1956 (lh_at hl 4 rfl) ?_
                                                                                                  refine lv_iconst (v := (1 : Int32)) hx hb dL_law_1958 (by decide) ?_
                                                                                                  refine lv_iadd hx hb dL_law_1959 ?_
                                                                                                  refine s_iald X hG h dL_law_1960 (fun v274 h => ?_)
                                                                                                  refine s_aload_n X (x := p0) dL_law_1961 rfl (lh_at hl 0 rfl) ?_
                                                                                                  refine lv_iload hx hb dL_law_1962 (lh_at hl 4 rfl) ?_
                                                                                                  refine lv_iconst (v := (2 : Int32)) hx hb dL_law_1964 (by decide) ?_
                                                                                                  refine lv_iadd hx hb dL_law_1965 ?_
                                                                                                  refine s_iald X hG h dL_law_1966 (fun v275 h => ?_)
                                                                                                  refine s_callVi X hG hl.1.1 cvX0_210 h (As := [.int v274, .int v275]) (fr := 4) (lo := 103) (fun a v T hf => w_X1_touch l D dA E Hb N a v274 v275 _ T v hf) rfl rfl ⟨Nat.le_of_ble_eq_true rfl, Nat.le_of_ble_eq_true rfl⟩ (xsum xcat0 (Nat.le_of_ble_eq_true rfl)) dL_law_1967 (fun v276 S H locs cells slots hG h => ?_)
                                                                                                  refine s_aload_n X (x := v2) dL_law_1970 rfl (lh_at hl 2 rfl) ?_
                                                                                                  refine s_aload_n X (x := p0) dL_law_1971 rfl (lh_at hl 0 rfl) ?_
                                                                                                  refine lv_iload hx hb dL_law_1972 (lh_at hl 4 rfl) ?_
                                                                                                  refine lv_iconst (v := (1 : Int32)) hx hb dL_law_1974 (by decide) ?_
                                                                                                  refine lv_iadd hx hb dL_law_1975 ?_
                                                                                                  refine s_iald X hG h dL_law_1976 (fun v277 h => ?_)
                                                                                                  refine s_aload_n X (x := p0) dL_law_1977 rfl (lh_at hl 0 rfl) ?_
                                                                                                  refine lv_iload hx hb dL_law_1978 (lh_at hl 4 rfl) ?_
                                                                                                  refine lv_iconst (v := (2 : Int32)) hx hb dL_law_1980 (by decide) ?_
                                                                                                  refine lv_iadd hx hb dL_law_1981 ?_
                                                                                                  refine s_iald X hG h dL_law_1982 (fun v278 h => ?_)
                                                                                                  refine s_callVi X hG hl.1.1 cvX0_213 h (As := [.int v277, .int v278]) (fr := 4) (lo := 93) (fun a v T hf => w_X4_touch l D dA E Hb N a v277 v278 _ T v hf) rfl rfl ⟨Nat.le_of_ble_eq_true rfl, Nat.le_of_ble_eq_true rfl⟩ (xsum (xcatc rfl xcat0) (Nat.le_of_ble_eq_true rfl)) dL_law_1983 (fun v279 S H locs cells slots hG h => ?_)
                                                                                                  refine s_ic_eq X h dL_law_1986 (tgt := 2325) (by decide) (fun h => ?_) (fun h => ?_)
                                                                                                  · exact j2325 _ _ _ _ _ _ hG (lh_sub hl [0, 1, 2, 3, 4] rfl) h
                                                                                                  · refine lv_iconst (v := (0 : Int32)) hx hb dL_law_1989 (by decide) ?_
                                                                                                    exact s_zret X hG (t := 1) hr hlocks h dL_law_1990
                                                                                                · rcases xbr_or h with ⟨k40_45, h⟩ | ⟨k40_45, h⟩
                                                                                                  · refine lv_tableIn hx hb dL_law_40 (by rw [k40_45]; decide) (by rw [k40_45]; decide) (off := 1951) (tgt := 1991) (by rw [k40_45]; decide +kernel) (by decide) ?_
                                                                                                    refine s_aload_n X (x := v1) dL_law_1991 rfl (lh_at hl 1 rfl) ?_
                                                                                                    refine s_aload_n X (x := p0) dL_law_1992 rfl (lh_at hl 0 rfl) ?_
                                                                                                    refine lv_iload hx hb dL_law_1993 (lh_at hl 4 rfl) ?_
                                                                                                    refine lv_iconst (v := (1 : Int32)) hx hb dL_law_1995 (by decide) ?_
                                                                                                    refine lv_iadd hx hb dL_law_1996 ?_
                                                                                                    refine s_iald X hG h dL_law_1997 (fun v280 h => ?_)
                                                                                                    refine s_aload_n X (x := p0) dL_law_1998 rfl (lh_at hl 0 rfl) ?_
                                                                                                    refine lv_iload hx hb dL_law_1999 (lh_at hl 4 rfl) ?_
                                                                                                    refine lv_iconst (v := (2 : Int32)) hx hb dL_law_2001 (by decide) ?_
                                                                                                    refine lv_iadd hx hb dL_law_2002 ?_
                                                                                                    refine s_iald X hG h dL_law_2003 (fun v281 h => ?_)
                                                                                                    refine s_callVi X hG hl.1.1 cvX0_214 h (As := [.int v280, .int v281]) (fr := 7) (lo := 177) (fun a v T hf => w_X1_back l D dA E Hb N a v280 v281 _ T v hf) rfl rfl ⟨Nat.le_of_ble_eq_true rfl, Nat.le_of_ble_eq_true rfl⟩ (xsum xcat0 (Nat.le_of_ble_eq_true rfl)) dL_law_2004 (fun v282 S H locs cells slots hG h => ?_)
                                                                                                    refine s_aload_n X (x := v2) dL_law_2007 rfl (lh_at hl 2 rfl) ?_
                                                                                                    refine s_aload_n X (x := p0) dL_law_2008 rfl (lh_at hl 0 rfl) ?_
                                                                                                    refine lv_iload hx hb dL_law_2009 (lh_at hl 4 rfl) ?_
                                                                                                    refine lv_iconst (v := (1 : Int32)) hx hb dL_law_2011 (by decide) ?_
                                                                                                    refine lv_iadd hx hb dL_law_2012 ?_
                                                                                                    refine s_iald X hG h dL_law_2013 (fun v283 h => ?_)
                                                                                                    refine s_aload_n X (x := p0) dL_law_2014 rfl (lh_at hl 0 rfl) ?_
                                                                                                    refine lv_iload hx hb dL_law_2015 (lh_at hl 4 rfl) ?_
                                                                                                    refine lv_iconst (v := (2 : Int32)) hx hb dL_law_2017 (by decide) ?_
                                                                                                    refine lv_iadd hx hb dL_law_2018 ?_
                                                                                                    refine s_iald X hG h dL_law_2019 (fun v284 h => ?_)
                                                                                                    refine s_callVi X hG hl.1.1 cvX0_217 h (As := [.int v283, .int v284]) (fr := 5) (lo := 114) (fun a v T hf => w_X4_back l D dA E Hb N a v283 v284 _ T v hf) rfl rfl ⟨Nat.le_of_ble_eq_true rfl, Nat.le_of_ble_eq_true rfl⟩ (xsum (xcatc rfl xcat0) (Nat.le_of_ble_eq_true rfl)) dL_law_2020 (fun v285 S H locs cells slots hG h => ?_)
                                                                                                    refine s_ic_eq X h dL_law_2023 (tgt := 2325) (by decide) (fun h => ?_) (fun h => ?_)
                                                                                                    · exact j2325 _ _ _ _ _ _ hG (lh_sub hl [0, 1, 2, 3, 4] rfl) h
                                                                                                    · refine lv_iconst (v := (0 : Int32)) hx hb dL_law_2026 (by decide) ?_
                                                                                                      exact s_zret X hG (t := 1) hr hlocks h dL_law_2027
                                                                                                  · rcases xbr_or h with ⟨k40_46, h⟩ | ⟨k40_46, h⟩
                                                                                                    · refine lv_tableIn hx hb dL_law_40 (by rw [k40_46]; decide) (by rw [k40_46]; decide) (off := 1988) (tgt := 2028) (by rw [k40_46]; decide +kernel) (by decide) ?_
                                                                                                      refine s_aload_n X (x := v1) dL_law_2028 rfl (lh_at hl 1 rfl) ?_
                                                                                                      refine s_aload_n X (x := p0) dL_law_2029 rfl (lh_at hl 0 rfl) ?_
                                                                                                      refine lv_iload hx hb dL_law_2030 (lh_at hl 4 rfl) ?_
                                                                                                      refine lv_iconst (v := (1 : Int32)) hx hb dL_law_2032 (by decide) ?_
                                                                                                      refine lv_iadd hx hb dL_law_2033 ?_
                                                                                                      refine s_iald X hG h dL_law_2034 (fun v286 h => ?_)
                                                                                                      refine s_aload_n X (x := p0) dL_law_2035 rfl (lh_at hl 0 rfl) ?_
                                                                                                      refine lv_iload hx hb dL_law_2036 (lh_at hl 4 rfl) ?_
                                                                                                      refine lv_iconst (v := (2 : Int32)) hx hb dL_law_2038 (by decide) ?_
                                                                                                      refine lv_iadd hx hb dL_law_2039 ?_
                                                                                                      refine s_iald X hG h dL_law_2040 (fun v287 h => ?_)
                                                                                                      refine s_aload_n X (x := p0) dL_law_2041 rfl (lh_at hl 0 rfl) ?_
                                                                                                      refine lv_iload hx hb dL_law_2042 (lh_at hl 4 rfl) ?_
                                                                                                      refine lv_iconst (v := (3 : Int32)) hx hb dL_law_2044 (by decide) ?_
                                                                                                      refine lv_iadd hx hb dL_law_2045 ?_
                                                                                                      refine s_iald X hG h dL_law_2046 (fun v288 h => ?_)
                                                                                                      refine s_callVi X hG hl.1.1 cvX0_218 h (As := [.int v286, .int v287, .int v288]) (fr := 6) (lo := 158) (fun a v T hf => w_X1_longest l D dA E Hb N a v286 v287 v288 _ T v hf) rfl rfl ⟨Nat.le_of_ble_eq_true rfl, Nat.le_of_ble_eq_true rfl⟩ (xsum xcat0 (Nat.le_of_ble_eq_true rfl)) dL_law_2047 (fun v289 S H locs cells slots hG h => ?_)
                                                                                                      refine s_aload_n X (x := v2) dL_law_2050 rfl (lh_at hl 2 rfl) ?_
                                                                                                      refine s_aload_n X (x := p0) dL_law_2051 rfl (lh_at hl 0 rfl) ?_
                                                                                                      refine lv_iload hx hb dL_law_2052 (lh_at hl 4 rfl) ?_
                                                                                                      refine lv_iconst (v := (1 : Int32)) hx hb dL_law_2054 (by decide) ?_
                                                                                                      refine lv_iadd hx hb dL_law_2055 ?_
                                                                                                      refine s_iald X hG h dL_law_2056 (fun v290 h => ?_)
                                                                                                      refine s_aload_n X (x := p0) dL_law_2057 rfl (lh_at hl 0 rfl) ?_
                                                                                                      refine lv_iload hx hb dL_law_2058 (lh_at hl 4 rfl) ?_
                                                                                                      refine lv_iconst (v := (2 : Int32)) hx hb dL_law_2060 (by decide) ?_
                                                                                                      refine lv_iadd hx hb dL_law_2061 ?_
                                                                                                      refine s_iald X hG h dL_law_2062 (fun v291 h => ?_)
                                                                                                      refine s_aload_n X (x := p0) dL_law_2063 rfl (lh_at hl 0 rfl) ?_
                                                                                                      refine lv_iload hx hb dL_law_2064 (lh_at hl 4 rfl) ?_
                                                                                                      refine lv_iconst (v := (3 : Int32)) hx hb dL_law_2066 (by decide) ?_
                                                                                                      refine lv_iadd hx hb dL_law_2067 ?_
                                                                                                      refine s_iald X hG h dL_law_2068 (fun v292 h => ?_)
                                                                                                      refine s_callVi X hG hl.1.1 cvX0_221 h (As := [.int v290, .int v291, .int v292]) (fr := 4) (lo := 92) (fun a v T hf => w_X4_longest l D dA E Hb N a v290 v291 v292 _ T v hf) rfl rfl ⟨Nat.le_of_ble_eq_true rfl, Nat.le_of_ble_eq_true rfl⟩ (xsum (xcatc rfl xcat0) (Nat.le_of_ble_eq_true rfl)) dL_law_2069 (fun v293 S H locs cells slots hG h => ?_)
                                                                                                      refine s_ic_eq X h dL_law_2072 (tgt := 2325) (by decide) (fun h => ?_) (fun h => ?_)
                                                                                                      · exact j2325 _ _ _ _ _ _ hG (lh_sub hl [0, 1, 2, 3, 4] rfl) h
                                                                                                      · refine lv_iconst (v := (0 : Int32)) hx hb dL_law_2075 (by decide) ?_
                                                                                                        exact s_zret X hG (t := 1) hr hlocks h dL_law_2076
                                                                                                    · rcases xbr_or h with ⟨k40_47, h⟩ | ⟨k40_47, h⟩
                                                                                                      · refine lv_tableIn hx hb dL_law_40 (by rw [k40_47]; decide) (by rw [k40_47]; decide) (off := 2037) (tgt := 2077) (by rw [k40_47]; decide +kernel) (by decide) ?_
                                                                                                        refine s_aload_n X (x := v1) dL_law_2077 rfl (lh_at hl 1 rfl) ?_
                                                                                                        refine s_aload_n X (x := p0) dL_law_2078 rfl (lh_at hl 0 rfl) ?_
                                                                                                        refine lv_iload hx hb dL_law_2079 (lh_at hl 4 rfl) ?_
                                                                                                        refine lv_iconst (v := (1 : Int32)) hx hb dL_law_2081 (by decide) ?_
                                                                                                        refine lv_iadd hx hb dL_law_2082 ?_
                                                                                                        refine s_iald X hG h dL_law_2083 (fun v294 h => ?_)
                                                                                                        refine s_aload_n X (x := p0) dL_law_2084 rfl (lh_at hl 0 rfl) ?_
                                                                                                        refine lv_iload hx hb dL_law_2085 (lh_at hl 4 rfl) ?_
                                                                                                        refine lv_iconst (v := (2 : Int32)) hx hb dL_law_2087 (by decide) ?_
                                                                                                        refine lv_iadd hx hb dL_law_2088 ?_
                                                                                                        refine s_iald X hG h dL_law_2089 (fun v295 h => ?_)
                                                                                                        refine s_aload_n X (x := p0) dL_law_2090 rfl (lh_at hl 0 rfl) ?_
                                                                                                        refine lv_iload hx hb dL_law_2091 (lh_at hl 4 rfl) ?_
                                                                                                        refine lv_iconst (v := (3 : Int32)) hx hb dL_law_2093 (by decide) ?_
                                                                                                        refine lv_iadd hx hb dL_law_2094 ?_
                                                                                                        refine s_iald X hG h dL_law_2095 (fun v296 h => ?_)
                                                                                                        refine s_callVi X hG hl.1.1 cvX0_222 h (As := [.int v294, .int v295, .int v296]) (fr := 6) (lo := 158) (fun a v T hf => w_X1_soonest l D dA E Hb N a v294 v295 v296 _ T v hf) rfl rfl ⟨Nat.le_of_ble_eq_true rfl, Nat.le_of_ble_eq_true rfl⟩ (xsum xcat0 (Nat.le_of_ble_eq_true rfl)) dL_law_2096 (fun v297 S H locs cells slots hG h => ?_)
                                                                                                        refine s_aload_n X (x := v2) dL_law_2099 rfl (lh_at hl 2 rfl) ?_
                                                                                                        refine s_aload_n X (x := p0) dL_law_2100 rfl (lh_at hl 0 rfl) ?_
                                                                                                        refine lv_iload hx hb dL_law_2101 (lh_at hl 4 rfl) ?_
                                                                                                        refine lv_iconst (v := (1 : Int32)) hx hb dL_law_2103 (by decide) ?_
                                                                                                        refine lv_iadd hx hb dL_law_2104 ?_
                                                                                                        refine s_iald X hG h dL_law_2105 (fun v298 h => ?_)
                                                                                                        refine s_aload_n X (x := p0) dL_law_2106 rfl (lh_at hl 0 rfl) ?_
                                                                                                        refine lv_iload hx hb dL_law_2107 (lh_at hl 4 rfl) ?_
                                                                                                        refine lv_iconst (v := (2 : Int32)) hx hb dL_law_2109 (by decide) ?_
                                                                                                        refine lv_iadd hx hb dL_law_2110 ?_
                                                                                                        refine s_iald X hG h dL_law_2111 (fun v299 h => ?_)
                                                                                                        refine s_aload_n X (x := p0) dL_law_2112 rfl (lh_at hl 0 rfl) ?_
                                                                                                        refine lv_iload hx hb dL_law_2113 (lh_at hl 4 rfl) ?_
                                                                                                        refine lv_iconst (v := (3 : Int32)) hx hb dL_law_2115 (by decide) ?_
                                                                                                        refine lv_iadd hx hb dL_law_2116 ?_
                                                                                                        refine s_iald X hG h dL_law_2117 (fun v300 h => ?_)
                                                                                                        refine s_callVi X hG hl.1.1 cvX0_225 h (As := [.int v298, .int v299, .int v300]) (fr := 4) (lo := 92) (fun a v T hf => w_X4_soonest l D dA E Hb N a v298 v299 v300 _ T v hf) rfl rfl ⟨Nat.le_of_ble_eq_true rfl, Nat.le_of_ble_eq_true rfl⟩ (xsum (xcatc rfl xcat0) (Nat.le_of_ble_eq_true rfl)) dL_law_2118 (fun v301 S H locs cells slots hG h => ?_)
                                                                                                        refine s_ic_eq X h dL_law_2121 (tgt := 2325) (by decide) (fun h => ?_) (fun h => ?_)
                                                                                                        · exact j2325 _ _ _ _ _ _ hG (lh_sub hl [0, 1, 2, 3, 4] rfl) h
                                                                                                        · refine lv_iconst (v := (0 : Int32)) hx hb dL_law_2124 (by decide) ?_
                                                                                                          exact s_zret X hG (t := 1) hr hlocks h dL_law_2125
                                                                                                      · rcases xbr_or h with ⟨k40_48, h⟩ | ⟨k40_48, h⟩
                                                                                                        · refine lv_tableIn hx hb dL_law_40 (by rw [k40_48]; decide) (by rw [k40_48]; decide) (off := 2086) (tgt := 2126) (by rw [k40_48]; decide +kernel) (by decide) ?_
                                                                                                          refine s_aload_n X (x := v1) dL_law_2126 rfl (lh_at hl 1 rfl) ?_
                                                                                                          refine s_aload_n X (x := p0) dL_law_2127 rfl (lh_at hl 0 rfl) ?_
                                                                                                          refine lv_iload hx hb dL_law_2128 (lh_at hl 4 rfl) ?_
                                                                                                          refine lv_iconst (v := (1 : Int32)) hx hb dL_law_2130 (by decide) ?_
                                                                                                          refine lv_iadd hx hb dL_law_2131 ?_
                                                                                                          refine s_iald X hG h dL_law_2132 (fun v302 h => ?_)
                                                                                                          refine s_callVi X hG hl.1.1 cvX0_226 h (As := [.int v302]) (fr := 3) (lo := 61) (fun a v T hf => w_X1_leads l D dA E Hb N a v302 _ T v hf) rfl rfl ⟨Nat.le_of_ble_eq_true rfl, Nat.le_of_ble_eq_true rfl⟩ (xsum xcat0 (Nat.le_of_ble_eq_true rfl)) dL_law_2133 (fun v303 S H locs cells slots hG h => ?_)
                                                                                                          refine s_aload_n X (x := v2) dL_law_2136 rfl (lh_at hl 2 rfl) ?_
                                                                                                          refine s_aload_n X (x := p0) dL_law_2137 rfl (lh_at hl 0 rfl) ?_
                                                                                                          refine lv_iload hx hb dL_law_2138 (lh_at hl 4 rfl) ?_
                                                                                                          refine lv_iconst (v := (1 : Int32)) hx hb dL_law_2140 (by decide) ?_
                                                                                                          refine lv_iadd hx hb dL_law_2141 ?_
                                                                                                          refine s_iald X hG h dL_law_2142 (fun v304 h => ?_)
                                                                                                          refine s_callVi X hG hl.1.1 cvX0_229 h (As := [.int v304]) (fr := 2) (lo := 43) (fun a v T hf => w_X4_leads l D dA E Hb N a v304 _ T v hf) rfl rfl ⟨Nat.le_of_ble_eq_true rfl, Nat.le_of_ble_eq_true rfl⟩ (xsum (xcatc rfl xcat0) (Nat.le_of_ble_eq_true rfl)) dL_law_2143 (fun v305 S H locs cells slots hG h => ?_)
                                                                                                          refine s_ic_eq X h dL_law_2146 (tgt := 2325) (by decide) (fun h => ?_) (fun h => ?_)
                                                                                                          · exact j2325 _ _ _ _ _ _ hG (lh_sub hl [0, 1, 2, 3, 4] rfl) h
                                                                                                          · refine lv_iconst (v := (0 : Int32)) hx hb dL_law_2149 (by decide) ?_
                                                                                                            exact s_zret X hG (t := 1) hr hlocks h dL_law_2150
                                                                                                        · rcases xbr_or h with ⟨k40_49, h⟩ | ⟨k40_49, h⟩
                                                                                                          · refine lv_tableIn hx hb dL_law_40 (by rw [k40_49]; decide) (by rw [k40_49]; decide) (off := 2111) (tgt := 2151) (by rw [k40_49]; decide +kernel) (by decide) ?_
                                                                                                            refine s_aload_n X (x := v1) dL_law_2151 rfl (lh_at hl 1 rfl) ?_
                                                                                                            refine s_aload_n X (x := p0) dL_law_2152 rfl (lh_at hl 0 rfl) ?_
                                                                                                            refine lv_iload hx hb dL_law_2153 (lh_at hl 4 rfl) ?_
                                                                                                            refine lv_iconst (v := (1 : Int32)) hx hb dL_law_2155 (by decide) ?_
                                                                                                            refine lv_iadd hx hb dL_law_2156 ?_
                                                                                                            refine s_iald X hG h dL_law_2157 (fun v306 h => ?_)
                                                                                                            refine s_aload_n X (x := p0) dL_law_2158 rfl (lh_at hl 0 rfl) ?_
                                                                                                            refine lv_iload hx hb dL_law_2159 (lh_at hl 4 rfl) ?_
                                                                                                            refine lv_iconst (v := (2 : Int32)) hx hb dL_law_2161 (by decide) ?_
                                                                                                            refine lv_iadd hx hb dL_law_2162 ?_
                                                                                                            refine s_iald X hG h dL_law_2163 (fun v307 h => ?_)
                                                                                                            refine s_callVi X hG hl.1.1 cvX0_230 h (As := [.int v306, .int v307]) (fr := 7) (lo := 183) (fun a v T hf => w_X1_fastest l D dA E Hb N a v306 v307 _ T v hf) rfl rfl ⟨Nat.le_of_ble_eq_true rfl, Nat.le_of_ble_eq_true rfl⟩ (xsum xcat0 (Nat.le_of_ble_eq_true rfl)) dL_law_2164 (fun v308 S H locs cells slots hG h => ?_)
                                                                                                            refine s_aload_n X (x := v2) dL_law_2167 rfl (lh_at hl 2 rfl) ?_
                                                                                                            refine s_aload_n X (x := p0) dL_law_2168 rfl (lh_at hl 0 rfl) ?_
                                                                                                            refine lv_iload hx hb dL_law_2169 (lh_at hl 4 rfl) ?_
                                                                                                            refine lv_iconst (v := (1 : Int32)) hx hb dL_law_2171 (by decide) ?_
                                                                                                            refine lv_iadd hx hb dL_law_2172 ?_
                                                                                                            refine s_iald X hG h dL_law_2173 (fun v309 h => ?_)
                                                                                                            refine s_aload_n X (x := p0) dL_law_2174 rfl (lh_at hl 0 rfl) ?_
                                                                                                            refine lv_iload hx hb dL_law_2175 (lh_at hl 4 rfl) ?_
                                                                                                            refine lv_iconst (v := (2 : Int32)) hx hb dL_law_2177 (by decide) ?_
                                                                                                            refine lv_iadd hx hb dL_law_2178 ?_
                                                                                                            refine s_iald X hG h dL_law_2179 (fun v310 h => ?_)
                                                                                                            refine s_callVi X hG hl.1.1 cvX0_233 h (As := [.int v309, .int v310]) (fr := 5) (lo := 122) (fun a v T hf => w_X4_fastest l D dA E Hb N a v309 v310 _ T v hf) rfl rfl ⟨Nat.le_of_ble_eq_true rfl, Nat.le_of_ble_eq_true rfl⟩ (xsum (xcatc rfl xcat0) (Nat.le_of_ble_eq_true rfl)) dL_law_2180 (fun v311 S H locs cells slots hG h => ?_)
                                                                                                            refine s_ic_eq X h dL_law_2183 (tgt := 2325) (by decide) (fun h => ?_) (fun h => ?_)
                                                                                                            · exact j2325 _ _ _ _ _ _ hG (lh_sub hl [0, 1, 2, 3, 4] rfl) h
                                                                                                            · refine lv_iconst (v := (0 : Int32)) hx hb dL_law_2186 (by decide) ?_
                                                                                                              exact s_zret X hG (t := 1) hr hlocks h dL_law_2187
                                                                                                          · rcases xbr_or h with ⟨k40_50, h⟩ | ⟨k40_50, h⟩
                                                                                                            · refine lv_tableIn hx hb dL_law_40 (by rw [k40_50]; decide) (by rw [k40_50]; decide) (off := 2148) (tgt := 2188) (by rw [k40_50]; decide +kernel) (by decide) ?_
                                                                                                              refine s_aload_n X (x := v1) dL_law_2188 rfl (lh_at hl 1 rfl) ?_
                                                                                                              refine s_aload_n X (x := p0) dL_law_2189 rfl (lh_at hl 0 rfl) ?_
                                                                                                              refine lv_iload hx hb dL_law_2190 (lh_at hl 4 rfl) ?_
                                                                                                              refine lv_iconst (v := (1 : Int32)) hx hb dL_law_2192 (by decide) ?_
                                                                                                              refine lv_iadd hx hb dL_law_2193 ?_
                                                                                                              refine s_iald X hG h dL_law_2194 (fun v312 h => ?_)
                                                                                                              refine s_callVi X hG hl.1.1 cvX0_234 h (As := [.int v312]) (fr := 8) (lo := 203) (fun a v T hf => w_X1_moment l D dA E Hb N a v312 _ T v hf) rfl rfl ⟨Nat.le_of_ble_eq_true rfl, Nat.le_of_ble_eq_true rfl⟩ (xsum xcat0 (Nat.le_of_ble_eq_true rfl)) dL_law_2195 (fun v313 S H locs cells slots hG h => ?_)
                                                                                                              refine s_aload_n X (x := v2) dL_law_2198 rfl (lh_at hl 2 rfl) ?_
                                                                                                              refine s_aload_n X (x := p0) dL_law_2199 rfl (lh_at hl 0 rfl) ?_
                                                                                                              refine lv_iload hx hb dL_law_2200 (lh_at hl 4 rfl) ?_
                                                                                                              refine lv_iconst (v := (1 : Int32)) hx hb dL_law_2202 (by decide) ?_
                                                                                                              refine lv_iadd hx hb dL_law_2203 ?_
                                                                                                              refine s_iald X hG h dL_law_2204 (fun v314 h => ?_)
                                                                                                              refine s_callVi X hG hl.1.1 cvX0_237 h (As := [.int v314]) (fr := 6) (lo := 142) (fun a v T hf => w_X4_moment l D dA E Hb N a v314 _ T v hf) rfl rfl ⟨Nat.le_of_ble_eq_true rfl, Nat.le_of_ble_eq_true rfl⟩ (xsum (xcatc rfl xcat0) (Nat.le_of_ble_eq_true rfl)) dL_law_2205 (fun v315 S H locs cells slots hG h => ?_)
                                                                                                              refine s_ic_eq X h dL_law_2208 (tgt := 2325) (by decide) (fun h => ?_) (fun h => ?_)
                                                                                                              · exact j2325 _ _ _ _ _ _ hG (lh_sub hl [0, 1, 2, 3, 4] rfl) h
                                                                                                              · refine lv_iconst (v := (0 : Int32)) hx hb dL_law_2211 (by decide) ?_
                                                                                                                exact s_zret X hG (t := 1) hr hlocks h dL_law_2212
                                                                                                            · rcases xbr_or h with ⟨k40_51, h⟩ | ⟨k40_51, h⟩
                                                                                                              · refine lv_tableIn hx hb dL_law_40 (by rw [k40_51]; decide) (by rw [k40_51]; decide) (off := 2173) (tgt := 2213) (by rw [k40_51]; decide +kernel) (by decide) ?_
                                                                                                                refine s_aload_n X (x := v1) dL_law_2213 rfl (lh_at hl 1 rfl) ?_
                                                                                                                refine s_aload_n X (x := p0) dL_law_2214 rfl (lh_at hl 0 rfl) ?_
                                                                                                                refine lv_iload hx hb dL_law_2215 (lh_at hl 4 rfl) ?_
                                                                                                                refine lv_iconst (v := (1 : Int32)) hx hb dL_law_2217 (by decide) ?_
                                                                                                                refine lv_iadd hx hb dL_law_2218 ?_
                                                                                                                refine s_iald X hG h dL_law_2219 (fun v316 h => ?_)
                                                                                                                refine s_callVi X hG hl.1.1 cvX0_238 h (As := [.int v316]) (fr := 4) (lo := 86) (fun a v T hf => w_X1_deepest l D dA E Hb N a v316 _ T v hf) rfl rfl ⟨Nat.le_of_ble_eq_true rfl, Nat.le_of_ble_eq_true rfl⟩ (xsum xcat0 (Nat.le_of_ble_eq_true rfl)) dL_law_2220 (fun v317 S H locs cells slots hG h => ?_)
                                                                                                                refine s_aload_n X (x := v2) dL_law_2223 rfl (lh_at hl 2 rfl) ?_
                                                                                                                refine s_aload_n X (x := p0) dL_law_2224 rfl (lh_at hl 0 rfl) ?_
                                                                                                                refine lv_iload hx hb dL_law_2225 (lh_at hl 4 rfl) ?_
                                                                                                                refine lv_iconst (v := (1 : Int32)) hx hb dL_law_2227 (by decide) ?_
                                                                                                                refine lv_iadd hx hb dL_law_2228 ?_
                                                                                                                refine s_iald X hG h dL_law_2229 (fun v318 h => ?_)
                                                                                                                refine s_callVi X hG hl.1.1 cvX0_241 h (As := [.int v318]) (fr := 2) (lo := 42) (fun a v T hf => w_X4_deepest l D dA E Hb N a v318 _ T v hf) rfl rfl ⟨Nat.le_of_ble_eq_true rfl, Nat.le_of_ble_eq_true rfl⟩ (xsum (xcatc rfl xcat0) (Nat.le_of_ble_eq_true rfl)) dL_law_2230 (fun v319 S H locs cells slots hG h => ?_)
                                                                                                                refine s_ic_eq X h dL_law_2233 (tgt := 2325) (by decide) (fun h => ?_) (fun h => ?_)
                                                                                                                · exact j2325 _ _ _ _ _ _ hG (lh_sub hl [0, 1, 2, 3, 4] rfl) h
                                                                                                                · refine lv_iconst (v := (0 : Int32)) hx hb dL_law_2236 (by decide) ?_
                                                                                                                  exact s_zret X hG (t := 1) hr hlocks h dL_law_2237
                                                                                                              · rcases xbr_or h with ⟨k40_52, h⟩ | ⟨k40_52, h⟩
                                                                                                                · refine lv_tableIn hx hb dL_law_40 (by rw [k40_52]; decide) (by rw [k40_52]; decide) (off := 2198) (tgt := 2238) (by rw [k40_52]; decide +kernel) (by decide) ?_
                                                                                                                  refine s_aload_n X (x := v1) dL_law_2238 rfl (lh_at hl 1 rfl) ?_
                                                                                                                  refine s_aload_n X (x := p0) dL_law_2239 rfl (lh_at hl 0 rfl) ?_
                                                                                                                  refine lv_iload hx hb dL_law_2240 (lh_at hl 4 rfl) ?_
                                                                                                                  refine lv_iconst (v := (1 : Int32)) hx hb dL_law_2242 (by decide) ?_
                                                                                                                  refine lv_iadd hx hb dL_law_2243 ?_
                                                                                                                  refine s_iald X hG h dL_law_2244 (fun v320 h => ?_)
                                                                                                                  refine s_aload_n X (x := p0) dL_law_2245 rfl (lh_at hl 0 rfl) ?_
                                                                                                                  refine lv_iload hx hb dL_law_2246 (lh_at hl 4 rfl) ?_
                                                                                                                  refine lv_iconst (v := (2 : Int32)) hx hb dL_law_2248 (by decide) ?_
                                                                                                                  refine lv_iadd hx hb dL_law_2249 ?_
                                                                                                                  refine s_iald X hG h dL_law_2250 (fun v321 h => ?_)
                                                                                                                  refine s_callVi X hG hl.1.1 cvX0_242 h (As := [.int v320, .int v321]) (fr := 4) (lo := 84) (fun a v T hf => w_X1_tells l D dA E Hb N a v320 v321 _ T v hf) rfl rfl ⟨Nat.le_of_ble_eq_true rfl, Nat.le_of_ble_eq_true rfl⟩ (xsum xcat0 (Nat.le_of_ble_eq_true rfl)) dL_law_2251 (fun v322 S H locs cells slots hG h => ?_)
                                                                                                                  refine s_aload_n X (x := v2) dL_law_2254 rfl (lh_at hl 2 rfl) ?_
                                                                                                                  refine s_aload_n X (x := p0) dL_law_2255 rfl (lh_at hl 0 rfl) ?_
                                                                                                                  refine lv_iload hx hb dL_law_2256 (lh_at hl 4 rfl) ?_
                                                                                                                  refine lv_iconst (v := (1 : Int32)) hx hb dL_law_2258 (by decide) ?_
                                                                                                                  refine lv_iadd hx hb dL_law_2259 ?_
                                                                                                                  refine s_iald X hG h dL_law_2260 (fun v323 h => ?_)
                                                                                                                  refine s_aload_n X (x := p0) dL_law_2261 rfl (lh_at hl 0 rfl) ?_
                                                                                                                  refine lv_iload hx hb dL_law_2262 (lh_at hl 4 rfl) ?_
                                                                                                                  refine lv_iconst (v := (2 : Int32)) hx hb dL_law_2264 (by decide) ?_
                                                                                                                  refine lv_iadd hx hb dL_law_2265 ?_
                                                                                                                  refine s_iald X hG h dL_law_2266 (fun v324 h => ?_)
                                                                                                                  refine s_callVi X hG hl.1.1 cvX0_245 h (As := [.int v323, .int v324]) (fr := 2) (lo := 43) (fun a v T hf => w_X4_tells l D dA E Hb N a v323 v324 _ T v hf) rfl rfl ⟨Nat.le_of_ble_eq_true rfl, Nat.le_of_ble_eq_true rfl⟩ (xsum (xcatc rfl xcat0) (Nat.le_of_ble_eq_true rfl)) dL_law_2267 (fun v325 S H locs cells slots hG h => ?_)
                                                                                                                  refine s_ic_eq X h dL_law_2270 (tgt := 2325) (by decide) (fun h => ?_) (fun h => ?_)
                                                                                                                  · exact j2325 _ _ _ _ _ _ hG (lh_sub hl [0, 1, 2, 3, 4] rfl) h
                                                                                                                  · refine lv_iconst (v := (0 : Int32)) hx hb dL_law_2273 (by decide) ?_
                                                                                                                    exact s_zret X hG (t := 1) hr hlocks h dL_law_2274
                                                                                                                · rcases xbr_or h with ⟨k40_53, h⟩ | ⟨k40_53, h⟩
                                                                                                                  · refine lv_tableIn hx hb dL_law_40 (by rw [k40_53]; decide) (by rw [k40_53]; decide) (off := 2235) (tgt := 2275) (by rw [k40_53]; decide +kernel) (by decide) ?_
                                                                                                                    refine s_aload_n X (x := v1) dL_law_2275 rfl (lh_at hl 1 rfl) ?_
                                                                                                                    refine s_aload_n X (x := p0) dL_law_2276 rfl (lh_at hl 0 rfl) ?_
                                                                                                                    refine lv_iload hx hb dL_law_2277 (lh_at hl 4 rfl) ?_
                                                                                                                    refine lv_iconst (v := (1 : Int32)) hx hb dL_law_2279 (by decide) ?_
                                                                                                                    refine lv_iadd hx hb dL_law_2280 ?_
                                                                                                                    refine s_iald X hG h dL_law_2281 (fun v326 h => ?_)
                                                                                                                    refine s_callVi X hG hl.1.1 cvX0_246 h (As := [.int v326]) (fr := 2) (lo := 42) (fun a v T hf => w_X1_single l D dA E Hb N a v326 _ T v hf) rfl rfl ⟨Nat.le_of_ble_eq_true rfl, Nat.le_of_ble_eq_true rfl⟩ (xsum xcat0 (Nat.le_of_ble_eq_true rfl)) dL_law_2282 (fun v327 S H locs cells slots hG h => ?_)
                                                                                                                    refine s_aload_n X (x := v2) dL_law_2285 rfl (lh_at hl 2 rfl) ?_
                                                                                                                    refine s_aload_n X (x := p0) dL_law_2286 rfl (lh_at hl 0 rfl) ?_
                                                                                                                    refine lv_iload hx hb dL_law_2287 (lh_at hl 4 rfl) ?_
                                                                                                                    refine lv_iconst (v := (1 : Int32)) hx hb dL_law_2289 (by decide) ?_
                                                                                                                    refine lv_iadd hx hb dL_law_2290 ?_
                                                                                                                    refine s_iald X hG h dL_law_2291 (fun v328 h => ?_)
                                                                                                                    refine s_callVi X hG hl.1.1 cvX0_249 h (As := [.int v328]) (fr := 2) (lo := 46) (fun a v T hf => w_X4_single l D dA E Hb N a v328 _ T v hf) rfl rfl ⟨Nat.le_of_ble_eq_true rfl, Nat.le_of_ble_eq_true rfl⟩ (xsum (xcatc rfl xcat0) (Nat.le_of_ble_eq_true rfl)) dL_law_2292 (fun v329 S H locs cells slots hG h => ?_)
                                                                                                                    refine s_ic_eq X h dL_law_2295 (tgt := 2325) (by decide) (fun h => ?_) (fun h => ?_)
                                                                                                                    · exact j2325 _ _ _ _ _ _ hG (lh_sub hl [0, 1, 2, 3, 4] rfl) h
                                                                                                                    · refine lv_iconst (v := (0 : Int32)) hx hb dL_law_2298 (by decide) ?_
                                                                                                                      exact s_zret X hG (t := 1) hr hlocks h dL_law_2299
                                                                                                                  · rcases xbr_or h with ⟨k40_54, h⟩ | ⟨k40_54, h⟩
                                                                                                                    · refine lv_tableIn hx hb dL_law_40 (by rw [k40_54]; decide) (by rw [k40_54]; decide) (off := 2260) (tgt := 2300) (by rw [k40_54]; decide +kernel) (by decide) ?_
                                                                                                                      refine s_aload_n X (x := v1) dL_law_2300 rfl (lh_at hl 1 rfl) ?_
                                                                                                                      refine s_aload_n X (x := p0) dL_law_2301 rfl (lh_at hl 0 rfl) ?_
                                                                                                                      refine lv_iload hx hb dL_law_2302 (lh_at hl 4 rfl) ?_
                                                                                                                      refine lv_iconst (v := (1 : Int32)) hx hb dL_law_2304 (by decide) ?_
                                                                                                                      refine lv_iadd hx hb dL_law_2305 ?_
                                                                                                                      refine s_iald X hG h dL_law_2306 (fun v330 h => ?_)
                                                                                                                      refine s_callVi X hG hl.1.1 cvX0_250 h (As := [.int v330]) (fr := 2) (lo := 42) (fun a v T hf => w_X1_count l D dA E Hb N a v330 _ T v hf) rfl rfl ⟨Nat.le_of_ble_eq_true rfl, Nat.le_of_ble_eq_true rfl⟩ (xsum xcat0 (Nat.le_of_ble_eq_true rfl)) dL_law_2307 (fun v331 S H locs cells slots hG h => ?_)
                                                                                                                      refine s_aload_n X (x := v2) dL_law_2310 rfl (lh_at hl 2 rfl) ?_
                                                                                                                      refine s_aload_n X (x := p0) dL_law_2311 rfl (lh_at hl 0 rfl) ?_
                                                                                                                      refine lv_iload hx hb dL_law_2312 (lh_at hl 4 rfl) ?_
                                                                                                                      refine lv_iconst (v := (1 : Int32)) hx hb dL_law_2314 (by decide) ?_
                                                                                                                      refine lv_iadd hx hb dL_law_2315 ?_
                                                                                                                      refine s_iald X hG h dL_law_2316 (fun v332 h => ?_)
                                                                                                                      refine s_callVi X hG hl.1.1 cvX0_253 h (As := [.int v332]) (fr := 1) (lo := 20) (fun a v T hf => w_X4_count l D dA E Hb N a v332 _ T v hf) rfl rfl ⟨Nat.le_of_ble_eq_true rfl, Nat.le_of_ble_eq_true rfl⟩ (xsum (xcatc rfl xcat0) (Nat.le_of_ble_eq_true rfl)) dL_law_2317 (fun v333 S H locs cells slots hG h => ?_)
                                                                                                                      refine s_ic_eq X h dL_law_2320 (tgt := 2325) (by decide) (fun h => ?_) (fun h => ?_)
                                                                                                                      · exact j2325 _ _ _ _ _ _ hG (lh_sub hl [0, 1, 2, 3, 4] rfl) h
                                                                                                                      · refine lv_iconst (v := (0 : Int32)) hx hb dL_law_2323 (by decide) ?_
                                                                                                                        exact s_zret X hG (t := 1) hr hlocks h dL_law_2324
                                                                                                                    · refine lv_tableOut hx hb dL_law_40 (by have ek40_0 := xne k40_0; have ek40_1 := xne k40_1; have ek40_2 := xne k40_2; have ek40_3 := xne k40_3; have ek40_4 := xne k40_4; have ek40_5 := xne k40_5; have ek40_6 := xne k40_6; have ek40_7 := xne k40_7; have ek40_8 := xne k40_8; have ek40_9 := xne k40_9; have ek40_10 := xne k40_10; have ek40_11 := xne k40_11; have ek40_12 := xne k40_12; have ek40_13 := xne k40_13; have ek40_14 := xne k40_14; have ek40_15 := xne k40_15; have ek40_16 := xne k40_16; have ek40_17 := xne k40_17; have ek40_18 := xne k40_18; have ek40_19 := xne k40_19; have ek40_20 := xne k40_20; have ek40_21 := xne k40_21; have ek40_22 := xne k40_22; have ek40_23 := xne k40_23; have ek40_24 := xne k40_24; have ek40_25 := xne k40_25; have ek40_26 := xne k40_26; have ek40_27 := xne k40_27; have ek40_28 := xne k40_28; have ek40_29 := xne k40_29; have ek40_30 := xne k40_30; have ek40_31 := xne k40_31; have ek40_32 := xne k40_32; have ek40_33 := xne k40_33; have ek40_34 := xne k40_34; have ek40_35 := xne k40_35; have ek40_36 := xne k40_36; have ek40_37 := xne k40_37; have ek40_38 := xne k40_38; have ek40_39 := xne k40_39; have ek40_40 := xne k40_40; have ek40_41 := xne k40_41; have ek40_42 := xne k40_42; have ek40_43 := xne k40_43; have ek40_44 := xne k40_44; have ek40_45 := xne k40_45; have ek40_46 := xne k40_46; have ek40_47 := xne k40_47; have ek40_48 := xne k40_48; have ek40_49 := xne k40_49; have ek40_50 := xne k40_50; have ek40_51 := xne k40_51; have ek40_52 := xne k40_52; have ek40_53 := xne k40_53; have ek40_54 := xne k40_54; simp only [Int32.reduceToInt] at *; omega) (tgt := 2325) (by decide) ?_
                                                                                                                      exact j2325 _ _ _ _ _ _ hG (lh_sub hl [0, 1, 2, 3, 4] rfl) h
  exact l23 N _ _ _ _ _ _ _ hG (lh_sub hl [4, 3, 2, 1, 0] rfl) h
