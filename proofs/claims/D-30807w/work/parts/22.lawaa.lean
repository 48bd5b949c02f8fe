/-! printed: functions and walks -/
set_option maxRecDepth 100000
noncomputable section
theorem msX0_101 : zSV RX0 101 RX2 yX2_addRule cX2_addRule 2 (some Jvm.ClassFile.FieldType.int) 1 := ⟨lw_V q2804 q2805 q2806 q131 q2807, (by decide +kernel), (by decide)⟩
theorem msX0_102 : zSV RX0 102 RX2 yX2_thrown cX2_thrown 1 (some Jvm.ClassFile.FieldType.int) 0 := ⟨lw_V q2800 q2801 q2802 q131 q2803, (by decide +kernel), (by decide)⟩
theorem msX0_105 : zSSW RX0 105 yX0_append cX0_append 5 (some Jvm.ClassFile.FieldType.int) [(0, 10, 13, 13), (0, 10, 17, 21), (0, 10, 21, 15)] 4 := ⟨lw_SW q1780 q1781 q122 q1782, (by decide +kernel), (by decide)⟩
theorem msX0_108 : zSV RX0 108 RX2 yX2_append cX2_append 3 (some Jvm.ClassFile.FieldType.int) 2 := ⟨lw_V q2836 q2837 q2838 q131 q2839, (by decide +kernel), (by decide)⟩
theorem msX0_109 : zSSW RX0 109 yX0_removeRule cX0_removeRule 4 (some Jvm.ClassFile.FieldType.int) [(0, 9, 12, 13)] 3 := ⟨lw_SW q1822 q1823 q122 q1824, (by decide +kernel), (by decide)⟩
theorem msX0_111 : zSV RX0 111 RX2 yX2_removeRule cX2_removeRule 2 (some Jvm.ClassFile.FieldType.int) 1 := ⟨lw_V q2856 q2857 q2858 q131 q2859, (by decide +kernel), (by decide)⟩
theorem msX0_112 : zSV RX0 112 RX1 yX1_ruleCount cX1_ruleCount 1 (some Jvm.ClassFile.FieldType.int) 0 := ⟨lw_V q263 q264 q265 q123 q266, (by decide +kernel), (by decide)⟩
theorem msX0_115 : zSV RX0 115 RX2 yX2_ruleCount cX2_ruleCount 1 (some Jvm.ClassFile.FieldType.int) 0 := ⟨lw_V q2871 q2872 q2873 q131 q2874, (by decide +kernel), (by decide)⟩
theorem msX0_116 : zSSW RX0 116 yX0_leftOf cX0_leftOf 4 (some Jvm.ClassFile.FieldType.int) [(0, 9, 12, 13)] 3 := ⟨lw_SW q1843 q1844 q122 q1845, (by decide +kernel), (by decide)⟩
theorem msX0_118 : zSV RX0 118 RX2 yX2_leftOf cX2_leftOf 2 (some Jvm.ClassFile.FieldType.int) 1 := ⟨lw_V q2879 q2880 q2881 q131 q2882, (by decide +kernel), (by decide)⟩
theorem msX0_119 : zSSW RX0 119 yX0_lengthOf cX0_lengthOf 4 (some Jvm.ClassFile.FieldType.int) [(0, 9, 12, 13)] 3 := ⟨lw_SW q1850 q1851 q122 q1852, (by decide +kernel), (by decide)⟩
theorem msX0_121 : zSV RX0 121 RX2 yX2_lengthOf cX2_lengthOf 2 (some Jvm.ClassFile.FieldType.int) 1 := ⟨lw_V q2883 q2884 q2885 q131 q2886, (by decide +kernel), (by decide)⟩
theorem msX0_122 : zSSW RX0 122 yX0_symbolAt cX0_symbolAt 5 (some Jvm.ClassFile.FieldType.int) [(0, 10, 13, 13)] 4 := ⟨lw_SW q1857 q1858 q122 q1859, (by decide +kernel), (by decide)⟩
theorem msX0_124 : zSV RX0 124 RX2 yX2_symbolAt cX2_symbolAt 3 (some Jvm.ClassFile.FieldType.int) 2 := ⟨lw_V q2887 q2888 q2889 q131 q2890, (by decide +kernel), (by decide)⟩
theorem msX0_125 : zSV RX0 125 RX1 yX1_usedNonterminals cX1_usedNonterminals 1 (some Jvm.ClassFile.FieldType.int) 0 := ⟨lw_V q277 q278 q279 q123 q280, (by decide +kernel), (by decide)⟩
theorem msX0_128 : zSV RX0 128 RX2 yX2_usedNonterminals cX2_usedNonterminals 1 (some Jvm.ClassFile.FieldType.int) 0 := ⟨lw_V q2895 q2896 q2897 q131 q2898, (by decide +kernel), (by decide)⟩
theorem msX0_129 : zSSW RX0 129 yX0_isNullable cX0_isNullable 4 (some Jvm.ClassFile.FieldType.int) [(0, 16, 19, 13)] 3 := ⟨lw_SW q1864 q1865 q122 q1866, (by decide +kernel), (by decide)⟩
theorem msX0_131 : zSV RX0 131 RX2 yX2_isNullable cX2_isNullable 2 (some Jvm.ClassFile.FieldType.boolean) 1 := ⟨lw_V q2903 q2904 q2905 q131 q2906, (by decide +kernel), (by decide)⟩
theorem msX0_132 : zSSW RX0 132 yX0_firstOf cX0_firstOf 4 (some Jvm.ClassFile.FieldType.int) [(0, 9, 12, 13)] 3 := ⟨lw_SW q1872 q1873 q122 q1874, (by decide +kernel), (by decide)⟩
theorem msX0_134 : zSV RX0 134 RX2 yX2_firstOf cX2_firstOf 2 (some Jvm.ClassFile.FieldType.int) 1 := ⟨lw_V q2942 q2943 q2944 q131 q2945, (by decide +kernel), (by decide)⟩
theorem msX0_135 : zSSW RX0 135 yX0_followOf cX0_followOf 4 (some Jvm.ClassFile.FieldType.int) [(0, 9, 12, 13)] 3 := ⟨lw_SW q1879 q1880 q122 q1881, (by decide +kernel), (by decide)⟩
theorem msX0_137 : zSV RX0 137 RX2 yX2_followOf cX2_followOf 2 (some Jvm.ClassFile.FieldType.int) 1 := ⟨lw_V q2946 q2947 q2948 q131 q2949, (by decide +kernel), (by decide)⟩
theorem msX0_138 : zSV RX0 138 RX1 yX1_firstRounds cX1_firstRounds 1 (some Jvm.ClassFile.FieldType.int) 0 := ⟨lw_V q406 q407 q408 q123 q409, (by decide +kernel), (by decide)⟩
theorem msX0_141 : zSV RX0 141 RX2 yX2_firstRounds cX2_firstRounds 1 (some Jvm.ClassFile.FieldType.int) 0 := ⟨lw_V q2950 q2951 q2952 q131 q2953, (by decide +kernel), (by decide)⟩
theorem msX0_142 : zSSW RX0 142 yX0_shortestOf cX0_shortestOf 4 (some Jvm.ClassFile.FieldType.int) [(0, 9, 12, 13)] 3 := ⟨lw_SW q1886 q1887 q122 q1888, (by decide +kernel), (by decide)⟩
theorem msX0_144 : zSV RX0 144 RX2 yX2_shortestOf cX2_shortestOf 6 (some Jvm.ClassFile.FieldType.int) 1 := ⟨lw_V q2954 q2955 q2956 q131 q2957, (by decide +kernel), (by decide)⟩
theorem msX0_145 : zSSW RX0 145 yX0_predictionOf cX0_predictionOf 4 (some Jvm.ClassFile.FieldType.int) [(0, 9, 12, 13)] 3 := ⟨lw_SW q1893 q1894 q122 q1895, (by decide +kernel), (by decide)⟩
theorem msX0_147 : zSV RX0 147 RX2 yX2_predictionOf cX2_predictionOf 2 (some Jvm.ClassFile.FieldType.int) 1 := ⟨lw_V q2963 q2964 q2965 q131 q2966, (by decide +kernel), (by decide)⟩
theorem msX0_148 : zSSW RX0 148 yX0_predicted cX0_predicted 5 (some Jvm.ClassFile.FieldType.int) [(0, 10, 13, 13)] 4 := ⟨lw_SW q1900 q1901 q122 q1902, (by decide +kernel), (by decide)⟩
theorem msX0_150 : zSV RX0 150 RX2 yX2_predicted cX2_predicted 3 (some Jvm.ClassFile.FieldType.int) 2 := ⟨lw_V q2971 q2972 q2973 q131 q2974, (by decide +kernel), (by decide)⟩
theorem msX0_151 : zSV RX0 151 RX1 yX1_conflicts cX1_conflicts 1 (some Jvm.ClassFile.FieldType.int) 0 := ⟨lw_V q1184 q1185 q1186 q123 q1187, (by decide +kernel), (by decide)⟩
theorem msX0_154 : zSV RX0 154 RX2 yX2_conflicts cX2_conflicts 1 (some Jvm.ClassFile.FieldType.int) 0 := ⟨lw_V q2983 q2984 q2985 q131 q2986, (by decide +kernel), (by decide)⟩
theorem msX0_155 : zSV RX0 155 RX1 yX1_isLL1 cX1_isLL1 1 (some Jvm.ClassFile.FieldType.boolean) 0 := ⟨lw_V q1310 q1311 q1312 q123 q1313, (by decide +kernel), (by decide)⟩
theorem msX0_159 : zSV RX0 159 RX2 yX2_isLL1 cX2_isLL1 1 (some Jvm.ClassFile.FieldType.boolean) 0 := ⟨lw_V q2991 q2992 q2993 q131 q2994, (by decide +kernel), (by decide)⟩
theorem msX0_160 : zSSW RX0 160 yX0_pairCount cX0_pairCount 4 (some Jvm.ClassFile.FieldType.int) [(0, 9, 12, 13)] 3 := ⟨lw_SW q1931 q1932 q122 q1933, (by decide +kernel), (by decide)⟩
theorem msX0_162 : zSV RX0 162 RX2 yX2_pairCount cX2_pairCount 4 (some Jvm.ClassFile.FieldType.int) 1 := ⟨lw_V q2995 q2996 q2997 q131 q2998, (by decide +kernel), (by decide)⟩
theorem msX0_163 : zSSW RX0 163 yX0_predictedByPair cX0_predictedByPair 6 (some Jvm.ClassFile.FieldType.int) [(0, 12, 15, 13)] 5 := ⟨lw_SW q1942 q1943 q122 q1944, (by decide +kernel), (by decide)⟩
theorem msX0_166 : zSV RX0 166 RX2 yX2_predictedByPair cX2_predictedByPair 4 (some Jvm.ClassFile.FieldType.int) 3 := ⟨lw_V q3037 q3038 q3039 q131 q3040, (by decide +kernel), (by decide)⟩
theorem msX0_167 : zSV RX0 167 RX1 yX1_pairConflicts cX1_pairConflicts 1 (some Jvm.ClassFile.FieldType.int) 0 := ⟨lw_V q1314 q1315 q1316 q123 q1317, (by decide +kernel), (by decide)⟩
theorem msX0_170 : zSV RX0 170 RX2 yX2_pairConflicts cX2_pairConflicts 1 (some Jvm.ClassFile.FieldType.int) 0 := ⟨lw_V q3045 q3046 q3047 q131 q3048, (by decide +kernel), (by decide)⟩
theorem msX0_171 : zSV RX0 171 RX1 yX1_isStrongLL2 cX1_isStrongLL2 1 (some Jvm.ClassFile.FieldType.boolean) 0 := ⟨lw_V q1443 q1444 q1445 q123 q1446, (by decide +kernel), (by decide)⟩
theorem msX0_174 : zSV RX0 174 RX2 yX2_isStrongLL2 cX2_isStrongLL2 1 (some Jvm.ClassFile.FieldType.boolean) 0 := ⟨lw_V q3057 q3058 q3059 q131 q3060, (by decide +kernel), (by decide)⟩
theorem msX0_175 : zSSW RX0 175 yX0_isLeftRecursive cX0_isLeftRecursive 4 (some Jvm.ClassFile.FieldType.int) [(0, 16, 19, 13)] 3 := ⟨lw_SW q1954 q1955 q122 q1956, (by decide +kernel), (by decide)⟩
theorem msX0_177 : zSV RX0 177 RX2 yX2_isLeftRecursive cX2_isLeftRecursive 2 (some Jvm.ClassFile.FieldType.boolean) 1 := ⟨lw_V q3061 q3062 q3063 q131 q3064, (by decide +kernel), (by decide)⟩
theorem msX0_178 : zSSW RX0 178 yX0_removeLeftRecursion cX0_removeLeftRecursion 3 (some Jvm.ClassFile.FieldType.int) [(0, 8, 11, 15)] 2 := ⟨lw_SW q1961 q1962 q122 q1963, (by decide +kernel), (by decide)⟩
theorem msX0_181 : zSV RX0 181 RX2 yX2_removeLeftRecursion cX2_removeLeftRecursion 2 (some Jvm.ClassFile.FieldType.int) 0 := ⟨lw_V q3069 q3070 q3071 q131 q3072, (by decide +kernel), (by decide)⟩
theorem msX0_182 : zSSW RX0 182 yX0_factorOut cX0_factorOut 3 (some Jvm.ClassFile.FieldType.int) [(0, 8, 11, 15)] 2 := ⟨lw_SW q2320 q2321 q122 q2322, (by decide +kernel), (by decide)⟩
theorem msX0_184 : zSV RX0 184 RX2 yX2_factorOut cX2_factorOut 2 (some Jvm.ClassFile.FieldType.int) 0 := ⟨lw_V q3113 q3114 q3115 q131 q3116, (by decide +kernel), (by decide)⟩
theorem msX0_185 : zSSW RX0 185 yX0_start cX0_start 4 (some Jvm.ClassFile.FieldType.int) [(0, 9, 12, 21), (0, 9, 15, 15)] 3 := ⟨lw_SW q2401 q2402 q122 q2403, (by decide +kernel), (by decide)⟩
theorem msX0_187 : zSV RX0 187 RX2 yX2_start cX2_start 3 (some Jvm.ClassFile.FieldType.int) 1 := ⟨lw_V q3141 q3142 q3143 q131 q3144, (by decide +kernel), (by decide)⟩
theorem msX0_188 : zSSW RX0 188 yX0_give cX0_give 4 (some Jvm.ClassFile.FieldType.int) [(0, 9, 12, 13), (0, 9, 15, 15)] 3 := ⟨lw_SW q2495 q2496 q122 q2497, (by decide +kernel), (by decide)⟩
theorem msX0_190 : zSV RX0 190 RX2 yX2_give cX2_give 4 (some Jvm.ClassFile.FieldType.int) 1 := ⟨lw_V q3146 q3147 q3148 q131 q3149, (by decide +kernel), (by decide)⟩
theorem msX0_191 : zSV RX0 191 RX1 yX1_parseState cX1_parseState 1 (some Jvm.ClassFile.FieldType.int) 0 := ⟨lw_V q1447 q1448 q1449 q123 q1450, (by decide +kernel), (by decide)⟩
theorem msX0_194 : zSV RX0 194 RX2 yX2_parseState cX2_parseState 1 (some Jvm.ClassFile.FieldType.int) 0 := ⟨lw_V q3166 q3167 q3168 q131 q3169, (by decide +kernel), (by decide)⟩
theorem msX0_195 : zSV RX0 195 RX1 yX1_tokenCount cX1_tokenCount 1 (some Jvm.ClassFile.FieldType.int) 0 := ⟨lw_V q1451 q1452 q1453 q123 q1454, (by decide +kernel), (by decide)⟩
theorem msX0_198 : zSV RX0 198 RX2 yX2_tokenCount cX2_tokenCount 1 (some Jvm.ClassFile.FieldType.int) 0 := ⟨lw_V q3170 q3171 q3172 q131 q3173, (by decide +kernel), (by decide)⟩
theorem msX0_199 : zSV RX0 199 RX1 yX1_stackDepth cX1_stackDepth 1 (some Jvm.ClassFile.FieldType.int) 0 := ⟨lw_V q1455 q1456 q1457 q123 q1458, (by decide +kernel), (by decide)⟩
theorem msX0_202 : zSV RX0 202 RX2 yX2_stackDepth cX2_stackDepth 1 (some Jvm.ClassFile.FieldType.int) 0 := ⟨lw_V q3174 q3175 q3176 q131 q3177, (by decide +kernel), (by decide)⟩
theorem msX0_203 : zSV RX0 203 RX1 yX1_stackAt cX1_stackAt 5 (some Jvm.ClassFile.FieldType.int) 1 := ⟨lw_V q1460 q1461 q1462 q123 q1463, (by decide +kernel), (by decide)⟩
theorem msX0_206 : zSV RX0 206 RX2 yX2_stackAt cX2_stackAt 2 (some Jvm.ClassFile.FieldType.int) 1 := ⟨lw_V q3178 q3179 q3180 q131 q3181, (by decide +kernel), (by decide)⟩
theorem msX0_207 : zSV RX0 207 RX1 yX1_expected cX1_expected 1 (some Jvm.ClassFile.FieldType.int) 0 := ⟨lw_V q1470 q1471 q1472 q123 q1473, (by decide +kernel), (by decide)⟩
theorem msX0_210 : zSV RX0 210 RX2 yX2_expected cX2_expected 4 (some Jvm.ClassFile.FieldType.int) 0 := ⟨lw_V q3182 q3183 q3184 q131 q3185, (by decide +kernel), (by decide)⟩
theorem msX0_211 : zSV RX0 211 RX1 yX1_appliedCount cX1_appliedCount 1 (some Jvm.ClassFile.FieldType.int) 0 := ⟨lw_V q1501 q1502 q1503 q123 q1504, (by decide +kernel), (by decide)⟩
theorem msX0_214 : zSV RX0 214 RX2 yX2_appliedCount cX2_appliedCount 1 (some Jvm.ClassFile.FieldType.int) 0 := ⟨lw_V q3190 q3191 q3192 q131 q3193, (by decide +kernel), (by decide)⟩
theorem msX0_215 : zSV RX0 215 RX1 yX1_appliedRule cX1_appliedRule 2 (some Jvm.ClassFile.FieldType.int) 1 := ⟨lw_V q1505 q1506 q1507 q123 q1508, (by decide +kernel), (by decide)⟩
theorem msX0_218 : zSV RX0 218 RX2 yX2_appliedRule cX2_appliedRule 2 (some Jvm.ClassFile.FieldType.int) 1 := ⟨lw_V q3194 q3195 q3196 q131 q3197, (by decide +kernel), (by decide)⟩
theorem msX0_219 : zSV RX0 219 RX1 yX1_errorCount cX1_errorCount 1 (some Jvm.ClassFile.FieldType.int) 0 := ⟨lw_V q1512 q1513 q1514 q123 q1515, (by decide +kernel), (by decide)⟩
theorem msX0_222 : zSV RX0 222 RX2 yX2_errorCount cX2_errorCount 1 (some Jvm.ClassFile.FieldType.int) 0 := ⟨lw_V q3198 q3199 q3200 q131 q3201, (by decide +kernel), (by decide)⟩
theorem msX0_223 : zSSW RX0 223 yX0_errorToken cX0_errorToken 4 (some Jvm.ClassFile.FieldType.int) [(0, 9, 12, 13)] 3 := ⟨lw_SW q2557 q2558 q122 q2559, (by decide +kernel), (by decide)⟩
theorem msX0_225 : zSV RX0 225 RX2 yX2_errorToken cX2_errorToken 2 (some Jvm.ClassFile.FieldType.int) 1 := ⟨lw_V q3202 q3203 q3204 q131 q3205, (by decide +kernel), (by decide)⟩
theorem msX0_226 : zSSW RX0 226 yX0_errorSymbol cX0_errorSymbol 4 (some Jvm.ClassFile.FieldType.int) [(0, 9, 12, 13)] 3 := ⟨lw_SW q2569 q2570 q122 q2571, (by decide +kernel), (by decide)⟩
theorem msX0_228 : zSV RX0 228 RX2 yX2_errorSymbol cX2_errorSymbol 2 (some Jvm.ClassFile.FieldType.int) 1 := ⟨lw_V q3210 q3211 q3212 q131 q3213, (by decide +kernel), (by decide)⟩
theorem msX0_229 : zSSW RX0 229 yX0_wasSkipped cX0_wasSkipped 4 (some Jvm.ClassFile.FieldType.int) [(0, 16, 19, 13)] 3 := ⟨lw_SW q2576 q2577 q122 q2578, (by decide +kernel), (by decide)⟩
theorem msX0_231 : zSV RX0 231 RX2 yX2_wasSkipped cX2_wasSkipped 2 (some Jvm.ClassFile.FieldType.boolean) 1 := ⟨lw_V q3214 q3215 q3216 q131 q3217, (by decide +kernel), (by decide)⟩
theorem msX0_232 : zSSW RX0 232 yX0_derivations cX0_derivations 3 (some Jvm.ClassFile.FieldType.int) [(0, 8, 11, 15)] 2 := ⟨lw_SW q2583 q2584 q122 q2585, (by decide +kernel), (by decide)⟩
theorem msX0_234 : zSV RX0 234 RX2 yX2_derivations cX2_derivations 1 (some Jvm.ClassFile.FieldType.int) 0 := ⟨lw_V q3218 q3219 q3220 q131 q3221, (by decide +kernel), (by decide)⟩
theorem msX0_235 : zSV RX0 235 RX1 yX1_disagreements cX1_disagreements 1 (some Jvm.ClassFile.FieldType.int) 0 := ⟨lw_V q1516 q1517 q1518 q123 q1519, (by decide +kernel), (by decide)⟩
theorem msX0_238 : zSV RX0 238 RX2 yX2_disagreements cX2_disagreements 2 (some Jvm.ClassFile.FieldType.int) 0 := ⟨lw_V q3253 q3254 q3255 q131 q3256, (by decide +kernel), (by decide)⟩
theorem msX0_239 : zSV RX0 239 RX1 yX1_meanLength cX1_meanLength 4 (some Jvm.ClassFile.FieldType.double) 0 := ⟨lw_V q1607 q1608 q1609 q123 q1610, (by decide +kernel), (by decide)⟩
theorem msX0_243 : zSV RX0 243 RX2 yX2_meanLength cX2_meanLength 3 (some Jvm.ClassFile.FieldType.double) 0 := ⟨lw_V q3257 q3258 q3259 q131 q3260, (by decide +kernel), (by decide)⟩
theorem msX0_244 : zSV RX0 244 RX1 yX1_tableShare cX1_tableShare 4 (some Jvm.ClassFile.FieldType.float) 0 := ⟨lw_V q1625 q1626 q1627 q123 q1628, (by decide +kernel), (by decide)⟩
theorem msX0_248 : zSV RX0 248 RX2 yX2_tableShare cX2_tableShare 3 (some Jvm.ClassFile.FieldType.float) 0 := ⟨lw_V q3261 q3262 q3263 q131 q3264, (by decide +kernel), (by decide)⟩
theorem msX0_249 : zSSW RX0 249 yX0_writeRule cX0_writeRule 4 (some Jvm.ClassFile.FieldType.int) [(0, 9, 12, 13)] 3 := ⟨lw_SW q2587 q2588 q122 q2589, (by decide +kernel), (by decide)⟩
theorem msX0_251 : zSV RX0 251 RX2 yX2_writeRule cX2_writeRule 3 (some Jvm.ClassFile.FieldType.int) 1 := ⟨lw_V q3265 q3266 q3267 q131 q3268, (by decide +kernel), (by decide)⟩
theorem msX0_252 : zSV RX0 252 RX1 yX1_outputByte cX1_outputByte 2 (some Jvm.ClassFile.FieldType.int) 1 := ⟨lw_V q1642 q1643 q1644 q123 q1645, (by decide +kernel), (by decide)⟩
theorem msX0_255 : zSV RX0 255 RX2 yX2_outputByte cX2_outputByte 2 (some Jvm.ClassFile.FieldType.int) 1 := ⟨lw_V q3269 q3270 q3271 q131 q3272, (by decide +kernel), (by decide)⟩
theorem msX0_92 : zSI RX0 92 yX1_init cX1_init 1 0 := ⟨q179, q123, q177, q178, rfl, (by decide +kernel), (by decide)⟩
theorem msX0_95 : zSI RX0 95 yX2_init cX2_init 1 0 := ⟨q2670, q131, q2668, q2669, rfl, (by decide +kernel), (by decide)⟩
theorem msX0_96 : zSSW RX0 96 yX0_addRule cX0_addRule 4 (some Jvm.ClassFile.FieldType.int) [(0, 9, 12, 13), (0, 9, 15, 15)] 3 := ⟨lw_SW q1666 q1667 q122 q1668, (by decide +kernel), (by decide)⟩
abbrev mL_law : zM := (cL_law, RX0, 9, (some Jvm.ClassFile.FieldType.boolean), "law", [], "([I)Z")
def fL_law_1954 (x0 : Option Nat) (x1 : Option Nat) (x2 : Option Nat) (x3 : Option Nat) (x4 : Int32)  (G : GS) : Option ((Int32 × GS) ⊕ ((Int32) × GS)) :=
  some (.inl ((x4 + 4), G))
theorem wfL_law_1954 {F : zF} (hd : 904 ≤ F.2.2.2) (x0 : Option Nat) (x1 : Option Nat) (x2 : Option Nat) (x3 : Option Nat) (x4 : Int32)  (G : GS) {a : (Int32 × GS) ⊕ ((Int32) × GS)} (h : fL_law_1954 x0 x1 x2 x3 x4  G = some a) (hk : (zcase (fun s : Int32 × GS => J mL_law F s.2 23 [(0, vR x0), (1, vR x1), (2, vR x2), (3, vR x3), (4, vI s.1)] []) (zKI F)) a) : J mL_law F G 1954 [(0, vR x0), (1, vR x1), (2, vR x2), (3, vR x3), (4, vI x4)] [] := by
  unfold fL_law_1954 at h
  refine j_iinc (j := 4) (v := (x4 + 4)) (lv' := [(4, vI (x4 + 4)), (0, vR x0), (1, vR x1), (2, vR x2), (3, vR x3)]) dL_law_1954 rfl rfl (Nat.le_of_ble_eq_true rfl) rfl ?_
  refine j_goto (tgt := 23) dL_law_1957 (by decide) ?_
  obtain rfl := Option.some.inj h
  exact J.sub (zall [1, 2, 3, 4, 0] rfl) hk
def fL_law_1929 (x0 : Option Nat) (x1 : Option Nat) (x2 : Option Nat) (x3 : Option Nat) (x4 : Int32)  (G : GS) : Option ((Int32 × GS) ⊕ ((Int32) × GS)) :=
  x0.bind fun a1 => (zaI G 60 a1 (x4 + 1)).bind fun v3 => x1.bind fun a5 => zk [1] G a5 <| zb2 (fX1_outputByte_0 a5 v3 G) fun v9 G10 => (zaI G10 60 a1 (x4 + 1)).bind fun v11 => x2.bind fun a13 => zk [2] G10 a13 <| zb2 (fX2_outputByte_0 a13 v11 G10) fun v17 G18 => if v9 = v17 then (fL_law_1954 (some a1) (some a5) (some a13) x3 x4 G18) else (zo (zcond (zbb 0) (some (0, G18))))
theorem wfL_law_1929 {F : zF} (hd : 904 ≤ F.2.2.2) (x0 : Option Nat) (x1 : Option Nat) (x2 : Option Nat) (x3 : Option Nat) (x4 : Int32)  (G : GS) {a : (Int32 × GS) ⊕ ((Int32) × GS)} (h : fL_law_1929 x0 x1 x2 x3 x4  G = some a) (hk : (zcase (fun s : Int32 × GS => J mL_law F s.2 23 [(0, vR x0), (1, vR x1), (2, vR x2), (3, vR x3), (4, vI s.1)] []) (zKI F)) a) : J mL_law F G 1929 [(0, vR x0), (1, vR x1), (2, vR x2), (3, vR x3), (4, vI x4)] [] := by
  unfold fL_law_1929 at h
  refine j_aload_n (j := 1) dL_law_1929 rfl rfl ?_
  refine j_aload_n (j := 0) dL_law_1930 rfl rfl ?_
  refine j_iload (j := 4) dL_law_1931 rfl ?_
  refine j_iconst (v := 1) dL_law_1933 (by decide) ?_
  refine j_iadd dL_law_1934 ?_
  replace h := zbE h
  obtain ⟨a1, e2, h⟩ := h
  subst e2
  replace h := zbE h
  obtain ⟨v3, e4, h⟩ := h
  refine j_iald (Or.inr rfl) e4 dL_law_1935 ?_
  replace h := zbE h
  obtain ⟨a5, e6, h⟩ := h
  subst e6
  replace h := zkE h
  obtain ⟨e7, h⟩ := h
  replace h := zb2E h
  obtain ⟨v9, G10, e8, h⟩ := h
  refine j_cont (zrV (As := [vI v3]) msX0_252 (yX1_outputByte_ok e8) (Nat.le_trans (Nat.le_of_ble_eq_true rfl) hd) (zk_1 _ e7) rfl rfl (Nat.le_of_ble_eq_true rfl) dL_law_1936) ?_
  refine j_aload_n (j := 2) dL_law_1939 rfl rfl ?_
  refine j_aload_n (j := 0) dL_law_1940 rfl rfl ?_
  refine j_iload (j := 4) dL_law_1941 rfl ?_
  refine j_iconst (v := 1) dL_law_1943 (by decide) ?_
  refine j_iadd dL_law_1944 ?_
  replace h := zbE h
  obtain ⟨v11, e12, h⟩ := h
  refine j_iald (Or.inr rfl) e12 dL_law_1945 ?_
  replace h := zbE h
  obtain ⟨a13, e14, h⟩ := h
  subst e14
  replace h := zkE h
  obtain ⟨e15, h⟩ := h
  replace h := zb2E h
  obtain ⟨v17, G18, e16, h⟩ := h
  refine j_cont (zrV (As := [vI v11]) msX0_255 (yX2_outputByte_ok e16) (Nat.le_trans (Nat.le_of_ble_eq_true rfl) hd) (zk_2 _ e15) rfl rfl (Nat.le_of_ble_eq_true rfl) dL_law_1946) ?_
  refine j_icmp_eq (tgt := 1954) dL_law_1949 (by decide) (fun c19 => ?_) (fun c19 => ?_)
  · rw [if_pos c19] at h
    exact J.sub (zall [0, 1, 2, 3, 4] rfl) (wfL_law_1954 hd (some a1) (some a5) (some a13) x3 x4  G18 h hk)
  · rw [if_neg c19] at h
    replace h := zoE h
    obtain ⟨a, h, rfl⟩ := h
    replace hk := hk
    refine j_iconst (v := 0) dL_law_1952 (by decide) ?_
    replace h := zcondE h
    obtain ⟨e20, h⟩ := h
    obtain rfl := Option.some.inj h
    exact j_zret hk.1 hk.2 rfl (zbb_n e20) dL_law_1953
def fL_law_1926 (x0 : Option Nat) (x1 : Option Nat) (x2 : Option Nat) (x3 : Option Nat) (x4 : Int32)  (G : GS) : Option ((Int32 × GS) ⊕ ((Int32) × GS)) :=
  fL_law_1954 x0 x1 x2 x3 x4 G
theorem wfL_law_1926 {F : zF} (hd : 904 ≤ F.2.2.2) (x0 : Option Nat) (x1 : Option Nat) (x2 : Option Nat) (x3 : Option Nat) (x4 : Int32)  (G : GS) {a : (Int32 × GS) ⊕ ((Int32) × GS)} (h : fL_law_1926 x0 x1 x2 x3 x4  G = some a) (hk : (zcase (fun s : Int32 × GS => J mL_law F s.2 23 [(0, vR x0), (1, vR x1), (2, vR x2), (3, vR x3), (4, vI s.1)] []) (zKI F)) a) : J mL_law F G 1926 [(0, vR x0), (1, vR x1), (2, vR x2), (3, vR x3), (4, vI x4)] [] := by
  unfold fL_law_1926 at h
  refine j_goto (tgt := 1954) dL_law_1926 (by decide) ?_
  exact J.sub (zall [0, 1, 2, 3, 4] rfl) (wfL_law_1954 hd x0 x1 x2 x3 x4  G h hk)
def fL_law_1873 (x0 : Option Nat) (x1 : Option Nat) (x2 : Option Nat) (x3 : Option Nat) (x4 : Int32)  (G : GS) : Option ((Int32 × GS) ⊕ ((Int32) × GS)) :=
  x0.bind fun a1 => (zaI G 60 a1 (x4 + 1)).bind fun v3 => zb2 (fX0_writeRule_0 x1 v3 x3 G) fun v6 G7 => (zaI G7 60 a1 (x4 + 1)).bind fun v8 => x2.bind fun a10 => zk [2] G7 a10 <| zb2 (fX2_writeRule_0 a10 v8 G7) fun v14 G15 => zk [2] G15 a10 <| (fX2_thrown_0 a10 G15).bind fun v18 => if v18 = v6 then (if v6 = 0 then (x3.bind fun a21 => (zaL G15 51 a21 (0 : Int32)).bind fun l23 => if (lg_cmp l23 v14.toInt64) = 0 then (fL_law_1926 (some a1) x1 (some a10) (some a21) x4 G15) else (zo (zcond (zbb 0) (some (0, G15))))) else (fL_law_1926 (some a1) x1 (some a10) x3 x4 G15)) else (zo (zcond (zbb 0) (some (0, G15))))
theorem wfL_law_1873 {F : zF} (hd : 904 ≤ F.2.2.2) (x0 : Option Nat) (x1 : Option Nat) (x2 : Option Nat) (x3 : Option Nat) (x4 : Int32)  (G : GS) {a : (Int32 × GS) ⊕ ((Int32) × GS)} (h : fL_law_1873 x0 x1 x2 x3 x4  G = some a) (hk : (zcase (fun s : Int32 × GS => J mL_law F s.2 23 [(0, vR x0), (1, vR x1), (2, vR x2), (3, vR x3), (4, vI s.1)] []) (zKI F)) a) : J mL_law F G 1873 [(0, vR x0), (1, vR x1), (2, vR x2), (3, vR x3), (4, vI x4)] [] := by
  unfold fL_law_1873 at h
  refine j_aload_n (j := 1) dL_law_1873 rfl rfl ?_
  refine j_aload_n (j := 0) dL_law_1874 rfl rfl ?_
  refine j_iload (j := 4) dL_law_1875 rfl ?_
  refine j_iconst (v := 1) dL_law_1877 (by decide) ?_
  refine j_iadd dL_law_1878 ?_
  replace h := zbE h
  obtain ⟨a1, e2, h⟩ := h
  subst e2
  replace h := zbE h
  obtain ⟨v3, e4, h⟩ := h
  refine j_iald (Or.inr rfl) e4 dL_law_1879 ?_
  refine j_aload_n (j := 3) dL_law_1880 rfl rfl ?_
  replace h := zb2E h
  obtain ⟨v6, G7, e5, h⟩ := h
  refine j_cont (zrSW (As := [vR x1, vI v3, vR x3]) msX0_249 (yX0_writeRule_ok e5) (Nat.le_trans (Nat.le_of_ble_eq_true rfl) hd) rfl rfl (Nat.le_of_ble_eq_true rfl) dL_law_1881) ?_
  refine j_istore (lv' := [(5, vI v6), (0, vR (some a1)), (1, vR x1), (2, vR x2), (3, vR x3), (4, vI x4)]) dL_law_1884 (Nat.le_of_ble_eq_true rfl) rfl ?_
  refine j_aload_n (j := 3) dL_law_1886 rfl rfl ?_
  refine j_aload_n (j := 1) dL_law_1887 rfl rfl ?_
  refine j_iload (j := 5) dL_law_1888 rfl ?_
  refine j_iconst (v := 1) dL_law_1890 (by decide) ?_
  refine j_iadd dL_law_1891 ?_
  replace h := zbE h
  obtain ⟨v8, e9, h⟩ := h
  refine j_iald (Or.inr rfl) e9 dL_law_1892 ?_
  replace h := zbE h
  obtain ⟨a10, e11, h⟩ := h
  subst e11
  replace h := zkE h
  obtain ⟨e12, h⟩ := h
  replace h := zb2E h
  obtain ⟨v14, G15, e13, h⟩ := h
  refine j_cont (zrV (As := [vI v8]) msX0_251 (yX2_writeRule_ok e13) (Nat.le_trans (Nat.le_of_ble_eq_true rfl) hd) (zk_2 _ e12) rfl rfl (Nat.le_of_ble_eq_true rfl) dL_law_1893) ?_
  refine j_istore (lv' := [(6, vI v14), (5, vI v6), (0, vR (some a1)), (1, vR x1), (2, vR (some a10)), (3, vR x3), (4, vI x4)]) dL_law_1896 (Nat.le_of_ble_eq_true rfl) rfl ?_
  refine j_aload_n (j := 4) dL_law_1898 rfl rfl ?_
  replace h := zkE h
  obtain ⟨e16, h⟩ := h
  replace h := zbE h
  obtain ⟨v18, e17, h⟩ := h
  refine j_cont (zrV (As := []) msX0_102 (yX2_thrown_ok e17) (Nat.le_trans (Nat.le_of_ble_eq_true rfl) hd) (zk_2 _ e16) rfl rfl (Nat.le_of_ble_eq_true rfl) dL_law_1899) ?_
  refine j_iload (j := 1) dL_law_1902 rfl ?_
  refine j_icmp_eq (tgt := 1909) dL_law_1904 (by decide) (fun c19 => ?_) (fun c19 => ?_)
  · rw [if_pos c19] at h
    refine j_iload (j := 1) dL_law_1909 rfl ?_
    refine j_if_ne (tgt := 1926) dL_law_1911 (by decide) (fun c20 => ?_) (fun c20 => ?_)
    · rw [if_pos c20] at h
      refine j_aload_n (j := 5) dL_law_1914 rfl rfl ?_
      refine j_iconst (v := 0) dL_law_1915 (by decide) ?_
      replace h := zbE h
      obtain ⟨a21, e22, h⟩ := h
      subst e22
      replace h := zbE h
      obtain ⟨l23, e24, h⟩ := h
      refine j_lald rfl e24 dL_law_1916 ?_
      refine j_iload (j := 0) dL_law_1917 rfl ?_
      refine j_i2l dL_law_1919 ?_
      refine j_lcmp dL_law_1920 ?_
      refine j_if_eq (tgt := 1926) dL_law_1921 (by decide) (fun c25 => ?_) (fun c25 => ?_)
      · rw [if_pos c25] at h
        exact J.sub (zall [2, 3, 4, 5, 6] rfl) (wfL_law_1926 hd (some a1) x1 (some a10) (some a21) x4  G15 h hk)
      · rw [if_neg c25] at h
        replace h := zoE h
        obtain ⟨a, h, rfl⟩ := h
        replace hk := hk
        refine j_iconst (v := 0) dL_law_1924 (by decide) ?_
        replace h := zcondE h
        obtain ⟨e26, h⟩ := h
        obtain rfl := Option.some.inj h
        exact j_zret hk.1 hk.2 rfl (zbb_n e26) dL_law_1925
    · rw [if_neg c20] at h
      exact J.sub (zall [2, 3, 4, 5, 6] rfl) (wfL_law_1926 hd (some a1) x1 (some a10) x3 x4  G15 h hk)
  · rw [if_neg c19] at h
    replace h := zoE h
    obtain ⟨a, h, rfl⟩ := h
    replace hk := hk
    refine j_iconst (v := 0) dL_law_1907 (by decide) ?_
    replace h := zcondE h
    obtain ⟨e27, h⟩ := h
    obtain rfl := Option.some.inj h
    exact j_zret hk.1 hk.2 rfl (zbb_n e27) dL_law_1908
def fL_law_1870 (x0 : Option Nat) (x1 : Option Nat) (x2 : Option Nat) (x3 : Option Nat) (x4 : Int32)  (G : GS) : Option ((Int32 × GS) ⊕ ((Int32) × GS)) :=
  fL_law_1954 x0 x1 x2 x3 x4 G
theorem wfL_law_1870 {F : zF} (hd : 904 ≤ F.2.2.2) (x0 : Option Nat) (x1 : Option Nat) (x2 : Option Nat) (x3 : Option Nat) (x4 : Int32)  (G : GS) {a : (Int32 × GS) ⊕ ((Int32) × GS)} (h : fL_law_1870 x0 x1 x2 x3 x4  G = some a) (hk : (zcase (fun s : Int32 × GS => J mL_law F s.2 23 [(0, vR x0), (1, vR x1), (2, vR x2), (3, vR x3), (4, vI s.1)] []) (zKI F)) a) : J mL_law F G 1870 [(0, vR x0), (1, vR x1), (2, vR x2), (3, vR x3), (4, vI x4)] [] := by
  unfold fL_law_1870 at h
  refine j_goto (tgt := 1954) dL_law_1870 (by decide) ?_
  exact J.sub (zall [0, 1, 2, 3, 4] rfl) (wfL_law_1954 hd x0 x1 x2 x3 x4  G h hk)
def fL_law_1830 (x0 : Option Nat) (x1 : Option Nat) (x2 : Option Nat) (x3 : Option Nat) (x4 : Int32)  (G : GS) : Option ((Int32 × GS) ⊕ ((Int32) × GS)) :=
  x1.bind fun a1 => zk [1] G a1 <| zb2 (fX1_tableShare_0 a1 G) fun w5 G6 => zcond (zn64 (FP.f2d w5)) (x2.bind fun a8 => zk [2] G6 a8 <| zb2 (fX2_tableShare_0 a8 G6) fun w12 G13 => zcond (zn64 (FP.f2d w12)) (if (Op.cmpValue (FP.dcmp (FP.f2d w5) (FP.f2d w12)) .l) = 0 then (fL_law_1870 x0 (some a1) (some a8) x3 x4 G13) else (if (Op.cmpValue (FP.dcmp (FP.f2d w5) (FP.f2d w5)) .l) = 0 then (zo (zcond (zbb 0) (some (0, G13)))) else (if (Op.cmpValue (FP.dcmp (FP.f2d w12) (FP.f2d w12)) .l) = 0 then (zo (zcond (zbb 0) (some (0, G13)))) else (fL_law_1870 x0 (some a1) (some a8) x3 x4 G13)))))
theorem wfL_law_1830 {F : zF} (hd : 904 ≤ F.2.2.2) (x0 : Option Nat) (x1 : Option Nat) (x2 : Option Nat) (x3 : Option Nat) (x4 : Int32)  (G : GS) {a : (Int32 × GS) ⊕ ((Int32) × GS)} (h : fL_law_1830 x0 x1 x2 x3 x4  G = some a) (hk : (zcase (fun s : Int32 × GS => J mL_law F s.2 23 [(0, vR x0), (1, vR x1), (2, vR x2), (3, vR x3), (4, vI s.1)] []) (zKI F)) a) : J mL_law F G 1830 [(0, vR x0), (1, vR x1), (2, vR x2), (3, vR x3), (4, vI x4)] [] := by
  unfold fL_law_1830 at h
  refine j_aload_n (j := 1) dL_law_1830 rfl rfl ?_
  replace h := zbE h
  obtain ⟨a1, e2, h⟩ := h
  subst e2
  replace h := zkE h
  obtain ⟨e3, h⟩ := h
  replace h := zb2E h
  obtain ⟨w5, G6, e4, h⟩ := h
  refine j_cont (zrV (As := []) msX0_244 (yX1_tableShare_ok e4) (Nat.le_trans (Nat.le_of_ble_eq_true rfl) hd) (zk_1 _ e3) rfl rfl (Nat.le_of_ble_eq_true rfl) dL_law_1831) ?_
  replace h := zcondE h
  obtain ⟨e7, h⟩ := h
  refine j_f2d dL_law_1834 e7 ?_
  refine j_dstore (lv' := [(5, vD (FP.f2d w5)), (0, vR x0), (1, vR (some a1)), (2, vR x2), (3, vR x3), (4, vI x4)]) dL_law_1835 (Nat.le_of_ble_eq_true rfl) rfl ?_
  refine j_aload_n (j := 3) dL_law_1837 rfl rfl ?_
  replace h := zbE h
  obtain ⟨a8, e9, h⟩ := h
  subst e9
  replace h := zkE h
  obtain ⟨e10, h⟩ := h
  replace h := zb2E h
  obtain ⟨w12, G13, e11, h⟩ := h
  refine j_cont (zrV (As := []) msX0_248 (yX2_tableShare_ok e11) (Nat.le_trans (Nat.le_of_ble_eq_true rfl) hd) (zk_2 _ e10) rfl rfl (Nat.le_of_ble_eq_true rfl) dL_law_1838) ?_
  replace h := zcondE h
  obtain ⟨e14, h⟩ := h
  refine j_f2d dL_law_1841 e14 ?_
  refine j_dstore (lv' := [(7, vD (FP.f2d w12)), (5, vD (FP.f2d w5)), (0, vR x0), (1, vR (some a1)), (2, vR (some a8)), (3, vR x3), (4, vI x4)]) dL_law_1842 (Nat.le_of_ble_eq_true rfl) rfl ?_
  refine j_dload (j := 1) dL_law_1844 rfl ?_
  refine j_dload (j := 0) dL_law_1846 rfl ?_
  refine j_dcmp dL_law_1848 ?_
  refine j_if_eq (tgt := 1870) dL_law_1849 (by decide) (fun c15 => ?_) (fun c15 => ?_)
  · rw [if_pos c15] at h
    exact J.sub (zall [2, 3, 4, 5, 6] rfl) (wfL_law_1870 hd x0 (some a1) (some a8) x3 x4  G13 h hk)
  · rw [if_neg c15] at h
    refine j_dload (j := 1) dL_law_1852 rfl ?_
    refine j_dload (j := 1) dL_law_1854 rfl ?_
    refine j_dcmp dL_law_1856 ?_
    refine j_if_eq (tgt := 1868) dL_law_1857 (by decide) (fun c16 => ?_) (fun c16 => ?_)
    · rw [if_pos c16] at h
      replace h := zoE h
      obtain ⟨a, h, rfl⟩ := h
      replace hk := hk
      refine j_iconst (v := 0) dL_law_1868 (by decide) ?_
      replace h := zcondE h
      obtain ⟨e17, h⟩ := h
      obtain rfl := Option.some.inj h
      exact j_zret hk.1 hk.2 rfl (zbb_n e17) dL_law_1869
    · rw [if_neg c16] at h
      refine j_dload (j := 0) dL_law_1860 rfl ?_
      refine j_dload (j := 0) dL_law_1862 rfl ?_
      refine j_dcmp dL_law_1864 ?_
      refine j_if_ne (tgt := 1870) dL_law_1865 (by decide) (fun c18 => ?_) (fun c18 => ?_)
      · rw [if_pos c18] at h
        replace h := zoE h
        obtain ⟨a, h, rfl⟩ := h
        replace hk := hk
        refine j_iconst (v := 0) dL_law_1868 (by decide) ?_
        replace h := zcondE h
        obtain ⟨e19, h⟩ := h
        obtain rfl := Option.some.inj h
        exact j_zret hk.1 hk.2 rfl (zbb_n e19) dL_law_1869
      · rw [if_neg c18] at h
        exact J.sub (zall [2, 3, 4, 5, 6] rfl) (wfL_law_1870 hd x0 (some a1) (some a8) x3 x4  G13 h hk)
def fL_law_1827 (x0 : Option Nat) (x1 : Option Nat) (x2 : Option Nat) (x3 : Option Nat) (x4 : Int32)  (G : GS) : Option ((Int32 × GS) ⊕ ((Int32) × GS)) :=
  fL_law_1954 x0 x1 x2 x3 x4 G
theorem wfL_law_1827 {F : zF} (hd : 904 ≤ F.2.2.2) (x0 : Option Nat) (x1 : Option Nat) (x2 : Option Nat) (x3 : Option Nat) (x4 : Int32)  (G : GS) {a : (Int32 × GS) ⊕ ((Int32) × GS)} (h : fL_law_1827 x0 x1 x2 x3 x4  G = some a) (hk : (zcase (fun s : Int32 × GS => J mL_law F s.2 23 [(0, vR x0), (1, vR x1), (2, vR x2), (3, vR x3), (4, vI s.1)] []) (zKI F)) a) : J mL_law F G 1827 [(0, vR x0), (1, vR x1), (2, vR x2), (3, vR x3), (4, vI x4)] [] := by
  unfold fL_law_1827 at h
  refine j_goto (tgt := 1954) dL_law_1827 (by decide) ?_
  exact J.sub (zall [0, 1, 2, 3, 4] rfl) (wfL_law_1954 hd x0 x1 x2 x3 x4  G h hk)
def fL_law_1789 (x0 : Option Nat) (x1 : Option Nat) (x2 : Option Nat) (x3 : Option Nat) (x4 : Int32)  (G : GS) : Option ((Int32 × GS) ⊕ ((Int32) × GS)) :=
  x1.bind fun a1 => zk [1] G a1 <| zb2 (fX1_meanLength_0 a1 G) fun w5 G6 => x2.bind fun a7 => zk [2] G6 a7 <| zb2 (fX2_meanLength_0 a7 G6) fun w11 G12 => if (Op.cmpValue (FP.dcmp w5 w11) .l) = 0 then (fL_law_1827 x0 (some a1) (some a7) x3 x4 G12) else (if (Op.cmpValue (FP.dcmp w5 w5) .l) = 0 then (zo (zcond (zbb 0) (some (0, G12)))) else (if (Op.cmpValue (FP.dcmp w11 w11) .l) = 0 then (zo (zcond (zbb 0) (some (0, G12)))) else (fL_law_1827 x0 (some a1) (some a7) x3 x4 G12)))
theorem wfL_law_1789 {F : zF} (hd : 904 ≤ F.2.2.2) (x0 : Option Nat) (x1 : Option Nat) (x2 : Option Nat) (x3 : Option Nat) (x4 : Int32)  (G : GS) {a : (Int32 × GS) ⊕ ((Int32) × GS)} (h : fL_law_1789 x0 x1 x2 x3 x4  G = some a) (hk : (zcase (fun s : Int32 × GS => J mL_law F s.2 23 [(0, vR x0), (1, vR x1), (2, vR x2), (3, vR x3), (4, vI s.1)] []) (zKI F)) a) : J mL_law F G 1789 [(0, vR x0), (1, vR x1), (2, vR x2), (3, vR x3), (4, vI x4)] [] := by
  unfold fL_law_1789 at h
  refine j_aload_n (j := 1) dL_law_1789 rfl rfl ?_
  replace h := zbE h
  obtain ⟨a1, e2, h⟩ := h
  subst e2
  replace h := zkE h
  obtain ⟨e3, h⟩ := h
  replace h := zb2E h
  obtain ⟨w5, G6, e4, h⟩ := h
  refine j_cont (zrV (As := []) msX0_239 (yX1_meanLength_ok e4) (Nat.le_trans (Nat.le_of_ble_eq_true rfl) hd) (zk_1 _ e3) rfl rfl (Nat.le_of_ble_eq_true rfl) dL_law_1790) ?_
  refine j_dstore (lv' := [(5, vD w5), (0, vR x0), (1, vR (some a1)), (2, vR x2), (3, vR x3), (4, vI x4)]) dL_law_1793 (Nat.le_of_ble_eq_true rfl) rfl ?_
  refine j_aload_n (j := 3) dL_law_1795 rfl rfl ?_
  replace h := zbE h
  obtain ⟨a7, e8, h⟩ := h
  subst e8
  replace h := zkE h
  obtain ⟨e9, h⟩ := h
  replace h := zb2E h
  obtain ⟨w11, G12, e10, h⟩ := h
  refine j_cont (zrV (As := []) msX0_243 (yX2_meanLength_ok e10) (Nat.le_trans (Nat.le_of_ble_eq_true rfl) hd) (zk_2 _ e9) rfl rfl (Nat.le_of_ble_eq_true rfl) dL_law_1796) ?_
  refine j_dstore (lv' := [(7, vD w11), (5, vD w5), (0, vR x0), (1, vR (some a1)), (2, vR (some a7)), (3, vR x3), (4, vI x4)]) dL_law_1799 (Nat.le_of_ble_eq_true rfl) rfl ?_
  refine j_dload (j := 1) dL_law_1801 rfl ?_
  refine j_dload (j := 0) dL_law_1803 rfl ?_
  refine j_dcmp dL_law_1805 ?_
  refine j_if_eq (tgt := 1827) dL_law_1806 (by decide) (fun c13 => ?_) (fun c13 => ?_)
  · rw [if_pos c13] at h
    exact J.sub (zall [2, 3, 4, 5, 6] rfl) (wfL_law_1827 hd x0 (some a1) (some a7) x3 x4  G12 h hk)
  · rw [if_neg c13] at h
    refine j_dload (j := 1) dL_law_1809 rfl ?_
    refine j_dload (j := 1) dL_law_1811 rfl ?_
    refine j_dcmp dL_law_1813 ?_
    refine j_if_eq (tgt := 1825) dL_law_1814 (by decide) (fun c14 => ?_) (fun c14 => ?_)
    · rw [if_pos c14] at h
      replace h := zoE h
      obtain ⟨a, h, rfl⟩ := h
      replace hk := hk
      refine j_iconst (v := 0) dL_law_1825 (by decide) ?_
      replace h := zcondE h
      obtain ⟨e15, h⟩ := h
      obtain rfl := Option.some.inj h
      exact j_zret hk.1 hk.2 rfl (zbb_n e15) dL_law_1826
    · rw [if_neg c14] at h
      refine j_dload (j := 0) dL_law_1817 rfl ?_
      refine j_dload (j := 0) dL_law_1819 rfl ?_
      refine j_dcmp dL_law_1821 ?_
      refine j_if_ne (tgt := 1827) dL_law_1822 (by decide) (fun c16 => ?_) (fun c16 => ?_)
      · rw [if_pos c16] at h
        replace h := zoE h
        obtain ⟨a, h, rfl⟩ := h
        replace hk := hk
        refine j_iconst (v := 0) dL_law_1825 (by decide) ?_
        replace h := zcondE h
        obtain ⟨e17, h⟩ := h
        obtain rfl := Option.some.inj h
        exact j_zret hk.1 hk.2 rfl (zbb_n e17) dL_law_1826
      · rw [if_neg c16] at h
        exact J.sub (zall [2, 3, 4, 5, 6] rfl) (wfL_law_1827 hd x0 (some a1) (some a7) x3 x4  G12 h hk)
def fL_law_1776 (x0 : Option Nat) (x1 : Option Nat) (x2 : Option Nat) (x3 : Option Nat) (x4 : Int32)  (G : GS) : Option ((Int32 × GS) ⊕ ((Int32) × GS)) :=
  x1.bind fun a1 => zk [1] G a1 <| zb3 (fX1_disagreements_0 a1 G) (fun v5 G6 => x2.bind fun a9 => zk [2] G6 a9 <| zb2 (fX2_disagreements_0 a9 G6) fun v13 G14 => if v5 = v13 then (fL_law_1954 x0 (some a1) (some a9) x3 x4 G14) else (zo (zcond (zbb 0) (some (0, G14))))) (fun X7 G8 => none)
theorem wfL_law_1776 {F : zF} (hd : 904 ≤ F.2.2.2) (x0 : Option Nat) (x1 : Option Nat) (x2 : Option Nat) (x3 : Option Nat) (x4 : Int32)  (G : GS) {a : (Int32 × GS) ⊕ ((Int32) × GS)} (h : fL_law_1776 x0 x1 x2 x3 x4  G = some a) (hk : (zcase (fun s : Int32 × GS => J mL_law F s.2 23 [(0, vR x0), (1, vR x1), (2, vR x2), (3, vR x3), (4, vI s.1)] []) (zKI F)) a) : J mL_law F G 1776 [(0, vR x0), (1, vR x1), (2, vR x2), (3, vR x3), (4, vI x4)] [] := by
  unfold fL_law_1776 at h
  refine j_aload_n (j := 1) dL_law_1776 rfl rfl ?_
  replace h := zbE h
  obtain ⟨a1, e2, h⟩ := h
  subst e2
  replace h := zkE h
  obtain ⟨e3, h⟩ := h
  replace h := zb3E h
  rcases h with ⟨v5, G6, e4, h⟩ | ⟨X7, G8, e4, h⟩
  · refine j_cont (zrV (As := []) msX0_235 (yX1_disagreements_ok e4) (Nat.le_trans (Nat.le_of_ble_eq_true rfl) hd) (zk_1 _ e3) rfl rfl (Nat.le_of_ble_eq_true rfl) dL_law_1777) ?_
    refine j_aload_n (j := 2) dL_law_1780 rfl rfl ?_
    replace h := zbE h
    obtain ⟨a9, e10, h⟩ := h
    subst e10
    replace h := zkE h
    obtain ⟨e11, h⟩ := h
    replace h := zb2E h
    obtain ⟨v13, G14, e12, h⟩ := h
    refine j_cont (zrV (As := []) msX0_238 (yX2_disagreements_ok e12) (Nat.le_trans (Nat.le_of_ble_eq_true rfl) hd) (zk_2 _ e11) rfl rfl (Nat.le_of_ble_eq_true rfl) dL_law_1781) ?_
    refine j_icmp_eq (tgt := 1954) dL_law_1784 (by decide) (fun c15 => ?_) (fun c15 => ?_)
    · rw [if_pos c15] at h
      exact J.sub (zall [0, 1, 2, 3, 4] rfl) (wfL_law_1954 hd x0 (some a1) (some a9) x3 x4  G14 h hk)
    · rw [if_neg c15] at h
      replace h := zoE h
      obtain ⟨a, h, rfl⟩ := h
      replace hk := hk
      refine j_iconst (v := 0) dL_law_1787 (by decide) ?_
      replace h := zcondE h
      obtain ⟨e16, h⟩ := h
      obtain rfl := Option.some.inj h
      exact j_zret hk.1 hk.2 rfl (zbb_n e16) dL_law_1788
  · refine j_thr (zrV (As := []) msX0_235 (yX1_disagreements_ok e4) (Nat.le_trans (Nat.le_of_ble_eq_true rfl) hd) (zk_1 _ e3) rfl rfl (Nat.le_of_ble_eq_true rfl) dL_law_1777) ?_
    cases h
def fL_law_1773 (x0 : Option Nat) (x1 : Option Nat) (x2 : Option Nat) (x3 : Option Nat) (x4 : Int32)  (G : GS) : Option ((Int32 × GS) ⊕ ((Int32) × GS)) :=
  fL_law_1954 x0 x1 x2 x3 x4 G
theorem wfL_law_1773 {F : zF} (hd : 904 ≤ F.2.2.2) (x0 : Option Nat) (x1 : Option Nat) (x2 : Option Nat) (x3 : Option Nat) (x4 : Int32)  (G : GS) {a : (Int32 × GS) ⊕ ((Int32) × GS)} (h : fL_law_1773 x0 x1 x2 x3 x4  G = some a) (hk : (zcase (fun s : Int32 × GS => J mL_law F s.2 23 [(0, vR x0), (1, vR x1), (2, vR x2), (3, vR x3), (4, vI s.1)] []) (zKI F)) a) : J mL_law F G 1773 [(0, vR x0), (1, vR x1), (2, vR x2), (3, vR x3), (4, vI x4)] [] := by
  unfold fL_law_1773 at h
  refine j_goto (tgt := 1954) dL_law_1773 (by decide) ?_
  exact J.sub (zall [0, 1, 2, 3, 4] rfl) (wfL_law_1954 hd x0 x1 x2 x3 x4  G h hk)
def fL_law_1732 (x0 : Option Nat) (x1 : Option Nat) (x2 : Option Nat) (x3 : Option Nat) (x4 : Int32)  (G : GS) : Option ((Int32 × GS) ⊕ ((Int32) × GS)) :=
  zb2 (fX0_derivations_0 x1 x3 G) fun v2 G3 => x2.bind fun a4 => zk [2] G3 a4 <| zb2 (fX2_derivations_0 a4 G3) fun v8 G9 => zk [2] G9 a4 <| (fX2_thrown_0 a4 G9).bind fun v12 => if v12 = v2 then (if v2 = 0 then (x3.bind fun a15 => (zaL G9 51 a15 (0 : Int32)).bind fun l17 => if (lg_cmp l17 v8.toInt64) = 0 then (fL_law_1773 x0 x1 (some a4) (some a15) x4 G9) else (zo (zcond (zbb 0) (some (0, G9))))) else (fL_law_1773 x0 x1 (some a4) x3 x4 G9)) else (zo (zcond (zbb 0) (some (0, G9))))
theorem wfL_law_1732 {F : zF} (hd : 904 ≤ F.2.2.2) (x0 : Option Nat) (x1 : Option Nat) (x2 : Option Nat) (x3 : Option Nat) (x4 : Int32)  (G : GS) {a : (Int32 × GS) ⊕ ((Int32) × GS)} (h : fL_law_1732 x0 x1 x2 x3 x4  G = some a) (hk : (zcase (fun s : Int32 × GS => J mL_law F s.2 23 [(0, vR x0), (1, vR x1), (2, vR x2), (3, vR x3), (4, vI s.1)] []) (zKI F)) a) : J mL_law F G 1732 [(0, vR x0), (1, vR x1), (2, vR x2), (3, vR x3), (4, vI x4)] [] := by
  unfold fL_law_1732 at h
  refine j_aload_n (j := 1) dL_law_1732 rfl rfl ?_
  refine j_aload_n (j := 3) dL_law_1733 rfl rfl ?_
  replace h := zb2E h
  obtain ⟨v2, G3, e1, h⟩ := h
  refine j_cont (zrSW (As := [vR x1, vR x3]) msX0_232 (yX0_derivations_ok e1) (Nat.le_trans (Nat.le_of_ble_eq_true rfl) hd) rfl rfl (Nat.le_of_ble_eq_true rfl) dL_law_1734) ?_
  refine j_istore (lv' := [(5, vI v2), (0, vR x0), (1, vR x1), (2, vR x2), (3, vR x3), (4, vI x4)]) dL_law_1737 (Nat.le_of_ble_eq_true rfl) rfl ?_
  refine j_aload_n (j := 3) dL_law_1739 rfl rfl ?_
  replace h := zbE h
  obtain ⟨a4, e5, h⟩ := h
  subst e5
  replace h := zkE h
  obtain ⟨e6, h⟩ := h
  replace h := zb2E h
  obtain ⟨v8, G9, e7, h⟩ := h
  refine j_cont (zrV (As := []) msX0_234 (yX2_derivations_ok e7) (Nat.le_trans (Nat.le_of_ble_eq_true rfl) hd) (zk_2 _ e6) rfl rfl (Nat.le_of_ble_eq_true rfl) dL_law_1740) ?_
  refine j_istore (lv' := [(6, vI v8), (5, vI v2), (0, vR x0), (1, vR x1), (2, vR (some a4)), (3, vR x3), (4, vI x4)]) dL_law_1743 (Nat.le_of_ble_eq_true rfl) rfl ?_
  refine j_aload_n (j := 4) dL_law_1745 rfl rfl ?_
  replace h := zkE h
  obtain ⟨e10, h⟩ := h
  replace h := zbE h
  obtain ⟨v12, e11, h⟩ := h
  refine j_cont (zrV (As := []) msX0_102 (yX2_thrown_ok e11) (Nat.le_trans (Nat.le_of_ble_eq_true rfl) hd) (zk_2 _ e10) rfl rfl (Nat.le_of_ble_eq_true rfl) dL_law_1746) ?_
  refine j_iload (j := 1) dL_law_1749 rfl ?_
  refine j_icmp_eq (tgt := 1756) dL_law_1751 (by decide) (fun c13 => ?_) (fun c13 => ?_)
  · rw [if_pos c13] at h
    refine j_iload (j := 1) dL_law_1756 rfl ?_
    refine j_if_ne (tgt := 1773) dL_law_1758 (by decide) (fun c14 => ?_) (fun c14 => ?_)
    · rw [if_pos c14] at h
      refine j_aload_n (j := 5) dL_law_1761 rfl rfl ?_
      refine j_iconst (v := 0) dL_law_1762 (by decide) ?_
      replace h := zbE h
      obtain ⟨a15, e16, h⟩ := h
      subst e16
      replace h := zbE h
      obtain ⟨l17, e18, h⟩ := h
      refine j_lald rfl e18 dL_law_1763 ?_
      refine j_iload (j := 0) dL_law_1764 rfl ?_
      refine j_i2l dL_law_1766 ?_
      refine j_lcmp dL_law_1767 ?_
      refine j_if_eq (tgt := 1773) dL_law_1768 (by decide) (fun c19 => ?_) (fun c19 => ?_)
      · rw [if_pos c19] at h
        exact J.sub (zall [2, 3, 4, 5, 6] rfl) (wfL_law_1773 hd x0 x1 (some a4) (some a15) x4  G9 h hk)
      · rw [if_neg c19] at h
        replace h := zoE h
        obtain ⟨a, h, rfl⟩ := h
        replace hk := hk
        refine j_iconst (v := 0) dL_law_1771 (by decide) ?_
        replace h := zcondE h
        obtain ⟨e20, h⟩ := h
        obtain rfl := Option.some.inj h
        exact j_zret hk.1 hk.2 rfl (zbb_n e20) dL_law_1772
    · rw [if_neg c14] at h
      exact J.sub (zall [2, 3, 4, 5, 6] rfl) (wfL_law_1773 hd x0 x1 (some a4) x3 x4  G9 h hk)
  · rw [if_neg c13] at h
    replace h := zoE h
    obtain ⟨a, h, rfl⟩ := h
    replace hk := hk
    refine j_iconst (v := 0) dL_law_1754 (by decide) ?_
    replace h := zcondE h
    obtain ⟨e21, h⟩ := h
    obtain rfl := Option.some.inj h
    exact j_zret hk.1 hk.2 rfl (zbb_n e21) dL_law_1755
def fL_law_1729 (x0 : Option Nat) (x1 : Option Nat) (x2 : Option Nat) (x3 : Option Nat) (x4 : Int32)  (G : GS) : Option ((Int32 × GS) ⊕ ((Int32) × GS)) :=
  fL_law_1954 x0 x1 x2 x3 x4 G
theorem wfL_law_1729 {F : zF} (hd : 904 ≤ F.2.2.2) (x0 : Option Nat) (x1 : Option Nat) (x2 : Option Nat) (x3 : Option Nat) (x4 : Int32)  (G : GS) {a : (Int32 × GS) ⊕ ((Int32) × GS)} (h : fL_law_1729 x0 x1 x2 x3 x4  G = some a) (hk : (zcase (fun s : Int32 × GS => J mL_law F s.2 23 [(0, vR x0), (1, vR x1), (2, vR x2), (3, vR x3), (4, vI s.1)] []) (zKI F)) a) : J mL_law F G 1729 [(0, vR x0), (1, vR x1), (2, vR x2), (3, vR x3), (4, vI x4)] [] := by
  unfold fL_law_1729 at h
  refine j_goto (tgt := 1954) dL_law_1729 (by decide) ?_
  exact J.sub (zall [0, 1, 2, 3, 4] rfl) (wfL_law_1954 hd x0 x1 x2 x3 x4  G h hk)
def fL_law_1723 (x0 : Option Nat) (x1 : Option Nat) (x2 : Option Nat) (x3 : Option Nat) (x4 : Int32) (s0 : Int64) (s1 : Int64) (G : GS) : Option ((Int32 × GS) ⊕ ((Int32) × GS)) :=
  if (lg_cmp s0 s1) = 0 then (fL_law_1729 x0 x1 x2 x3 x4 G) else (zo (zcond (zbb 0) (some (0, G))))
theorem wfL_law_1723 {F : zF} (hd : 904 ≤ F.2.2.2) (x0 : Option Nat) (x1 : Option Nat) (x2 : Option Nat) (x3 : Option Nat) (x4 : Int32) (s0 : Int64) (s1 : Int64) (G : GS) {a : (Int32 × GS) ⊕ ((Int32) × GS)} (h : fL_law_1723 x0 x1 x2 x3 x4 s0 s1 G = some a) (hk : (zcase (fun s : Int32 × GS => J mL_law F s.2 23 [(0, vR x0), (1, vR x1), (2, vR x2), (3, vR x3), (4, vI s.1)] []) (zKI F)) a) : J mL_law F G 1723 [(0, vR x0), (1, vR x1), (2, vR x2), (3, vR x3), (4, vI x4)] [vL s1, vL s0] := by
  unfold fL_law_1723 at h
  refine j_lcmp dL_law_1723 ?_
  refine j_if_eq (tgt := 1729) dL_law_1724 (by decide) (fun c1 => ?_) (fun c1 => ?_)
  · rw [if_pos c1] at h
    exact J.sub (zall [0, 1, 2, 3, 4] rfl) (wfL_law_1729 hd x0 x1 x2 x3 x4  G h hk)
  · rw [if_neg c1] at h
    replace h := zoE h
    obtain ⟨a, h, rfl⟩ := h
    replace hk := hk
    refine j_iconst (v := 0) dL_law_1727 (by decide) ?_
    replace h := zcondE h
    obtain ⟨e2, h⟩ := h
    obtain rfl := Option.some.inj h
    exact j_zret hk.1 hk.2 rfl (zbb_n e2) dL_law_1728
def fL_law_1669 (x0 : Option Nat) (x1 : Option Nat) (x2 : Option Nat) (x3 : Option Nat) (x4 : Int32)  (G : GS) : Option ((Int32 × GS) ⊕ ((Int32) × GS)) :=
  x0.bind fun a1 => (zaI G 60 a1 (x4 + 1)).bind fun v3 => zb2 (fX0_wasSkipped_0 x1 v3 x3 G) fun v6 G7 => (zaI G7 60 a1 (x4 + 1)).bind fun v8 => x2.bind fun a10 => zk [2] G7 a10 <| zb2 (fX2_wasSkipped_0 a10 v8 G7) fun v14 G15 => zk [2] G15 a10 <| (fX2_thrown_0 a10 G15).bind fun v18 => if v18 = v6 then (if v6 = 0 then (x3.bind fun a21 => (zaL G15 51 a21 (0 : Int32)).bind fun l23 => if v14 = 0 then (fL_law_1723 (some a1) x1 (some a10) (some a21) x4 l23 0 G15) else (fL_law_1723 (some a1) x1 (some a10) (some a21) x4 l23 1 G15)) else (fL_law_1729 (some a1) x1 (some a10) x3 x4 G15)) else (zo (zcond (zbb 0) (some (0, G15))))
theorem wfL_law_1669 {F : zF} (hd : 904 ≤ F.2.2.2) (x0 : Option Nat) (x1 : Option Nat) (x2 : Option Nat) (x3 : Option Nat) (x4 : Int32)  (G : GS) {a : (Int32 × GS) ⊕ ((Int32) × GS)} (h : fL_law_1669 x0 x1 x2 x3 x4  G = some a) (hk : (zcase (fun s : Int32 × GS => J mL_law F s.2 23 [(0, vR x0), (1, vR x1), (2, vR x2), (3, vR x3), (4, vI s.1)] []) (zKI F)) a) : J mL_law F G 1669 [(0, vR x0), (1, vR x1), (2, vR x2), (3, vR x3), (4, vI x4)] [] := by
  unfold fL_law_1669 at h
  refine j_aload_n (j := 1) dL_law_1669 rfl rfl ?_
  refine j_aload_n (j := 0) dL_law_1670 rfl rfl ?_
  refine j_iload (j := 4) dL_law_1671 rfl ?_
  refine j_iconst (v := 1) dL_law_1673 (by decide) ?_
  refine j_iadd dL_law_1674 ?_
  replace h := zbE h
  obtain ⟨a1, e2, h⟩ := h
  subst e2
  replace h := zbE h
  obtain ⟨v3, e4, h⟩ := h
  refine j_iald (Or.inr rfl) e4 dL_law_1675 ?_
  refine j_aload_n (j := 3) dL_law_1676 rfl rfl ?_
  replace h := zb2E h
  obtain ⟨v6, G7, e5, h⟩ := h
  refine j_cont (zrSW (As := [vR x1, vI v3, vR x3]) msX0_229 (yX0_wasSkipped_ok e5) (Nat.le_trans (Nat.le_of_ble_eq_true rfl) hd) rfl rfl (Nat.le_of_ble_eq_true rfl) dL_law_1677) ?_
  refine j_istore (lv' := [(5, vI v6), (0, vR (some a1)), (1, vR x1), (2, vR x2), (3, vR x3), (4, vI x4)]) dL_law_1680 (Nat.le_of_ble_eq_true rfl) rfl ?_
  refine j_aload_n (j := 3) dL_law_1682 rfl rfl ?_
  refine j_aload_n (j := 1) dL_law_1683 rfl rfl ?_
  refine j_iload (j := 5) dL_law_1684 rfl ?_
  refine j_iconst (v := 1) dL_law_1686 (by decide) ?_
  refine j_iadd dL_law_1687 ?_
  replace h := zbE h
  obtain ⟨v8, e9, h⟩ := h
  refine j_iald (Or.inr rfl) e9 dL_law_1688 ?_
  replace h := zbE h
  obtain ⟨a10, e11, h⟩ := h
  subst e11
  replace h := zkE h
  obtain ⟨e12, h⟩ := h
  replace h := zb2E h
  obtain ⟨v14, G15, e13, h⟩ := h
  refine j_cont (zrV (As := [vI v8]) msX0_231 (yX2_wasSkipped_ok e13) (Nat.le_trans (Nat.le_of_ble_eq_true rfl) hd) (zk_2 _ e12) rfl rfl (Nat.le_of_ble_eq_true rfl) dL_law_1689) ?_
  refine j_istore (lv' := [(6, vI v14), (5, vI v6), (0, vR (some a1)), (1, vR x1), (2, vR (some a10)), (3, vR x3), (4, vI x4)]) dL_law_1692 (Nat.le_of_ble_eq_true rfl) rfl ?_
  refine j_aload_n (j := 4) dL_law_1694 rfl rfl ?_
  replace h := zkE h
  obtain ⟨e16, h⟩ := h
  replace h := zbE h
  obtain ⟨v18, e17, h⟩ := h
  refine j_cont (zrV (As := []) msX0_102 (yX2_thrown_ok e17) (Nat.le_trans (Nat.le_of_ble_eq_true rfl) hd) (zk_2 _ e16) rfl rfl (Nat.le_of_ble_eq_true rfl) dL_law_1695) ?_
  refine j_iload (j := 1) dL_law_1698 rfl ?_
  refine j_icmp_eq (tgt := 1705) dL_law_1700 (by decide) (fun c19 => ?_) (fun c19 => ?_)
  · rw [if_pos c19] at h
    refine j_iload (j := 1) dL_law_1705 rfl ?_
    refine j_if_ne (tgt := 1729) dL_law_1707 (by decide) (fun c20 => ?_) (fun c20 => ?_)
    · rw [if_pos c20] at h
      refine j_aload_n (j := 5) dL_law_1710 rfl rfl ?_
      refine j_iconst (v := 0) dL_law_1711 (by decide) ?_
      replace h := zbE h
      obtain ⟨a21, e22, h⟩ := h
      subst e22
      replace h := zbE h
      obtain ⟨l23, e24, h⟩ := h
      refine j_lald rfl e24 dL_law_1712 ?_
      refine j_iload (j := 0) dL_law_1713 rfl ?_
      refine j_if_eq (tgt := 1722) dL_law_1715 (by decide) (fun c25 => ?_) (fun c25 => ?_)
      · rw [if_pos c25] at h
        refine j_lconst (v := 0) dL_law_1722 rfl ?_
        exact J.sub (zall [2, 3, 4, 5, 6] rfl) (wfL_law_1723 hd (some a1) x1 (some a10) (some a21) x4 l23 0 G15 h hk)
      · rw [if_neg c25] at h
        refine j_lconst (v := 1) dL_law_1718 rfl ?_
        refine j_goto (tgt := 1723) dL_law_1719 (by decide) ?_
        exact J.sub (zall [2, 3, 4, 5, 6] rfl) (wfL_law_1723 hd (some a1) x1 (some a10) (some a21) x4 l23 1 G15 h hk)
    · rw [if_neg c20] at h
      exact J.sub (zall [2, 3, 4, 5, 6] rfl) (wfL_law_1729 hd (some a1) x1 (some a10) x3 x4  G15 h hk)
  · rw [if_neg c19] at h
    replace h := zoE h
    obtain ⟨a, h, rfl⟩ := h
    replace hk := hk
    refine j_iconst (v := 0) dL_law_1703 (by decide) ?_
    replace h := zcondE h
    obtain ⟨e26, h⟩ := h
    obtain rfl := Option.some.inj h
    exact j_zret hk.1 hk.2 rfl (zbb_n e26) dL_law_1704
def fL_law_1666 (x0 : Option Nat) (x1 : Option Nat) (x2 : Option Nat) (x3 : Option Nat) (x4 : Int32)  (G : GS) : Option ((Int32 × GS) ⊕ ((Int32) × GS)) :=
  fL_law_1954 x0 x1 x2 x3 x4 G
theorem wfL_law_1666 {F : zF} (hd : 904 ≤ F.2.2.2) (x0 : Option Nat) (x1 : Option Nat) (x2 : Option Nat) (x3 : Option Nat) (x4 : Int32)  (G : GS) {a : (Int32 × GS) ⊕ ((Int32) × GS)} (h : fL_law_1666 x0 x1 x2 x3 x4  G = some a) (hk : (zcase (fun s : Int32 × GS => J mL_law F s.2 23 [(0, vR x0), (1, vR x1), (2, vR x2), (3, vR x3), (4, vI s.1)] []) (zKI F)) a) : J mL_law F G 1666 [(0, vR x0), (1, vR x1), (2, vR x2), (3, vR x3), (4, vI x4)] [] := by
  unfold fL_law_1666 at h
  refine j_goto (tgt := 1954) dL_law_1666 (by decide) ?_
  exact J.sub (zall [0, 1, 2, 3, 4] rfl) (wfL_law_1954 hd x0 x1 x2 x3 x4  G h hk)
def fL_law_1613 (x0 : Option Nat) (x1 : Option Nat) (x2 : Option Nat) (x3 : Option Nat) (x4 : Int32)  (G : GS) : Option ((Int32 × GS) ⊕ ((Int32) × GS)) :=
  x0.bind fun a1 => (zaI G 60 a1 (x4 + 1)).bind fun v3 => zb2 (fX0_errorSymbol_0 x1 v3 x3 G) fun v6 G7 => (zaI G7 60 a1 (x4 + 1)).bind fun v8 => x2.bind fun a10 => zk [2] G7 a10 <| zb2 (fX2_errorSymbol_0 a10 v8 G7) fun v14 G15 => zk [2] G15 a10 <| (fX2_thrown_0 a10 G15).bind fun v18 => if v18 = v6 then (if v6 = 0 then (x3.bind fun a21 => (zaL G15 51 a21 (0 : Int32)).bind fun l23 => if (lg_cmp l23 v14.toInt64) = 0 then (fL_law_1666 (some a1) x1 (some a10) (some a21) x4 G15) else (zo (zcond (zbb 0) (some (0, G15))))) else (fL_law_1666 (some a1) x1 (some a10) x3 x4 G15)) else (zo (zcond (zbb 0) (some (0, G15))))
theorem wfL_law_1613 {F : zF} (hd : 904 ≤ F.2.2.2) (x0 : Option Nat) (x1 : Option Nat) (x2 : Option Nat) (x3 : Option Nat) (x4 : Int32)  (G : GS) {a : (Int32 × GS) ⊕ ((Int32) × GS)} (h : fL_law_1613 x0 x1 x2 x3 x4  G = some a) (hk : (zcase (fun s : Int32 × GS => J mL_law F s.2 23 [(0, vR x0), (1, vR x1), (2, vR x2), (3, vR x3), (4, vI s.1)] []) (zKI F)) a) : J mL_law F G 1613 [(0, vR x0), (1, vR x1), (2, vR x2), (3, vR x3), (4, vI x4)] [] := by
  unfold fL_law_1613 at h
  refine j_aload_n (j := 1) dL_law_1613 rfl rfl ?_
  refine j_aload_n (j := 0) dL_law_1614 rfl rfl ?_
  refine j_iload (j := 4) dL_law_1615 rfl ?_
  refine j_iconst (v := 1) dL_law_1617 (by decide) ?_
  refine j_iadd dL_law_1618 ?_
  replace h := zbE h
  obtain ⟨a1, e2, h⟩ := h
  subst e2
  replace h := zbE h
  obtain ⟨v3, e4, h⟩ := h
  refine j_iald (Or.inr rfl) e4 dL_law_1619 ?_
  refine j_aload_n (j := 3) dL_law_1620 rfl rfl ?_
  replace h := zb2E h
  obtain ⟨v6, G7, e5, h⟩ := h
  refine j_cont (zrSW (As := [vR x1, vI v3, vR x3]) msX0_226 (yX0_errorSymbol_ok e5) (Nat.le_trans (Nat.le_of_ble_eq_true rfl) hd) rfl rfl (Nat.le_of_ble_eq_true rfl) dL_law_1621) ?_
  refine j_istore (lv' := [(5, vI v6), (0, vR (some a1)), (1, vR x1), (2, vR x2), (3, vR x3), (4, vI x4)]) dL_law_1624 (Nat.le_of_ble_eq_true rfl) rfl ?_
  refine j_aload_n (j := 3) dL_law_1626 rfl rfl ?_
  refine j_aload_n (j := 1) dL_law_1627 rfl rfl ?_
  refine j_iload (j := 5) dL_law_1628 rfl ?_
  refine j_iconst (v := 1) dL_law_1630 (by decide) ?_
  refine j_iadd dL_law_1631 ?_
  replace h := zbE h
  obtain ⟨v8, e9, h⟩ := h
  refine j_iald (Or.inr rfl) e9 dL_law_1632 ?_
  replace h := zbE h
  obtain ⟨a10, e11, h⟩ := h
  subst e11
  replace h := zkE h
  obtain ⟨e12, h⟩ := h
  replace h := zb2E h
  obtain ⟨v14, G15, e13, h⟩ := h
  refine j_cont (zrV (As := [vI v8]) msX0_228 (yX2_errorSymbol_ok e13) (Nat.le_trans (Nat.le_of_ble_eq_true rfl) hd) (zk_2 _ e12) rfl rfl (Nat.le_of_ble_eq_true rfl) dL_law_1633) ?_
  refine j_istore (lv' := [(6, vI v14), (5, vI v6), (0, vR (some a1)), (1, vR x1), (2, vR (some a10)), (3, vR x3), (4, vI x4)]) dL_law_1636 (Nat.le_of_ble_eq_true rfl) rfl ?_
  refine j_aload_n (j := 4) dL_law_1638 rfl rfl ?_
  replace h := zkE h
  obtain ⟨e16, h⟩ := h
  replace h := zbE h
  obtain ⟨v18, e17, h⟩ := h
  refine j_cont (zrV (As := []) msX0_102 (yX2_thrown_ok e17) (Nat.le_trans (Nat.le_of_ble_eq_true rfl) hd) (zk_2 _ e16) rfl rfl (Nat.le_of_ble_eq_true rfl) dL_law_1639) ?_
  refine j_iload (j := 1) dL_law_1642 rfl ?_
  refine j_icmp_eq (tgt := 1649) dL_law_1644 (by decide) (fun c19 => ?_) (fun c19 => ?_)
  · rw [if_pos c19] at h
    refine j_iload (j := 1) dL_law_1649 rfl ?_
    refine j_if_ne (tgt := 1666) dL_law_1651 (by decide) (fun c20 => ?_) (fun c20 => ?_)
    · rw [if_pos c20] at h
      refine j_aload_n (j := 5) dL_law_1654 rfl rfl ?_
      refine j_iconst (v := 0) dL_law_1655 (by decide) ?_
      replace h := zbE h
      obtain ⟨a21, e22, h⟩ := h
      subst e22
      replace h := zbE h
      obtain ⟨l23, e24, h⟩ := h
      refine j_lald rfl e24 dL_law_1656 ?_
      refine j_iload (j := 0) dL_law_1657 rfl ?_
      refine j_i2l dL_law_1659 ?_
      refine j_lcmp dL_law_1660 ?_
      refine j_if_eq (tgt := 1666) dL_law_1661 (by decide) (fun c25 => ?_) (fun c25 => ?_)
      · rw [if_pos c25] at h
        exact J.sub (zall [2, 3, 4, 5, 6] rfl) (wfL_law_1666 hd (some a1) x1 (some a10) (some a21) x4  G15 h hk)
      · rw [if_neg c25] at h
        replace h := zoE h
        obtain ⟨a, h, rfl⟩ := h
        replace hk := hk
        refine j_iconst (v := 0) dL_law_1664 (by decide) ?_
        replace h := zcondE h
        obtain ⟨e26, h⟩ := h
        obtain rfl := Option.some.inj h
        exact j_zret hk.1 hk.2 rfl (zbb_n e26) dL_law_1665
    · rw [if_neg c20] at h
      exact J.sub (zall [2, 3, 4, 5, 6] rfl) (wfL_law_1666 hd (some a1) x1 (some a10) x3 x4  G15 h hk)
  · rw [if_neg c19] at h
    replace h := zoE h
    obtain ⟨a, h, rfl⟩ := h
    replace hk := hk
    refine j_iconst (v := 0) dL_law_1647 (by decide) ?_
    replace h := zcondE h
    obtain ⟨e27, h⟩ := h
    obtain rfl := Option.some.inj h
    exact j_zret hk.1 hk.2 rfl (zbb_n e27) dL_law_1648
def fL_law_1610 (x0 : Option Nat) (x1 : Option Nat) (x2 : Option Nat) (x3 : Option Nat) (x4 : Int32)  (G : GS) : Option ((Int32 × GS) ⊕ ((Int32) × GS)) :=
  fL_law_1954 x0 x1 x2 x3 x4 G
theorem wfL_law_1610 {F : zF} (hd : 904 ≤ F.2.2.2) (x0 : Option Nat) (x1 : Option Nat) (x2 : Option Nat) (x3 : Option Nat) (x4 : Int32)  (G : GS) {a : (Int32 × GS) ⊕ ((Int32) × GS)} (h : fL_law_1610 x0 x1 x2 x3 x4  G = some a) (hk : (zcase (fun s : Int32 × GS => J mL_law F s.2 23 [(0, vR x0), (1, vR x1), (2, vR x2), (3, vR x3), (4, vI s.1)] []) (zKI F)) a) : J mL_law F G 1610 [(0, vR x0), (1, vR x1), (2, vR x2), (3, vR x3), (4, vI x4)] [] := by
  unfold fL_law_1610 at h
  refine j_goto (tgt := 1954) dL_law_1610 (by decide) ?_
  exact J.sub (zall [0, 1, 2, 3, 4] rfl) (wfL_law_1954 hd x0 x1 x2 x3 x4  G h hk)
def fL_law_1557 (x0 : Option Nat) (x1 : Option Nat) (x2 : Option Nat) (x3 : Option Nat) (x4 : Int32)  (G : GS) : Option ((Int32 × GS) ⊕ ((Int32) × GS)) :=
  x0.bind fun a1 => (zaI G 60 a1 (x4 + 1)).bind fun v3 => zb2 (fX0_errorToken_0 x1 v3 x3 G) fun v6 G7 => (zaI G7 60 a1 (x4 + 1)).bind fun v8 => x2.bind fun a10 => zk [2] G7 a10 <| zb2 (fX2_errorToken_0 a10 v8 G7) fun v14 G15 => zk [2] G15 a10 <| (fX2_thrown_0 a10 G15).bind fun v18 => if v18 = v6 then (if v6 = 0 then (x3.bind fun a21 => (zaL G15 51 a21 (0 : Int32)).bind fun l23 => if (lg_cmp l23 v14.toInt64) = 0 then (fL_law_1610 (some a1) x1 (some a10) (some a21) x4 G15) else (zo (zcond (zbb 0) (some (0, G15))))) else (fL_law_1610 (some a1) x1 (some a10) x3 x4 G15)) else (zo (zcond (zbb 0) (some (0, G15))))
theorem wfL_law_1557 {F : zF} (hd : 904 ≤ F.2.2.2) (x0 : Option Nat) (x1 : Option Nat) (x2 : Option Nat) (x3 : Option Nat) (x4 : Int32)  (G : GS) {a : (Int32 × GS) ⊕ ((Int32) × GS)} (h : fL_law_1557 x0 x1 x2 x3 x4  G = some a) (hk : (zcase (fun s : Int32 × GS => J mL_law F s.2 23 [(0, vR x0), (1, vR x1), (2, vR x2), (3, vR x3), (4, vI s.1)] []) (zKI F)) a) : J mL_law F G 1557 [(0, vR x0), (1, vR x1), (2, vR x2), (3, vR x3), (4, vI x4)] [] := by
  unfold fL_law_1557 at h
  refine j_aload_n (j := 1) dL_law_1557 rfl rfl ?_
  refine j_aload_n (j := 0) dL_law_1558 rfl rfl ?_
  refine j_iload (j := 4) dL_law_1559 rfl ?_
  refine j_iconst (v := 1) dL_law_1561 (by decide) ?_
  refine j_iadd dL_law_1562 ?_
  replace h := zbE h
  obtain ⟨a1, e2, h⟩ := h
  subst e2
  replace h := zbE h
  obtain ⟨v3, e4, h⟩ := h
  refine j_iald (Or.inr rfl) e4 dL_law_1563 ?_
  refine j_aload_n (j := 3) dL_law_1564 rfl rfl ?_
  replace h := zb2E h
  obtain ⟨v6, G7, e5, h⟩ := h
  refine j_cont (zrSW (As := [vR x1, vI v3, vR x3]) msX0_223 (yX0_errorToken_ok e5) (Nat.le_trans (Nat.le_of_ble_eq_true rfl) hd) rfl rfl (Nat.le_of_ble_eq_true rfl) dL_law_1565) ?_
  refine j_istore (lv' := [(5, vI v6), (0, vR (some a1)), (1, vR x1), (2, vR x2), (3, vR x3), (4, vI x4)]) dL_law_1568 (Nat.le_of_ble_eq_true rfl) rfl ?_
  refine j_aload_n (j := 3) dL_law_1570 rfl rfl ?_
  refine j_aload_n (j := 1) dL_law_1571 rfl rfl ?_
  refine j_iload (j := 5) dL_law_1572 rfl ?_
  refine j_iconst (v := 1) dL_law_1574 (by decide) ?_
  refine j_iadd dL_law_1575 ?_
  replace h := zbE h
  obtain ⟨v8, e9, h⟩ := h
  refine j_iald (Or.inr rfl) e9 dL_law_1576 ?_
  replace h := zbE h
  obtain ⟨a10, e11, h⟩ := h
  subst e11
  replace h := zkE h
  obtain ⟨e12, h⟩ := h
  replace h := zb2E h
  obtain ⟨v14, G15, e13, h⟩ := h
  refine j_cont (zrV (As := [vI v8]) msX0_225 (yX2_errorToken_ok e13) (Nat.le_trans (Nat.le_of_ble_eq_true rfl) hd) (zk_2 _ e12) rfl rfl (Nat.le_of_ble_eq_true rfl) dL_law_1577) ?_
  refine j_istore (lv' := [(6, vI v14), (5, vI v6), (0, vR (some a1)), (1, vR x1), (2, vR (some a10)), (3, vR x3), (4, vI x4)]) dL_law_1580 (Nat.le_of_ble_eq_true rfl) rfl ?_
  refine j_aload_n (j := 4) dL_law_1582 rfl rfl ?_
  replace h := zkE h
  obtain ⟨e16, h⟩ := h
  replace h := zbE h
  obtain ⟨v18, e17, h⟩ := h
  refine j_cont (zrV (As := []) msX0_102 (yX2_thrown_ok e17) (Nat.le_trans (Nat.le_of_ble_eq_true rfl) hd) (zk_2 _ e16) rfl rfl (Nat.le_of_ble_eq_true rfl) dL_law_1583) ?_
  refine j_iload (j := 1) dL_law_1586 rfl ?_
  refine j_icmp_eq (tgt := 1593) dL_law_1588 (by decide) (fun c19 => ?_) (fun c19 => ?_)
  · rw [if_pos c19] at h
    refine j_iload (j := 1) dL_law_1593 rfl ?_
    refine j_if_ne (tgt := 1610) dL_law_1595 (by decide) (fun c20 => ?_) (fun c20 => ?_)
    · rw [if_pos c20] at h
      refine j_aload_n (j := 5) dL_law_1598 rfl rfl ?_
      refine j_iconst (v := 0) dL_law_1599 (by decide) ?_
      replace h := zbE h
      obtain ⟨a21, e22, h⟩ := h
      subst e22
      replace h := zbE h
      obtain ⟨l23, e24, h⟩ := h
      refine j_lald rfl e24 dL_law_1600 ?_
      refine j_iload (j := 0) dL_law_1601 rfl ?_
      refine j_i2l dL_law_1603 ?_
      refine j_lcmp dL_law_1604 ?_
      refine j_if_eq (tgt := 1610) dL_law_1605 (by decide) (fun c25 => ?_) (fun c25 => ?_)
      · rw [if_pos c25] at h
        exact J.sub (zall [2, 3, 4, 5, 6] rfl) (wfL_law_1610 hd (some a1) x1 (some a10) (some a21) x4  G15 h hk)
      · rw [if_neg c25] at h
        replace h := zoE h
        obtain ⟨a, h, rfl⟩ := h
        replace hk := hk
        refine j_iconst (v := 0) dL_law_1608 (by decide) ?_
        replace h := zcondE h
        obtain ⟨e26, h⟩ := h
        obtain rfl := Option.some.inj h
        exact j_zret hk.1 hk.2 rfl (zbb_n e26) dL_law_1609
    · rw [if_neg c20] at h
      exact J.sub (zall [2, 3, 4, 5, 6] rfl) (wfL_law_1610 hd (some a1) x1 (some a10) x3 x4  G15 h hk)
  · rw [if_neg c19] at h
    replace h := zoE h
    obtain ⟨a, h, rfl⟩ := h
    replace hk := hk
    refine j_iconst (v := 0) dL_law_1591 (by decide) ?_
    replace h := zcondE h
    obtain ⟨e27, h⟩ := h
    obtain rfl := Option.some.inj h
    exact j_zret hk.1 hk.2 rfl (zbb_n e27) dL_law_1592
def fL_law_1544 (x0 : Option Nat) (x1 : Option Nat) (x2 : Option Nat) (x3 : Option Nat) (x4 : Int32)  (G : GS) : Option ((Int32 × GS) ⊕ ((Int32) × GS)) :=
  x1.bind fun a1 => zk [1] G a1 <| (fX1_errorCount_0 a1 G).bind fun v5 => x2.bind fun a6 => zk [2] G a6 <| zb2 (fX2_errorCount_0 a6 G) fun v10 G11 => if v5 = v10 then (fL_law_1954 x0 (some a1) (some a6) x3 x4 G11) else (zo (zcond (zbb 0) (some (0, G11))))
theorem wfL_law_1544 {F : zF} (hd : 904 ≤ F.2.2.2) (x0 : Option Nat) (x1 : Option Nat) (x2 : Option Nat) (x3 : Option Nat) (x4 : Int32)  (G : GS) {a : (Int32 × GS) ⊕ ((Int32) × GS)} (h : fL_law_1544 x0 x1 x2 x3 x4  G = some a) (hk : (zcase (fun s : Int32 × GS => J mL_law F s.2 23 [(0, vR x0), (1, vR x1), (2, vR x2), (3, vR x3), (4, vI s.1)] []) (zKI F)) a) : J mL_law F G 1544 [(0, vR x0), (1, vR x1), (2, vR x2), (3, vR x3), (4, vI x4)] [] := by
  unfold fL_law_1544 at h
  refine j_aload_n (j := 1) dL_law_1544 rfl rfl ?_
  replace h := zbE h
  obtain ⟨a1, e2, h⟩ := h
  subst e2
  replace h := zkE h
  obtain ⟨e3, h⟩ := h
  replace h := zbE h
  obtain ⟨v5, e4, h⟩ := h
  refine j_cont (zrV (As := []) msX0_219 (yX1_errorCount_ok e4) (Nat.le_trans (Nat.le_of_ble_eq_true rfl) hd) (zk_1 _ e3) rfl rfl (Nat.le_of_ble_eq_true rfl) dL_law_1545) ?_
  refine j_aload_n (j := 2) dL_law_1548 rfl rfl ?_
  replace h := zbE h
  obtain ⟨a6, e7, h⟩ := h
  subst e7
  replace h := zkE h
  obtain ⟨e8, h⟩ := h
  replace h := zb2E h
  obtain ⟨v10, G11, e9, h⟩ := h
  refine j_cont (zrV (As := []) msX0_222 (yX2_errorCount_ok e9) (Nat.le_trans (Nat.le_of_ble_eq_true rfl) hd) (zk_2 _ e8) rfl rfl (Nat.le_of_ble_eq_true rfl) dL_law_1549) ?_
  refine j_icmp_eq (tgt := 1954) dL_law_1552 (by decide) (fun c12 => ?_) (fun c12 => ?_)
  · rw [if_pos c12] at h
    exact J.sub (zall [0, 1, 2, 3, 4] rfl) (wfL_law_1954 hd x0 (some a1) (some a6) x3 x4  G11 h hk)
  · rw [if_neg c12] at h
    replace h := zoE h
    obtain ⟨a, h, rfl⟩ := h
    replace hk := hk
    refine j_iconst (v := 0) dL_law_1555 (by decide) ?_
    replace h := zcondE h
    obtain ⟨e13, h⟩ := h
    obtain rfl := Option.some.inj h
    exact j_zret hk.1 hk.2 rfl (zbb_n e13) dL_law_1556
def fL_law_1519 (x0 : Option Nat) (x1 : Option Nat) (x2 : Option Nat) (x3 : Option Nat) (x4 : Int32)  (G : GS) : Option ((Int32 × GS) ⊕ ((Int32) × GS)) :=
  x0.bind fun a1 => (zaI G 60 a1 (x4 + 1)).bind fun v3 => x1.bind fun a5 => zk [1] G a5 <| (fX1_appliedRule_0 a5 v3 G).bind fun v9 => (zaI G 60 a1 (x4 + 1)).bind fun v10 => x2.bind fun a12 => zk [2] G a12 <| zb2 (fX2_appliedRule_0 a12 v10 G) fun v16 G17 => if v9 = v16 then (fL_law_1954 (some a1) (some a5) (some a12) x3 x4 G17) else (zo (zcond (zbb 0) (some (0, G17))))
theorem wfL_law_1519 {F : zF} (hd : 904 ≤ F.2.2.2) (x0 : Option Nat) (x1 : Option Nat) (x2 : Option Nat) (x3 : Option Nat) (x4 : Int32)  (G : GS) {a : (Int32 × GS) ⊕ ((Int32) × GS)} (h : fL_law_1519 x0 x1 x2 x3 x4  G = some a) (hk : (zcase (fun s : Int32 × GS => J mL_law F s.2 23 [(0, vR x0), (1, vR x1), (2, vR x2), (3, vR x3), (4, vI s.1)] []) (zKI F)) a) : J mL_law F G 1519 [(0, vR x0), (1, vR x1), (2, vR x2), (3, vR x3), (4, vI x4)] [] := by
  unfold fL_law_1519 at h
  refine j_aload_n (j := 1) dL_law_1519 rfl rfl ?_
  refine j_aload_n (j := 0) dL_law_1520 rfl rfl ?_
  refine j_iload (j := 4) dL_law_1521 rfl ?_
  refine j_iconst (v := 1) dL_law_1523 (by decide) ?_
  refine j_iadd dL_law_1524 ?_
  replace h := zbE h
  obtain ⟨a1, e2, h⟩ := h
  subst e2
  replace h := zbE h
  obtain ⟨v3, e4, h⟩ := h
  refine j_iald (Or.inr rfl) e4 dL_law_1525 ?_
  replace h := zbE h
  obtain ⟨a5, e6, h⟩ := h
  subst e6
  replace h := zkE h
  obtain ⟨e7, h⟩ := h
  replace h := zbE h
  obtain ⟨v9, e8, h⟩ := h
  refine j_cont (zrV (As := [vI v3]) msX0_215 (yX1_appliedRule_ok e8) (Nat.le_trans (Nat.le_of_ble_eq_true rfl) hd) (zk_1 _ e7) rfl rfl (Nat.le_of_ble_eq_true rfl) dL_law_1526) ?_
  refine j_aload_n (j := 2) dL_law_1529 rfl rfl ?_
  refine j_aload_n (j := 0) dL_law_1530 rfl rfl ?_
  refine j_iload (j := 4) dL_law_1531 rfl ?_
  refine j_iconst (v := 1) dL_law_1533 (by decide) ?_
  refine j_iadd dL_law_1534 ?_
  replace h := zbE h
  obtain ⟨v10, e11, h⟩ := h
  refine j_iald (Or.inr rfl) e11 dL_law_1535 ?_
  replace h := zbE h
  obtain ⟨a12, e13, h⟩ := h
  subst e13
  replace h := zkE h
  obtain ⟨e14, h⟩ := h
  replace h := zb2E h
  obtain ⟨v16, G17, e15, h⟩ := h
  refine j_cont (zrV (As := [vI v10]) msX0_218 (yX2_appliedRule_ok e15) (Nat.le_trans (Nat.le_of_ble_eq_true rfl) hd) (zk_2 _ e14) rfl rfl (Nat.le_of_ble_eq_true rfl) dL_law_1536) ?_
  refine j_icmp_eq (tgt := 1954) dL_law_1539 (by decide) (fun c18 => ?_) (fun c18 => ?_)
  · rw [if_pos c18] at h
    exact J.sub (zall [0, 1, 2, 3, 4] rfl) (wfL_law_1954 hd (some a1) (some a5) (some a12) x3 x4  G17 h hk)
  · rw [if_neg c18] at h
    replace h := zoE h
    obtain ⟨a, h, rfl⟩ := h
    replace hk := hk
    refine j_iconst (v := 0) dL_law_1542 (by decide) ?_
    replace h := zcondE h
    obtain ⟨e19, h⟩ := h
    obtain rfl := Option.some.inj h
    exact j_zret hk.1 hk.2 rfl (zbb_n e19) dL_law_1543
def fL_law_1506 (x0 : Option Nat) (x1 : Option Nat) (x2 : Option Nat) (x3 : Option Nat) (x4 : Int32)  (G : GS) : Option ((Int32 × GS) ⊕ ((Int32) × GS)) :=
  x1.bind fun a1 => zk [1] G a1 <| (fX1_appliedCount_0 a1 G).bind fun v5 => x2.bind fun a6 => zk [2] G a6 <| zb2 (fX2_appliedCount_0 a6 G) fun v10 G11 => if v5 = v10 then (fL_law_1954 x0 (some a1) (some a6) x3 x4 G11) else (zo (zcond (zbb 0) (some (0, G11))))
theorem wfL_law_1506 {F : zF} (hd : 904 ≤ F.2.2.2) (x0 : Option Nat) (x1 : Option Nat) (x2 : Option Nat) (x3 : Option Nat) (x4 : Int32)  (G : GS) {a : (Int32 × GS) ⊕ ((Int32) × GS)} (h : fL_law_1506 x0 x1 x2 x3 x4  G = some a) (hk : (zcase (fun s : Int32 × GS => J mL_law F s.2 23 [(0, vR x0), (1, vR x1), (2, vR x2), (3, vR x3), (4, vI s.1)] []) (zKI F)) a) : J mL_law F G 1506 [(0, vR x0), (1, vR x1), (2, vR x2), (3, vR x3), (4, vI x4)] [] := by
  unfold fL_law_1506 at h
  refine j_aload_n (j := 1) dL_law_1506 rfl rfl ?_
  replace h := zbE h
  obtain ⟨a1, e2, h⟩ := h
  subst e2
  replace h := zkE h
  obtain ⟨e3, h⟩ := h
  replace h := zbE h
  obtain ⟨v5, e4, h⟩ := h
  refine j_cont (zrV (As := []) msX0_211 (yX1_appliedCount_ok e4) (Nat.le_trans (Nat.le_of_ble_eq_true rfl) hd) (zk_1 _ e3) rfl rfl (Nat.le_of_ble_eq_true rfl) dL_law_1507) ?_
  refine j_aload_n (j := 2) dL_law_1510 rfl rfl ?_
  replace h := zbE h
  obtain ⟨a6, e7, h⟩ := h
  subst e7
  replace h := zkE h
  obtain ⟨e8, h⟩ := h
  replace h := zb2E h
  obtain ⟨v10, G11, e9, h⟩ := h
  refine j_cont (zrV (As := []) msX0_214 (yX2_appliedCount_ok e9) (Nat.le_trans (Nat.le_of_ble_eq_true rfl) hd) (zk_2 _ e8) rfl rfl (Nat.le_of_ble_eq_true rfl) dL_law_1511) ?_
  refine j_icmp_eq (tgt := 1954) dL_law_1514 (by decide) (fun c12 => ?_) (fun c12 => ?_)
  · rw [if_pos c12] at h
    exact J.sub (zall [0, 1, 2, 3, 4] rfl) (wfL_law_1954 hd x0 (some a1) (some a6) x3 x4  G11 h hk)
  · rw [if_neg c12] at h
    replace h := zoE h
    obtain ⟨a, h, rfl⟩ := h
    replace hk := hk
    refine j_iconst (v := 0) dL_law_1517 (by decide) ?_
    replace h := zcondE h
    obtain ⟨e13, h⟩ := h
    obtain rfl := Option.some.inj h
    exact j_zret hk.1 hk.2 rfl (zbb_n e13) dL_law_1518
def fL_law_1493 (x0 : Option Nat) (x1 : Option Nat) (x2 : Option Nat) (x3 : Option Nat) (x4 : Int32)  (G : GS) : Option ((Int32 × GS) ⊕ ((Int32) × GS)) :=
  x1.bind fun a1 => zk [1] G a1 <| zb2 (fX1_expected_0 a1 G) fun v5 G6 => x2.bind fun a7 => zk [2] G6 a7 <| zb2 (fX2_expected_0 a7 G6) fun v11 G12 => if v5 = v11 then (fL_law_1954 x0 (some a1) (some a7) x3 x4 G12) else (zo (zcond (zbb 0) (some (0, G12))))
theorem wfL_law_1493 {F : zF} (hd : 904 ≤ F.2.2.2) (x0 : Option Nat) (x1 : Option Nat) (x2 : Option Nat) (x3 : Option Nat) (x4 : Int32)  (G : GS) {a : (Int32 × GS) ⊕ ((Int32) × GS)} (h : fL_law_1493 x0 x1 x2 x3 x4  G = some a) (hk : (zcase (fun s : Int32 × GS => J mL_law F s.2 23 [(0, vR x0), (1, vR x1), (2, vR x2), (3, vR x3), (4, vI s.1)] []) (zKI F)) a) : J mL_law F G 1493 [(0, vR x0), (1, vR x1), (2, vR x2), (3, vR x3), (4, vI x4)] [] := by
  unfold fL_law_1493 at h
  refine j_aload_n (j := 1) dL_law_1493 rfl rfl ?_
  replace h := zbE h
  obtain ⟨a1, e2, h⟩ := h
  subst e2
  replace h := zkE h
  obtain ⟨e3, h⟩ := h
  replace h := zb2E h
  obtain ⟨v5, G6, e4, h⟩ := h
  refine j_cont (zrV (As := []) msX0_207 (yX1_expected_ok e4) (Nat.le_trans (Nat.le_of_ble_eq_true rfl) hd) (zk_1 _ e3) rfl rfl (Nat.le_of_ble_eq_true rfl) dL_law_1494) ?_
  refine j_aload_n (j := 2) dL_law_1497 rfl rfl ?_
  replace h := zbE h
  obtain ⟨a7, e8, h⟩ := h
  subst e8
  replace h := zkE h
  obtain ⟨e9, h⟩ := h
  replace h := zb2E h
  obtain ⟨v11, G12, e10, h⟩ := h
  refine j_cont (zrV (As := []) msX0_210 (yX2_expected_ok e10) (Nat.le_trans (Nat.le_of_ble_eq_true rfl) hd) (zk_2 _ e9) rfl rfl (Nat.le_of_ble_eq_true rfl) dL_law_1498) ?_
  refine j_icmp_eq (tgt := 1954) dL_law_1501 (by decide) (fun c13 => ?_) (fun c13 => ?_)
  · rw [if_pos c13] at h
    exact J.sub (zall [0, 1, 2, 3, 4] rfl) (wfL_law_1954 hd x0 (some a1) (some a7) x3 x4  G12 h hk)
  · rw [if_neg c13] at h
    replace h := zoE h
    obtain ⟨a, h, rfl⟩ := h
    replace hk := hk
    refine j_iconst (v := 0) dL_law_1504 (by decide) ?_
    replace h := zcondE h
    obtain ⟨e14, h⟩ := h
    obtain rfl := Option.some.inj h
    exact j_zret hk.1 hk.2 rfl (zbb_n e14) dL_law_1505
def fL_law_1468 (x0 : Option Nat) (x1 : Option Nat) (x2 : Option Nat) (x3 : Option Nat) (x4 : Int32)  (G : GS) : Option ((Int32 × GS) ⊕ ((Int32) × GS)) :=
  x0.bind fun a1 => (zaI G 60 a1 (x4 + 1)).bind fun v3 => x1.bind fun a5 => zk [1] G a5 <| zb2 (fX1_stackAt_0 a5 v3 G) fun v9 G10 => (zaI G10 60 a1 (x4 + 1)).bind fun v11 => x2.bind fun a13 => zk [2] G10 a13 <| zb2 (fX2_stackAt_0 a13 v11 G10) fun v17 G18 => if v9 = v17 then (fL_law_1954 (some a1) (some a5) (some a13) x3 x4 G18) else (zo (zcond (zbb 0) (some (0, G18))))
theorem wfL_law_1468 {F : zF} (hd : 904 ≤ F.2.2.2) (x0 : Option Nat) (x1 : Option Nat) (x2 : Option Nat) (x3 : Option Nat) (x4 : Int32)  (G : GS) {a : (Int32 × GS) ⊕ ((Int32) × GS)} (h : fL_law_1468 x0 x1 x2 x3 x4  G = some a) (hk : (zcase (fun s : Int32 × GS => J mL_law F s.2 23 [(0, vR x0), (1, vR x1), (2, vR x2), (3, vR x3), (4, vI s.1)] []) (zKI F)) a) : J mL_law F G 1468 [(0, vR x0), (1, vR x1), (2, vR x2), (3, vR x3), (4, vI x4)] [] := by
  unfold fL_law_1468 at h
  refine j_aload_n (j := 1) dL_law_1468 rfl rfl ?_
  refine j_aload_n (j := 0) dL_law_1469 rfl rfl ?_
  refine j_iload (j := 4) dL_law_1470 rfl ?_
  refine j_iconst (v := 1) dL_law_1472 (by decide) ?_
  refine j_iadd dL_law_1473 ?_
  replace h := zbE h
  obtain ⟨a1, e2, h⟩ := h
  subst e2
  replace h := zbE h
  obtain ⟨v3, e4, h⟩ := h
  refine j_iald (Or.inr rfl) e4 dL_law_1474 ?_
  replace h := zbE h
  obtain ⟨a5, e6, h⟩ := h
  subst e6
  replace h := zkE h
  obtain ⟨e7, h⟩ := h
  replace h := zb2E h
  obtain ⟨v9, G10, e8, h⟩ := h
  refine j_cont (zrV (As := [vI v3]) msX0_203 (yX1_stackAt_ok e8) (Nat.le_trans (Nat.le_of_ble_eq_true rfl) hd) (zk_1 _ e7) rfl rfl (Nat.le_of_ble_eq_true rfl) dL_law_1475) ?_
  refine j_aload_n (j := 2) dL_law_1478 rfl rfl ?_
  refine j_aload_n (j := 0) dL_law_1479 rfl rfl ?_
  refine j_iload (j := 4) dL_law_1480 rfl ?_
  refine j_iconst (v := 1) dL_law_1482 (by decide) ?_
  refine j_iadd dL_law_1483 ?_
  replace h := zbE h
  obtain ⟨v11, e12, h⟩ := h
  refine j_iald (Or.inr rfl) e12 dL_law_1484 ?_
  replace h := zbE h
  obtain ⟨a13, e14, h⟩ := h
  subst e14
  replace h := zkE h
  obtain ⟨e15, h⟩ := h
  replace h := zb2E h
  obtain ⟨v17, G18, e16, h⟩ := h
  refine j_cont (zrV (As := [vI v11]) msX0_206 (yX2_stackAt_ok e16) (Nat.le_trans (Nat.le_of_ble_eq_true rfl) hd) (zk_2 _ e15) rfl rfl (Nat.le_of_ble_eq_true rfl) dL_law_1485) ?_
  refine j_icmp_eq (tgt := 1954) dL_law_1488 (by decide) (fun c19 => ?_) (fun c19 => ?_)
  · rw [if_pos c19] at h
    exact J.sub (zall [0, 1, 2, 3, 4] rfl) (wfL_law_1954 hd (some a1) (some a5) (some a13) x3 x4  G18 h hk)
  · rw [if_neg c19] at h
    replace h := zoE h
    obtain ⟨a, h, rfl⟩ := h
    replace hk := hk
    refine j_iconst (v := 0) dL_law_1491 (by decide) ?_
    replace h := zcondE h
    obtain ⟨e20, h⟩ := h
    obtain rfl := Option.some.inj h
    exact j_zret hk.1 hk.2 rfl (zbb_n e20) dL_law_1492
def fL_law_1455 (x0 : Option Nat) (x1 : Option Nat) (x2 : Option Nat) (x3 : Option Nat) (x4 : Int32)  (G : GS) : Option ((Int32 × GS) ⊕ ((Int32) × GS)) :=
  x1.bind fun a1 => zk [1] G a1 <| (fX1_stackDepth_0 a1 G).bind fun v5 => x2.bind fun a6 => zk [2] G a6 <| zb2 (fX2_stackDepth_0 a6 G) fun v10 G11 => if v5 = v10 then (fL_law_1954 x0 (some a1) (some a6) x3 x4 G11) else (zo (zcond (zbb 0) (some (0, G11))))
theorem wfL_law_1455 {F : zF} (hd : 904 ≤ F.2.2.2) (x0 : Option Nat) (x1 : Option Nat) (x2 : Option Nat) (x3 : Option Nat) (x4 : Int32)  (G : GS) {a : (Int32 × GS) ⊕ ((Int32) × GS)} (h : fL_law_1455 x0 x1 x2 x3 x4  G = some a) (hk : (zcase (fun s : Int32 × GS => J mL_law F s.2 23 [(0, vR x0), (1, vR x1), (2, vR x2), (3, vR x3), (4, vI s.1)] []) (zKI F)) a) : J mL_law F G 1455 [(0, vR x0), (1, vR x1), (2, vR x2), (3, vR x3), (4, vI x4)] [] := by
  unfold fL_law_1455 at h
  refine j_aload_n (j := 1) dL_law_1455 rfl rfl ?_
  replace h := zbE h
  obtain ⟨a1, e2, h⟩ := h
  subst e2
  replace h := zkE h
  obtain ⟨e3, h⟩ := h
  replace h := zbE h
  obtain ⟨v5, e4, h⟩ := h
  refine j_cont (zrV (As := []) msX0_199 (yX1_stackDepth_ok e4) (Nat.le_trans (Nat.le_of_ble_eq_true rfl) hd) (zk_1 _ e3) rfl rfl (Nat.le_of_ble_eq_true rfl) dL_law_1456) ?_
  refine j_aload_n (j := 2) dL_law_1459 rfl rfl ?_
  replace h := zbE h
  obtain ⟨a6, e7, h⟩ := h
  subst e7
  replace h := zkE h
  obtain ⟨e8, h⟩ := h
  replace h := zb2E h
  obtain ⟨v10, G11, e9, h⟩ := h
  refine j_cont (zrV (As := []) msX0_202 (yX2_stackDepth_ok e9) (Nat.le_trans (Nat.le_of_ble_eq_true rfl) hd) (zk_2 _ e8) rfl rfl (Nat.le_of_ble_eq_true rfl) dL_law_1460) ?_
  refine j_icmp_eq (tgt := 1954) dL_law_1463 (by decide) (fun c12 => ?_) (fun c12 => ?_)
  · rw [if_pos c12] at h
    exact J.sub (zall [0, 1, 2, 3, 4] rfl) (wfL_law_1954 hd x0 (some a1) (some a6) x3 x4  G11 h hk)
  · rw [if_neg c12] at h
    replace h := zoE h
    obtain ⟨a, h, rfl⟩ := h
    replace hk := hk
    refine j_iconst (v := 0) dL_law_1466 (by decide) ?_
    replace h := zcondE h
    obtain ⟨e13, h⟩ := h
    obtain rfl := Option.some.inj h
    exact j_zret hk.1 hk.2 rfl (zbb_n e13) dL_law_1467
def fL_law_1442 (x0 : Option Nat) (x1 : Option Nat) (x2 : Option Nat) (x3 : Option Nat) (x4 : Int32)  (G : GS) : Option ((Int32 × GS) ⊕ ((Int32) × GS)) :=
  x1.bind fun a1 => zk [1] G a1 <| (fX1_tokenCount_0 a1 G).bind fun v5 => x2.bind fun a6 => zk [2] G a6 <| zb2 (fX2_tokenCount_0 a6 G) fun v10 G11 => if v5 = v10 then (fL_law_1954 x0 (some a1) (some a6) x3 x4 G11) else (zo (zcond (zbb 0) (some (0, G11))))
theorem wfL_law_1442 {F : zF} (hd : 904 ≤ F.2.2.2) (x0 : Option Nat) (x1 : Option Nat) (x2 : Option Nat) (x3 : Option Nat) (x4 : Int32)  (G : GS) {a : (Int32 × GS) ⊕ ((Int32) × GS)} (h : fL_law_1442 x0 x1 x2 x3 x4  G = some a) (hk : (zcase (fun s : Int32 × GS => J mL_law F s.2 23 [(0, vR x0), (1, vR x1), (2, vR x2), (3, vR x3), (4, vI s.1)] []) (zKI F)) a) : J mL_law F G 1442 [(0, vR x0), (1, vR x1), (2, vR x2), (3, vR x3), (4, vI x4)] [] := by
  unfold fL_law_1442 at h
  refine j_aload_n (j := 1) dL_law_1442 rfl rfl ?_
  replace h := zbE h
  obtain ⟨a1, e2, h⟩ := h
  subst e2
  replace h := zkE h
  obtain ⟨e3, h⟩ := h
  replace h := zbE h
  obtain ⟨v5, e4, h⟩ := h
  refine j_cont (zrV (As := []) msX0_195 (yX1_tokenCount_ok e4) (Nat.le_trans (Nat.le_of_ble_eq_true rfl) hd) (zk_1 _ e3) rfl rfl (Nat.le_of_ble_eq_true rfl) dL_law_1443) ?_
  refine j_aload_n (j := 2) dL_law_1446 rfl rfl ?_
  replace h := zbE h
  obtain ⟨a6, e7, h⟩ := h
  subst e7
  replace h := zkE h
  obtain ⟨e8, h⟩ := h
  replace h := zb2E h
  obtain ⟨v10, G11, e9, h⟩ := h
  refine j_cont (zrV (As := []) msX0_198 (yX2_tokenCount_ok e9) (Nat.le_trans (Nat.le_of_ble_eq_true rfl) hd) (zk_2 _ e8) rfl rfl (Nat.le_of_ble_eq_true rfl) dL_law_1447) ?_
  refine j_icmp_eq (tgt := 1954) dL_law_1450 (by decide) (fun c12 => ?_) (fun c12 => ?_)
  · rw [if_pos c12] at h
    exact J.sub (zall [0, 1, 2, 3, 4] rfl) (wfL_law_1954 hd x0 (some a1) (some a6) x3 x4  G11 h hk)
  · rw [if_neg c12] at h
    replace h := zoE h
    obtain ⟨a, h, rfl⟩ := h
    replace hk := hk
    refine j_iconst (v := 0) dL_law_1453 (by decide) ?_
    replace h := zcondE h
    obtain ⟨e13, h⟩ := h
    obtain rfl := Option.some.inj h
    exact j_zret hk.1 hk.2 rfl (zbb_n e13) dL_law_1454
def fL_law_1429 (x0 : Option Nat) (x1 : Option Nat) (x2 : Option Nat) (x3 : Option Nat) (x4 : Int32)  (G : GS) : Option ((Int32 × GS) ⊕ ((Int32) × GS)) :=
  x1.bind fun a1 => zk [1] G a1 <| (fX1_parseState_0 a1 G).bind fun v5 => x2.bind fun a6 => zk [2] G a6 <| zb2 (fX2_parseState_0 a6 G) fun v10 G11 => if v5 = v10 then (fL_law_1954 x0 (some a1) (some a6) x3 x4 G11) else (zo (zcond (zbb 0) (some (0, G11))))
theorem wfL_law_1429 {F : zF} (hd : 904 ≤ F.2.2.2) (x0 : Option Nat) (x1 : Option Nat) (x2 : Option Nat) (x3 : Option Nat) (x4 : Int32)  (G : GS) {a : (Int32 × GS) ⊕ ((Int32) × GS)} (h : fL_law_1429 x0 x1 x2 x3 x4  G = some a) (hk : (zcase (fun s : Int32 × GS => J mL_law F s.2 23 [(0, vR x0), (1, vR x1), (2, vR x2), (3, vR x3), (4, vI s.1)] []) (zKI F)) a) : J mL_law F G 1429 [(0, vR x0), (1, vR x1), (2, vR x2), (3, vR x3), (4, vI x4)] [] := by
  unfold fL_law_1429 at h
  refine j_aload_n (j := 1) dL_law_1429 rfl rfl ?_
  replace h := zbE h
  obtain ⟨a1, e2, h⟩ := h
  subst e2
  replace h := zkE h
  obtain ⟨e3, h⟩ := h
  replace h := zbE h
  obtain ⟨v5, e4, h⟩ := h
  refine j_cont (zrV (As := []) msX0_191 (yX1_parseState_ok e4) (Nat.le_trans (Nat.le_of_ble_eq_true rfl) hd) (zk_1 _ e3) rfl rfl (Nat.le_of_ble_eq_true rfl) dL_law_1430) ?_
  refine j_aload_n (j := 2) dL_law_1433 rfl rfl ?_
  replace h := zbE h
  obtain ⟨a6, e7, h⟩ := h
  subst e7
  replace h := zkE h
  obtain ⟨e8, h⟩ := h
  replace h := zb2E h
  obtain ⟨v10, G11, e9, h⟩ := h
  refine j_cont (zrV (As := []) msX0_194 (yX2_parseState_ok e9) (Nat.le_trans (Nat.le_of_ble_eq_true rfl) hd) (zk_2 _ e8) rfl rfl (Nat.le_of_ble_eq_true rfl) dL_law_1434) ?_
  refine j_icmp_eq (tgt := 1954) dL_law_1437 (by decide) (fun c12 => ?_) (fun c12 => ?_)
  · rw [if_pos c12] at h
    exact J.sub (zall [0, 1, 2, 3, 4] rfl) (wfL_law_1954 hd x0 (some a1) (some a6) x3 x4  G11 h hk)
  · rw [if_neg c12] at h
    replace h := zoE h
    obtain ⟨a, h, rfl⟩ := h
    replace hk := hk
    refine j_iconst (v := 0) dL_law_1440 (by decide) ?_
    replace h := zcondE h
    obtain ⟨e13, h⟩ := h
    obtain rfl := Option.some.inj h
    exact j_zret hk.1 hk.2 rfl (zbb_n e13) dL_law_1441
def fL_law_1426 (x0 : Option Nat) (x1 : Option Nat) (x2 : Option Nat) (x3 : Option Nat) (x4 : Int32)  (G : GS) : Option ((Int32 × GS) ⊕ ((Int32) × GS)) :=
  fL_law_1954 x0 x1 x2 x3 x4 G
theorem wfL_law_1426 {F : zF} (hd : 904 ≤ F.2.2.2) (x0 : Option Nat) (x1 : Option Nat) (x2 : Option Nat) (x3 : Option Nat) (x4 : Int32)  (G : GS) {a : (Int32 × GS) ⊕ ((Int32) × GS)} (h : fL_law_1426 x0 x1 x2 x3 x4  G = some a) (hk : (zcase (fun s : Int32 × GS => J mL_law F s.2 23 [(0, vR x0), (1, vR x1), (2, vR x2), (3, vR x3), (4, vI s.1)] []) (zKI F)) a) : J mL_law F G 1426 [(0, vR x0), (1, vR x1), (2, vR x2), (3, vR x3), (4, vI x4)] [] := by
  unfold fL_law_1426 at h
  refine j_goto (tgt := 1954) dL_law_1426 (by decide) ?_
  exact J.sub (zall [0, 1, 2, 3, 4] rfl) (wfL_law_1954 hd x0 x1 x2 x3 x4  G h hk)
def fL_law_1373 (x0 : Option Nat) (x1 : Option Nat) (x2 : Option Nat) (x3 : Option Nat) (x4 : Int32)  (G : GS) : Option ((Int32 × GS) ⊕ ((Int32) × GS)) :=
  x0.bind fun a1 => (zaI G 60 a1 (x4 + 1)).bind fun v3 => zb2 (fX0_give_0 x1 v3 x3 G) fun v6 G7 => (zaI G7 60 a1 (x4 + 1)).bind fun v8 => x2.bind fun a10 => zk [2] G7 a10 <| zb2 (fX2_give_0 a10 v8 G7) fun v14 G15 => zk [2] G15 a10 <| (fX2_thrown_0 a10 G15).bind fun v18 => if v18 = v6 then (if v6 = 0 then (x3.bind fun a21 => (zaL G15 51 a21 (0 : Int32)).bind fun l23 => if (lg_cmp l23 v14.toInt64) = 0 then (fL_law_1426 (some a1) x1 (some a10) (some a21) x4 G15) else (zo (zcond (zbb 0) (some (0, G15))))) else (fL_law_1426 (some a1) x1 (some a10) x3 x4 G15)) else (zo (zcond (zbb 0) (some (0, G15))))
theorem wfL_law_1373 {F : zF} (hd : 904 ≤ F.2.2.2) (x0 : Option Nat) (x1 : Option Nat) (x2 : Option Nat) (x3 : Option Nat) (x4 : Int32)  (G : GS) {a : (Int32 × GS) ⊕ ((Int32) × GS)} (h : fL_law_1373 x0 x1 x2 x3 x4  G = some a) (hk : (zcase (fun s : Int32 × GS => J mL_law F s.2 23 [(0, vR x0), (1, vR x1), (2, vR x2), (3, vR x3), (4, vI s.1)] []) (zKI F)) a) : J mL_law F G 1373 [(0, vR x0), (1, vR x1), (2, vR x2), (3, vR x3), (4, vI x4)] [] := by
  unfold fL_law_1373 at h
  refine j_aload_n (j := 1) dL_law_1373 rfl rfl ?_
  refine j_aload_n (j := 0) dL_law_1374 rfl rfl ?_
  refine j_iload (j := 4) dL_law_1375 rfl ?_
  refine j_iconst (v := 1) dL_law_1377 (by decide) ?_
  refine j_iadd dL_law_1378 ?_
  replace h := zbE h
  obtain ⟨a1, e2, h⟩ := h
  subst e2
  replace h := zbE h
  obtain ⟨v3, e4, h⟩ := h
  refine j_iald (Or.inr rfl) e4 dL_law_1379 ?_
  refine j_aload_n (j := 3) dL_law_1380 rfl rfl ?_
  replace h := zb2E h
  obtain ⟨v6, G7, e5, h⟩ := h
  refine j_cont (zrSW (As := [vR x1, vI v3, vR x3]) msX0_188 (yX0_give_ok e5) (Nat.le_trans (Nat.le_of_ble_eq_true rfl) hd) rfl rfl (Nat.le_of_ble_eq_true rfl) dL_law_1381) ?_
  refine j_istore (lv' := [(5, vI v6), (0, vR (some a1)), (1, vR x1), (2, vR x2), (3, vR x3), (4, vI x4)]) dL_law_1384 (Nat.le_of_ble_eq_true rfl) rfl ?_
  refine j_aload_n (j := 3) dL_law_1386 rfl rfl ?_
  refine j_aload_n (j := 1) dL_law_1387 rfl rfl ?_
  refine j_iload (j := 5) dL_law_1388 rfl ?_
  refine j_iconst (v := 1) dL_law_1390 (by decide) ?_
  refine j_iadd dL_law_1391 ?_
  replace h := zbE h
  obtain ⟨v8, e9, h⟩ := h
  refine j_iald (Or.inr rfl) e9 dL_law_1392 ?_
  replace h := zbE h
  obtain ⟨a10, e11, h⟩ := h
  subst e11
  replace h := zkE h
  obtain ⟨e12, h⟩ := h
  replace h := zb2E h
  obtain ⟨v14, G15, e13, h⟩ := h
  refine j_cont (zrV (As := [vI v8]) msX0_190 (yX2_give_ok e13) (Nat.le_trans (Nat.le_of_ble_eq_true rfl) hd) (zk_2 _ e12) rfl rfl (Nat.le_of_ble_eq_true rfl) dL_law_1393) ?_
  refine j_istore (lv' := [(6, vI v14), (5, vI v6), (0, vR (some a1)), (1, vR x1), (2, vR (some a10)), (3, vR x3), (4, vI x4)]) dL_law_1396 (Nat.le_of_ble_eq_true rfl) rfl ?_
  refine j_aload_n (j := 4) dL_law_1398 rfl rfl ?_
  replace h := zkE h
  obtain ⟨e16, h⟩ := h
  replace h := zbE h
  obtain ⟨v18, e17, h⟩ := h
  refine j_cont (zrV (As := []) msX0_102 (yX2_thrown_ok e17) (Nat.le_trans (Nat.le_of_ble_eq_true rfl) hd) (zk_2 _ e16) rfl rfl (Nat.le_of_ble_eq_true rfl) dL_law_1399) ?_
  refine j_iload (j := 1) dL_law_1402 rfl ?_
  refine j_icmp_eq (tgt := 1409) dL_law_1404 (by decide) (fun c19 => ?_) (fun c19 => ?_)
  · rw [if_pos c19] at h
    refine j_iload (j := 1) dL_law_1409 rfl ?_
    refine j_if_ne (tgt := 1426) dL_law_1411 (by decide) (fun c20 => ?_) (fun c20 => ?_)
    · rw [if_pos c20] at h
      refine j_aload_n (j := 5) dL_law_1414 rfl rfl ?_
      refine j_iconst (v := 0) dL_law_1415 (by decide) ?_
      replace h := zbE h
      obtain ⟨a21, e22, h⟩ := h
      subst e22
      replace h := zbE h
      obtain ⟨l23, e24, h⟩ := h
      refine j_lald rfl e24 dL_law_1416 ?_
      refine j_iload (j := 0) dL_law_1417 rfl ?_
      refine j_i2l dL_law_1419 ?_
      refine j_lcmp dL_law_1420 ?_
      refine j_if_eq (tgt := 1426) dL_law_1421 (by decide) (fun c25 => ?_) (fun c25 => ?_)
      · rw [if_pos c25] at h
        exact J.sub (zall [2, 3, 4, 5, 6] rfl) (wfL_law_1426 hd (some a1) x1 (some a10) (some a21) x4  G15 h hk)
      · rw [if_neg c25] at h
        replace h := zoE h
        obtain ⟨a, h, rfl⟩ := h
        replace hk := hk
        refine j_iconst (v := 0) dL_law_1424 (by decide) ?_
        replace h := zcondE h
        obtain ⟨e26, h⟩ := h
        obtain rfl := Option.some.inj h
        exact j_zret hk.1 hk.2 rfl (zbb_n e26) dL_law_1425
    · rw [if_neg c20] at h
      exact J.sub (zall [2, 3, 4, 5, 6] rfl) (wfL_law_1426 hd (some a1) x1 (some a10) x3 x4  G15 h hk)
  · rw [if_neg c19] at h
    replace h := zoE h
    obtain ⟨a, h, rfl⟩ := h
    replace hk := hk
    refine j_iconst (v := 0) dL_law_1407 (by decide) ?_
    replace h := zcondE h
    obtain ⟨e27, h⟩ := h
    obtain rfl := Option.some.inj h
    exact j_zret hk.1 hk.2 rfl (zbb_n e27) dL_law_1408
def fL_law_1370 (x0 : Option Nat) (x1 : Option Nat) (x2 : Option Nat) (x3 : Option Nat) (x4 : Int32)  (G : GS) : Option ((Int32 × GS) ⊕ ((Int32) × GS)) :=
  fL_law_1954 x0 x1 x2 x3 x4 G
theorem wfL_law_1370 {F : zF} (hd : 904 ≤ F.2.2.2) (x0 : Option Nat) (x1 : Option Nat) (x2 : Option Nat) (x3 : Option Nat) (x4 : Int32)  (G : GS) {a : (Int32 × GS) ⊕ ((Int32) × GS)} (h : fL_law_1370 x0 x1 x2 x3 x4  G = some a) (hk : (zcase (fun s : Int32 × GS => J mL_law F s.2 23 [(0, vR x0), (1, vR x1), (2, vR x2), (3, vR x3), (4, vI s.1)] []) (zKI F)) a) : J mL_law F G 1370 [(0, vR x0), (1, vR x1), (2, vR x2), (3, vR x3), (4, vI x4)] [] := by
  unfold fL_law_1370 at h
  refine j_goto (tgt := 1954) dL_law_1370 (by decide) ?_
  exact J.sub (zall [0, 1, 2, 3, 4] rfl) (wfL_law_1954 hd x0 x1 x2 x3 x4  G h hk)
def fL_law_1317 (x0 : Option Nat) (x1 : Option Nat) (x2 : Option Nat) (x3 : Option Nat) (x4 : Int32)  (G : GS) : Option ((Int32 × GS) ⊕ ((Int32) × GS)) :=
  x0.bind fun a1 => (zaI G 60 a1 (x4 + 1)).bind fun v3 => zb2 (fX0_start_0 x1 v3 x3 G) fun v6 G7 => (zaI G7 60 a1 (x4 + 1)).bind fun v8 => x2.bind fun a10 => zk [2] G7 a10 <| zb2 (fX2_start_0 a10 v8 G7) fun v14 G15 => zk [2] G15 a10 <| (fX2_thrown_0 a10 G15).bind fun v18 => if v18 = v6 then (if v6 = 0 then (x3.bind fun a21 => (zaL G15 51 a21 (0 : Int32)).bind fun l23 => if (lg_cmp l23 v14.toInt64) = 0 then (fL_law_1370 (some a1) x1 (some a10) (some a21) x4 G15) else (zo (zcond (zbb 0) (some (0, G15))))) else (fL_law_1370 (some a1) x1 (some a10) x3 x4 G15)) else (zo (zcond (zbb 0) (some (0, G15))))
theorem wfL_law_1317 {F : zF} (hd : 904 ≤ F.2.2.2) (x0 : Option Nat) (x1 : Option Nat) (x2 : Option Nat) (x3 : Option Nat) (x4 : Int32)  (G : GS) {a : (Int32 × GS) ⊕ ((Int32) × GS)} (h : fL_law_1317 x0 x1 x2 x3 x4  G = some a) (hk : (zcase (fun s : Int32 × GS => J mL_law F s.2 23 [(0, vR x0), (1, vR x1), (2, vR x2), (3, vR x3), (4, vI s.1)] []) (zKI F)) a) : J mL_law F G 1317 [(0, vR x0), (1, vR x1), (2, vR x2), (3, vR x3), (4, vI x4)] [] := by
  unfold fL_law_1317 at h
  refine j_aload_n (j := 1) dL_law_1317 rfl rfl ?_
  refine j_aload_n (j := 0) dL_law_1318 rfl rfl ?_
  refine j_iload (j := 4) dL_law_1319 rfl ?_
  refine j_iconst (v := 1) dL_law_1321 (by decide) ?_
  refine j_iadd dL_law_1322 ?_
  replace h := zbE h
  obtain ⟨a1, e2, h⟩ := h
  subst e2
  replace h := zbE h
  obtain ⟨v3, e4, h⟩ := h
  refine j_iald (Or.inr rfl) e4 dL_law_1323 ?_
  refine j_aload_n (j := 3) dL_law_1324 rfl rfl ?_
  replace h := zb2E h
  obtain ⟨v6, G7, e5, h⟩ := h
  refine j_cont (zrSW (As := [vR x1, vI v3, vR x3]) msX0_185 (yX0_start_ok e5) (Nat.le_trans (Nat.le_of_ble_eq_true rfl) hd) rfl rfl (Nat.le_of_ble_eq_true rfl) dL_law_1325) ?_
  refine j_istore (lv' := [(5, vI v6), (0, vR (some a1)), (1, vR x1), (2, vR x2), (3, vR x3), (4, vI x4)]) dL_law_1328 (Nat.le_of_ble_eq_true rfl) rfl ?_
  refine j_aload_n (j := 3) dL_law_1330 rfl rfl ?_
  refine j_aload_n (j := 1) dL_law_1331 rfl rfl ?_
  refine j_iload (j := 5) dL_law_1332 rfl ?_
  refine j_iconst (v := 1) dL_law_1334 (by decide) ?_
  refine j_iadd dL_law_1335 ?_
  replace h := zbE h
  obtain ⟨v8, e9, h⟩ := h
  refine j_iald (Or.inr rfl) e9 dL_law_1336 ?_
  replace h := zbE h
  obtain ⟨a10, e11, h⟩ := h
  subst e11
  replace h := zkE h
  obtain ⟨e12, h⟩ := h
  replace h := zb2E h
  obtain ⟨v14, G15, e13, h⟩ := h
  refine j_cont (zrV (As := [vI v8]) msX0_187 (yX2_start_ok e13) (Nat.le_trans (Nat.le_of_ble_eq_true rfl) hd) (zk_2 _ e12) rfl rfl (Nat.le_of_ble_eq_true rfl) dL_law_1337) ?_
  refine j_istore (lv' := [(6, vI v14), (5, vI v6), (0, vR (some a1)), (1, vR x1), (2, vR (some a10)), (3, vR x3), (4, vI x4)]) dL_law_1340 (Nat.le_of_ble_eq_true rfl) rfl ?_
  refine j_aload_n (j := 4) dL_law_1342 rfl rfl ?_
  replace h := zkE h
  obtain ⟨e16, h⟩ := h
  replace h := zbE h
  obtain ⟨v18, e17, h⟩ := h
  refine j_cont (zrV (As := []) msX0_102 (yX2_thrown_ok e17) (Nat.le_trans (Nat.le_of_ble_eq_true rfl) hd) (zk_2 _ e16) rfl rfl (Nat.le_of_ble_eq_true rfl) dL_law_1343) ?_
  refine j_iload (j := 1) dL_law_1346 rfl ?_
  refine j_icmp_eq (tgt := 1353) dL_law_1348 (by decide) (fun c19 => ?_) (fun c19 => ?_)
  · rw [if_pos c19] at h
    refine j_iload (j := 1) dL_law_1353 rfl ?_
    refine j_if_ne (tgt := 1370) dL_law_1355 (by decide) (fun c20 => ?_) (fun c20 => ?_)
    · rw [if_pos c20] at h
      refine j_aload_n (j := 5) dL_law_1358 rfl rfl ?_
      refine j_iconst (v := 0) dL_law_1359 (by decide) ?_
      replace h := zbE h
      obtain ⟨a21, e22, h⟩ := h
      subst e22
      replace h := zbE h
      obtain ⟨l23, e24, h⟩ := h
      refine j_lald rfl e24 dL_law_1360 ?_
      refine j_iload (j := 0) dL_law_1361 rfl ?_
      refine j_i2l dL_law_1363 ?_
      refine j_lcmp dL_law_1364 ?_
      refine j_if_eq (tgt := 1370) dL_law_1365 (by decide) (fun c25 => ?_) (fun c25 => ?_)
      · rw [if_pos c25] at h
        exact J.sub (zall [2, 3, 4, 5, 6] rfl) (wfL_law_1370 hd (some a1) x1 (some a10) (some a21) x4  G15 h hk)
      · rw [if_neg c25] at h
        replace h := zoE h
        obtain ⟨a, h, rfl⟩ := h
        replace hk := hk
        refine j_iconst (v := 0) dL_law_1368 (by decide) ?_
        replace h := zcondE h
        obtain ⟨e26, h⟩ := h
        obtain rfl := Option.some.inj h
        exact j_zret hk.1 hk.2 rfl (zbb_n e26) dL_law_1369
    · rw [if_neg c20] at h
      exact J.sub (zall [2, 3, 4, 5, 6] rfl) (wfL_law_1370 hd (some a1) x1 (some a10) x3 x4  G15 h hk)
  · rw [if_neg c19] at h
    replace h := zoE h
    obtain ⟨a, h, rfl⟩ := h
    replace hk := hk
    refine j_iconst (v := 0) dL_law_1351 (by decide) ?_
    replace h := zcondE h
    obtain ⟨e27, h⟩ := h
    obtain rfl := Option.some.inj h
    exact j_zret hk.1 hk.2 rfl (zbb_n e27) dL_law_1352
def fL_law_1314 (x0 : Option Nat) (x1 : Option Nat) (x2 : Option Nat) (x3 : Option Nat) (x4 : Int32)  (G : GS) : Option ((Int32 × GS) ⊕ ((Int32) × GS)) :=
  fL_law_1954 x0 x1 x2 x3 x4 G
theorem wfL_law_1314 {F : zF} (hd : 904 ≤ F.2.2.2) (x0 : Option Nat) (x1 : Option Nat) (x2 : Option Nat) (x3 : Option Nat) (x4 : Int32)  (G : GS) {a : (Int32 × GS) ⊕ ((Int32) × GS)} (h : fL_law_1314 x0 x1 x2 x3 x4  G = some a) (hk : (zcase (fun s : Int32 × GS => J mL_law F s.2 23 [(0, vR x0), (1, vR x1), (2, vR x2), (3, vR x3), (4, vI s.1)] []) (zKI F)) a) : J mL_law F G 1314 [(0, vR x0), (1, vR x1), (2, vR x2), (3, vR x3), (4, vI x4)] [] := by
  unfold fL_law_1314 at h
  refine j_goto (tgt := 1954) dL_law_1314 (by decide) ?_
  exact J.sub (zall [0, 1, 2, 3, 4] rfl) (wfL_law_1954 hd x0 x1 x2 x3 x4  G h hk)
def fL_law_1273 (x0 : Option Nat) (x1 : Option Nat) (x2 : Option Nat) (x3 : Option Nat) (x4 : Int32)  (G : GS) : Option ((Int32 × GS) ⊕ ((Int32) × GS)) :=
  zb2 (fX0_factorOut_0 x1 x3 G) fun v2 G3 => x2.bind fun a4 => zk [2] G3 a4 <| zb2 (fX2_factorOut_0 a4 G3) fun v8 G9 => zk [2] G9 a4 <| (fX2_thrown_0 a4 G9).bind fun v12 => if v12 = v2 then (if v2 = 0 then (x3.bind fun a15 => (zaL G9 51 a15 (0 : Int32)).bind fun l17 => if (lg_cmp l17 v8.toInt64) = 0 then (fL_law_1314 x0 x1 (some a4) (some a15) x4 G9) else (zo (zcond (zbb 0) (some (0, G9))))) else (fL_law_1314 x0 x1 (some a4) x3 x4 G9)) else (zo (zcond (zbb 0) (some (0, G9))))
theorem wfL_law_1273 {F : zF} (hd : 904 ≤ F.2.2.2) (x0 : Option Nat) (x1 : Option Nat) (x2 : Option Nat) (x3 : Option Nat) (x4 : Int32)  (G : GS) {a : (Int32 × GS) ⊕ ((Int32) × GS)} (h : fL_law_1273 x0 x1 x2 x3 x4  G = some a) (hk : (zcase (fun s : Int32 × GS => J mL_law F s.2 23 [(0, vR x0), (1, vR x1), (2, vR x2), (3, vR x3), (4, vI s.1)] []) (zKI F)) a) : J mL_law F G 1273 [(0, vR x0), (1, vR x1), (2, vR x2), (3, vR x3), (4, vI x4)] [] := by
  unfold fL_law_1273 at h
  refine j_aload_n (j := 1) dL_law_1273 rfl rfl ?_
  refine j_aload_n (j := 3) dL_law_1274 rfl rfl ?_
  replace h := zb2E h
  obtain ⟨v2, G3, e1, h⟩ := h
  refine j_cont (zrSW (As := [vR x1, vR x3]) msX0_182 (yX0_factorOut_ok e1) (Nat.le_trans (Nat.le_of_ble_eq_true rfl) hd) rfl rfl (Nat.le_of_ble_eq_true rfl) dL_law_1275) ?_
  refine j_istore (lv' := [(5, vI v2), (0, vR x0), (1, vR x1), (2, vR x2), (3, vR x3), (4, vI x4)]) dL_law_1278 (Nat.le_of_ble_eq_true rfl) rfl ?_
  refine j_aload_n (j := 3) dL_law_1280 rfl rfl ?_
  replace h := zbE h
  obtain ⟨a4, e5, h⟩ := h
  subst e5
  replace h := zkE h
  obtain ⟨e6, h⟩ := h
  replace h := zb2E h
  obtain ⟨v8, G9, e7, h⟩ := h
  refine j_cont (zrV (As := []) msX0_184 (yX2_factorOut_ok e7) (Nat.le_trans (Nat.le_of_ble_eq_true rfl) hd) (zk_2 _ e6) rfl rfl (Nat.le_of_ble_eq_true rfl) dL_law_1281) ?_
  refine j_istore (lv' := [(6, vI v8), (5, vI v2), (0, vR x0), (1, vR x1), (2, vR (some a4)), (3, vR x3), (4, vI x4)]) dL_law_1284 (Nat.le_of_ble_eq_true rfl) rfl ?_
  refine j_aload_n (j := 4) dL_law_1286 rfl rfl ?_
  replace h := zkE h
  obtain ⟨e10, h⟩ := h
  replace h := zbE h
  obtain ⟨v12, e11, h⟩ := h
  refine j_cont (zrV (As := []) msX0_102 (yX2_thrown_ok e11) (Nat.le_trans (Nat.le_of_ble_eq_true rfl) hd) (zk_2 _ e10) rfl rfl (Nat.le_of_ble_eq_true rfl) dL_law_1287) ?_
  refine j_iload (j := 1) dL_law_1290 rfl ?_
  refine j_icmp_eq (tgt := 1297) dL_law_1292 (by decide) (fun c13 => ?_) (fun c13 => ?_)
  · rw [if_pos c13] at h
    refine j_iload (j := 1) dL_law_1297 rfl ?_
    refine j_if_ne (tgt := 1314) dL_law_1299 (by decide) (fun c14 => ?_) (fun c14 => ?_)
    · rw [if_pos c14] at h
      refine j_aload_n (j := 5) dL_law_1302 rfl rfl ?_
      refine j_iconst (v := 0) dL_law_1303 (by decide) ?_
      replace h := zbE h
      obtain ⟨a15, e16, h⟩ := h
      subst e16
      replace h := zbE h
      obtain ⟨l17, e18, h⟩ := h
      refine j_lald rfl e18 dL_law_1304 ?_
      refine j_iload (j := 0) dL_law_1305 rfl ?_
      refine j_i2l dL_law_1307 ?_
      refine j_lcmp dL_law_1308 ?_
      refine j_if_eq (tgt := 1314) dL_law_1309 (by decide) (fun c19 => ?_) (fun c19 => ?_)
      · rw [if_pos c19] at h
        exact J.sub (zall [2, 3, 4, 5, 6] rfl) (wfL_law_1314 hd x0 x1 (some a4) (some a15) x4  G9 h hk)
      · rw [if_neg c19] at h
        replace h := zoE h
        obtain ⟨a, h, rfl⟩ := h
        replace hk := hk
        refine j_iconst (v := 0) dL_law_1312 (by decide) ?_
        replace h := zcondE h
        obtain ⟨e20, h⟩ := h
        obtain rfl := Option.some.inj h
        exact j_zret hk.1 hk.2 rfl (zbb_n e20) dL_law_1313
    · rw [if_neg c14] at h
      exact J.sub (zall [2, 3, 4, 5, 6] rfl) (wfL_law_1314 hd x0 x1 (some a4) x3 x4  G9 h hk)
  · rw [if_neg c13] at h
    replace h := zoE h
    obtain ⟨a, h, rfl⟩ := h
    replace hk := hk
    refine j_iconst (v := 0) dL_law_1295 (by decide) ?_
    replace h := zcondE h
    obtain ⟨e21, h⟩ := h
    obtain rfl := Option.some.inj h
    exact j_zret hk.1 hk.2 rfl (zbb_n e21) dL_law_1296
def fL_law_1270 (x0 : Option Nat) (x1 : Option Nat) (x2 : Option Nat) (x3 : Option Nat) (x4 : Int32)  (G : GS) : Option ((Int32 × GS) ⊕ ((Int32) × GS)) :=
  fL_law_1954 x0 x1 x2 x3 x4 G
theorem wfL_law_1270 {F : zF} (hd : 904 ≤ F.2.2.2) (x0 : Option Nat) (x1 : Option Nat) (x2 : Option Nat) (x3 : Option Nat) (x4 : Int32)  (G : GS) {a : (Int32 × GS) ⊕ ((Int32) × GS)} (h : fL_law_1270 x0 x1 x2 x3 x4  G = some a) (hk : (zcase (fun s : Int32 × GS => J mL_law F s.2 23 [(0, vR x0), (1, vR x1), (2, vR x2), (3, vR x3), (4, vI s.1)] []) (zKI F)) a) : J mL_law F G 1270 [(0, vR x0), (1, vR x1), (2, vR x2), (3, vR x3), (4, vI x4)] [] := by
  unfold fL_law_1270 at h
  refine j_goto (tgt := 1954) dL_law_1270 (by decide) ?_
  exact J.sub (zall [0, 1, 2, 3, 4] rfl) (wfL_law_1954 hd x0 x1 x2 x3 x4  G h hk)
def fL_law_1229 (x0 : Option Nat) (x1 : Option Nat) (x2 : Option Nat) (x3 : Option Nat) (x4 : Int32)  (G : GS) : Option ((Int32 × GS) ⊕ ((Int32) × GS)) :=
  zb2 (fX0_removeLeftRecursion_0 x1 x3 G) fun v2 G3 => x2.bind fun a4 => zk [2] G3 a4 <| zb2 (fX2_removeLeftRecursion_0 a4 G3) fun v8 G9 => zk [2] G9 a4 <| (fX2_thrown_0 a4 G9).bind fun v12 => if v12 = v2 then (if v2 = 0 then (x3.bind fun a15 => (zaL G9 51 a15 (0 : Int32)).bind fun l17 => if (lg_cmp l17 v8.toInt64) = 0 then (fL_law_1270 x0 x1 (some a4) (some a15) x4 G9) else (zo (zcond (zbb 0) (some (0, G9))))) else (fL_law_1270 x0 x1 (some a4) x3 x4 G9)) else (zo (zcond (zbb 0) (some (0, G9))))
theorem wfL_law_1229 {F : zF} (hd : 904 ≤ F.2.2.2) (x0 : Option Nat) (x1 : Option Nat) (x2 : Option Nat) (x3 : Option Nat) (x4 : Int32)  (G : GS) {a : (Int32 × GS) ⊕ ((Int32) × GS)} (h : fL_law_1229 x0 x1 x2 x3 x4  G = some a) (hk : (zcase (fun s : Int32 × GS => J mL_law F s.2 23 [(0, vR x0), (1, vR x1), (2, vR x2), (3, vR x3), (4, vI s.1)] []) (zKI F)) a) : J mL_law F G 1229 [(0, vR x0), (1, vR x1), (2, vR x2), (3, vR x3), (4, vI x4)] [] := by
  unfold fL_law_1229 at h
  refine j_aload_n (j := 1) dL_law_1229 rfl rfl ?_
  refine j_aload_n (j := 3) dL_law_1230 rfl rfl ?_
  replace h := zb2E h
  obtain ⟨v2, G3, e1, h⟩ := h
  refine j_cont (zrSW (As := [vR x1, vR x3]) msX0_178 (yX0_removeLeftRecursion_ok e1) (Nat.le_trans (Nat.le_of_ble_eq_true rfl) hd) rfl rfl (Nat.le_of_ble_eq_true rfl) dL_law_1231) ?_
  refine j_istore (lv' := [(5, vI v2), (0, vR x0), (1, vR x1), (2, vR x2), (3, vR x3), (4, vI x4)]) dL_law_1234 (Nat.le_of_ble_eq_true rfl) rfl ?_
  refine j_aload_n (j := 3) dL_law_1236 rfl rfl ?_
  replace h := zbE h
  obtain ⟨a4, e5, h⟩ := h
  subst e5
  replace h := zkE h
  obtain ⟨e6, h⟩ := h
  replace h := zb2E h
  obtain ⟨v8, G9, e7, h⟩ := h
  refine j_cont (zrV (As := []) msX0_181 (yX2_removeLeftRecursion_ok e7) (Nat.le_trans (Nat.le_of_ble_eq_true rfl) hd) (zk_2 _ e6) rfl rfl (Nat.le_of_ble_eq_true rfl) dL_law_1237) ?_
  refine j_istore (lv' := [(6, vI v8), (5, vI v2), (0, vR x0), (1, vR x1), (2, vR (some a4)), (3, vR x3), (4, vI x4)]) dL_law_1240 (Nat.le_of_ble_eq_true rfl) rfl ?_
  refine j_aload_n (j := 4) dL_law_1242 rfl rfl ?_
  replace h := zkE h
  obtain ⟨e10, h⟩ := h
  replace h := zbE h
  obtain ⟨v12, e11, h⟩ := h
  refine j_cont (zrV (As := []) msX0_102 (yX2_thrown_ok e11) (Nat.le_trans (Nat.le_of_ble_eq_true rfl) hd) (zk_2 _ e10) rfl rfl (Nat.le_of_ble_eq_true rfl) dL_law_1243) ?_
  refine j_iload (j := 1) dL_law_1246 rfl ?_
  refine j_icmp_eq (tgt := 1253) dL_law_1248 (by decide) (fun c13 => ?_) (fun c13 => ?_)
  · rw [if_pos c13] at h
    refine j_iload (j := 1) dL_law_1253 rfl ?_
    refine j_if_ne (tgt := 1270) dL_law_1255 (by decide) (fun c14 => ?_) (fun c14 => ?_)
    · rw [if_pos c14] at h
      refine j_aload_n (j := 5) dL_law_1258 rfl rfl ?_
      refine j_iconst (v := 0) dL_law_1259 (by decide) ?_
      replace h := zbE h
      obtain ⟨a15, e16, h⟩ := h
      subst e16
      replace h := zbE h
      obtain ⟨l17, e18, h⟩ := h
      refine j_lald rfl e18 dL_law_1260 ?_
      refine j_iload (j := 0) dL_law_1261 rfl ?_
      refine j_i2l dL_law_1263 ?_
      refine j_lcmp dL_law_1264 ?_
      refine j_if_eq (tgt := 1270) dL_law_1265 (by decide) (fun c19 => ?_) (fun c19 => ?_)
      · rw [if_pos c19] at h
        exact J.sub (zall [2, 3, 4, 5, 6] rfl) (wfL_law_1270 hd x0 x1 (some a4) (some a15) x4  G9 h hk)
      · rw [if_neg c19] at h
        replace h := zoE h
        obtain ⟨a, h, rfl⟩ := h
        replace hk := hk
        refine j_iconst (v := 0) dL_law_1268 (by decide) ?_
        replace h := zcondE h
        obtain ⟨e20, h⟩ := h
        obtain rfl := Option.some.inj h
        exact j_zret hk.1 hk.2 rfl (zbb_n e20) dL_law_1269
    · rw [if_neg c14] at h
      exact J.sub (zall [2, 3, 4, 5, 6] rfl) (wfL_law_1270 hd x0 x1 (some a4) x3 x4  G9 h hk)
  · rw [if_neg c13] at h
    replace h := zoE h
    obtain ⟨a, h, rfl⟩ := h
    replace hk := hk
    refine j_iconst (v := 0) dL_law_1251 (by decide) ?_
    replace h := zcondE h
    obtain ⟨e21, h⟩ := h
    obtain rfl := Option.some.inj h
    exact j_zret hk.1 hk.2 rfl (zbb_n e21) dL_law_1252
def fL_law_1226 (x0 : Option Nat) (x1 : Option Nat) (x2 : Option Nat) (x3 : Option Nat) (x4 : Int32)  (G : GS) : Option ((Int32 × GS) ⊕ ((Int32) × GS)) :=
  fL_law_1954 x0 x1 x2 x3 x4 G
theorem wfL_law_1226 {F : zF} (hd : 904 ≤ F.2.2.2) (x0 : Option Nat) (x1 : Option Nat) (x2 : Option Nat) (x3 : Option Nat) (x4 : Int32)  (G : GS) {a : (Int32 × GS) ⊕ ((Int32) × GS)} (h : fL_law_1226 x0 x1 x2 x3 x4  G = some a) (hk : (zcase (fun s : Int32 × GS => J mL_law F s.2 23 [(0, vR x0), (1, vR x1), (2, vR x2), (3, vR x3), (4, vI s.1)] []) (zKI F)) a) : J mL_law F G 1226 [(0, vR x0), (1, vR x1), (2, vR x2), (3, vR x3), (4, vI x4)] [] := by
  unfold fL_law_1226 at h
  refine j_goto (tgt := 1954) dL_law_1226 (by decide) ?_
  exact J.sub (zall [0, 1, 2, 3, 4] rfl) (wfL_law_1954 hd x0 x1 x2 x3 x4  G h hk)
def fL_law_1220 (x0 : Option Nat) (x1 : Option Nat) (x2 : Option Nat) (x3 : Option Nat) (x4 : Int32) (s0 : Int64) (s1 : Int64) (G : GS) : Option ((Int32 × GS) ⊕ ((Int32) × GS)) :=
  if (lg_cmp s0 s1) = 0 then (fL_law_1226 x0 x1 x2 x3 x4 G) else (zo (zcond (zbb 0) (some (0, G))))
theorem wfL_law_1220 {F : zF} (hd : 904 ≤ F.2.2.2) (x0 : Option Nat) (x1 : Option Nat) (x2 : Option Nat) (x3 : Option Nat) (x4 : Int32) (s0 : Int64) (s1 : Int64) (G : GS) {a : (Int32 × GS) ⊕ ((Int32) × GS)} (h : fL_law_1220 x0 x1 x2 x3 x4 s0 s1 G = some a) (hk : (zcase (fun s : Int32 × GS => J mL_law F s.2 23 [(0, vR x0), (1, vR x1), (2, vR x2), (3, vR x3), (4, vI s.1)] []) (zKI F)) a) : J mL_law F G 1220 [(0, vR x0), (1, vR x1), (2, vR x2), (3, vR x3), (4, vI x4)] [vL s1, vL s0] := by
  unfold fL_law_1220 at h
  refine j_lcmp dL_law_1220 ?_
  refine j_if_eq (tgt := 1226) dL_law_1221 (by decide) (fun c1 => ?_) (fun c1 => ?_)
  · rw [if_pos c1] at h
    exact J.sub (zall [0, 1, 2, 3, 4] rfl) (wfL_law_1226 hd x0 x1 x2 x3 x4  G h hk)
  · rw [if_neg c1] at h
    replace h := zoE h
    obtain ⟨a, h, rfl⟩ := h
    replace hk := hk
    refine j_iconst (v := 0) dL_law_1224 (by decide) ?_
    replace h := zcondE h
    obtain ⟨e2, h⟩ := h
    obtain rfl := Option.some.inj h
    exact j_zret hk.1 hk.2 rfl (zbb_n e2) dL_law_1225
def fL_law_1166 (x0 : Option Nat) (x1 : Option Nat) (x2 : Option Nat) (x3 : Option Nat) (x4 : Int32)  (G : GS) : Option ((Int32 × GS) ⊕ ((Int32) × GS)) :=
  x0.bind fun a1 => (zaI G 60 a1 (x4 + 1)).bind fun v3 => zb2 (fX0_isLeftRecursive_0 x1 v3 x3 G) fun v6 G7 => (zaI G7 60 a1 (x4 + 1)).bind fun v8 => x2.bind fun a10 => zk [2] G7 a10 <| zb2 (fX2_isLeftRecursive_0 a10 v8 G7) fun v14 G15 => zk [2] G15 a10 <| (fX2_thrown_0 a10 G15).bind fun v18 => if v18 = v6 then (if v6 = 0 then (x3.bind fun a21 => (zaL G15 51 a21 (0 : Int32)).bind fun l23 => if v14 = 0 then (fL_law_1220 (some a1) x1 (some a10) (some a21) x4 l23 0 G15) else (fL_law_1220 (some a1) x1 (some a10) (some a21) x4 l23 1 G15)) else (fL_law_1226 (some a1) x1 (some a10) x3 x4 G15)) else (zo (zcond (zbb 0) (some (0, G15))))
theorem wfL_law_1166 {F : zF} (hd : 904 ≤ F.2.2.2) (x0 : Option Nat) (x1 : Option Nat) (x2 : Option Nat) (x3 : Option Nat) (x4 : Int32)  (G : GS) {a : (Int32 × GS) ⊕ ((Int32) × GS)} (h : fL_law_1166 x0 x1 x2 x3 x4  G = some a) (hk : (zcase (fun s : Int32 × GS => J mL_law F s.2 23 [(0, vR x0), (1, vR x1), (2, vR x2), (3, vR x3), (4, vI s.1)] []) (zKI F)) a) : J mL_law F G 1166 [(0, vR x0), (1, vR x1), (2, vR x2), (3, vR x3), (4, vI x4)] [] := by
  unfold fL_law_1166 at h
  refine j_aload_n (j := 1) dL_law_1166 rfl rfl ?_
  refine j_aload_n (j := 0) dL_law_1167 rfl rfl ?_
  refine j_iload (j := 4) dL_law_1168 rfl ?_
  refine j_iconst (v := 1) dL_law_1170 (by decide) ?_
  refine j_iadd dL_law_1171 ?_
  replace h := zbE h
  obtain ⟨a1, e2, h⟩ := h
  subst e2
  replace h := zbE h
  obtain ⟨v3, e4, h⟩ := h
  refine j_iald (Or.inr rfl) e4 dL_law_1172 ?_
  refine j_aload_n (j := 3) dL_law_1173 rfl rfl ?_
  replace h := zb2E h
  obtain ⟨v6, G7, e5, h⟩ := h
  refine j_cont (zrSW (As := [vR x1, vI v3, vR x3]) msX0_175 (yX0_isLeftRecursive_ok e5) (Nat.le_trans (Nat.le_of_ble_eq_true rfl) hd) rfl rfl (Nat.le_of_ble_eq_true rfl) dL_law_1174) ?_
  refine j_istore (lv' := [(5, vI v6), (0, vR (some a1)), (1, vR x1), (2, vR x2), (3, vR x3), (4, vI x4)]) dL_law_1177 (Nat.le_of_ble_eq_true rfl) rfl ?_
  refine j_aload_n (j := 3) dL_law_1179 rfl rfl ?_
  refine j_aload_n (j := 1) dL_law_1180 rfl rfl ?_
  refine j_iload (j := 5) dL_law_1181 rfl ?_
  refine j_iconst (v := 1) dL_law_1183 (by decide) ?_
  refine j_iadd dL_law_1184 ?_
  replace h := zbE h
  obtain ⟨v8, e9, h⟩ := h
  refine j_iald (Or.inr rfl) e9 dL_law_1185 ?_
  replace h := zbE h
  obtain ⟨a10, e11, h⟩ := h
  subst e11
  replace h := zkE h
  obtain ⟨e12, h⟩ := h
  replace h := zb2E h
  obtain ⟨v14, G15, e13, h⟩ := h
  refine j_cont (zrV (As := [vI v8]) msX0_177 (yX2_isLeftRecursive_ok e13) (Nat.le_trans (Nat.le_of_ble_eq_true rfl) hd) (zk_2 _ e12) rfl rfl (Nat.le_of_ble_eq_true rfl) dL_law_1186) ?_
  refine j_istore (lv' := [(6, vI v14), (5, vI v6), (0, vR (some a1)), (1, vR x1), (2, vR (some a10)), (3, vR x3), (4, vI x4)]) dL_law_1189 (Nat.le_of_ble_eq_true rfl) rfl ?_
  refine j_aload_n (j := 4) dL_law_1191 rfl rfl ?_
  replace h := zkE h
  obtain ⟨e16, h⟩ := h
  replace h := zbE h
  obtain ⟨v18, e17, h⟩ := h
  refine j_cont (zrV (As := []) msX0_102 (yX2_thrown_ok e17) (Nat.le_trans (Nat.le_of_ble_eq_true rfl) hd) (zk_2 _ e16) rfl rfl (Nat.le_of_ble_eq_true rfl) dL_law_1192) ?_
  refine j_iload (j := 1) dL_law_1195 rfl ?_
  refine j_icmp_eq (tgt := 1202) dL_law_1197 (by decide) (fun c19 => ?_) (fun c19 => ?_)
  · rw [if_pos c19] at h
    refine j_iload (j := 1) dL_law_1202 rfl ?_
    refine j_if_ne (tgt := 1226) dL_law_1204 (by decide) (fun c20 => ?_) (fun c20 => ?_)
    · rw [if_pos c20] at h
      refine j_aload_n (j := 5) dL_law_1207 rfl rfl ?_
      refine j_iconst (v := 0) dL_law_1208 (by decide) ?_
      replace h := zbE h
      obtain ⟨a21, e22, h⟩ := h
      subst e22
      replace h := zbE h
      obtain ⟨l23, e24, h⟩ := h
      refine j_lald rfl e24 dL_law_1209 ?_
      refine j_iload (j := 0) dL_law_1210 rfl ?_
      refine j_if_eq (tgt := 1219) dL_law_1212 (by decide) (fun c25 => ?_) (fun c25 => ?_)
      · rw [if_pos c25] at h
        refine j_lconst (v := 0) dL_law_1219 rfl ?_
        exact J.sub (zall [2, 3, 4, 5, 6] rfl) (wfL_law_1220 hd (some a1) x1 (some a10) (some a21) x4 l23 0 G15 h hk)
      · rw [if_neg c25] at h
        refine j_lconst (v := 1) dL_law_1215 rfl ?_
        refine j_goto (tgt := 1220) dL_law_1216 (by decide) ?_
        exact J.sub (zall [2, 3, 4, 5, 6] rfl) (wfL_law_1220 hd (some a1) x1 (some a10) (some a21) x4 l23 1 G15 h hk)
    · rw [if_neg c20] at h
      exact J.sub (zall [2, 3, 4, 5, 6] rfl) (wfL_law_1226 hd (some a1) x1 (some a10) x3 x4  G15 h hk)
  · rw [if_neg c19] at h
    replace h := zoE h
    obtain ⟨a, h, rfl⟩ := h
    replace hk := hk
    refine j_iconst (v := 0) dL_law_1200 (by decide) ?_
    replace h := zcondE h
    obtain ⟨e26, h⟩ := h
    obtain rfl := Option.some.inj h
    exact j_zret hk.1 hk.2 rfl (zbb_n e26) dL_law_1201
def fL_law_1153 (x0 : Option Nat) (x1 : Option Nat) (x2 : Option Nat) (x3 : Option Nat) (x4 : Int32)  (G : GS) : Option ((Int32 × GS) ⊕ ((Int32) × GS)) :=
  x1.bind fun a1 => zk [1] G a1 <| zb2 (fX1_isStrongLL2_0 a1 G) fun v5 G6 => x2.bind fun a7 => zk [2] G6 a7 <| zb2 (fX2_isStrongLL2_0 a7 G6) fun v11 G12 => if v5 = v11 then (fL_law_1954 x0 (some a1) (some a7) x3 x4 G12) else (zo (zcond (zbb 0) (some (0, G12))))
theorem wfL_law_1153 {F : zF} (hd : 904 ≤ F.2.2.2) (x0 : Option Nat) (x1 : Option Nat) (x2 : Option Nat) (x3 : Option Nat) (x4 : Int32)  (G : GS) {a : (Int32 × GS) ⊕ ((Int32) × GS)} (h : fL_law_1153 x0 x1 x2 x3 x4  G = some a) (hk : (zcase (fun s : Int32 × GS => J mL_law F s.2 23 [(0, vR x0), (1, vR x1), (2, vR x2), (3, vR x3), (4, vI s.1)] []) (zKI F)) a) : J mL_law F G 1153 [(0, vR x0), (1, vR x1), (2, vR x2), (3, vR x3), (4, vI x4)] [] := by
  unfold fL_law_1153 at h
  refine j_aload_n (j := 1) dL_law_1153 rfl rfl ?_
  replace h := zbE h
  obtain ⟨a1, e2, h⟩ := h
  subst e2
  replace h := zkE h
  obtain ⟨e3, h⟩ := h
  replace h := zb2E h
  obtain ⟨v5, G6, e4, h⟩ := h
  refine j_cont (zrV (As := []) msX0_171 (yX1_isStrongLL2_ok e4) (Nat.le_trans (Nat.le_of_ble_eq_true rfl) hd) (zk_1 _ e3) rfl rfl (Nat.le_of_ble_eq_true rfl) dL_law_1154) ?_
  refine j_aload_n (j := 2) dL_law_1157 rfl rfl ?_
  replace h := zbE h
  obtain ⟨a7, e8, h⟩ := h
  subst e8
  replace h := zkE h
  obtain ⟨e9, h⟩ := h
  replace h := zb2E h
  obtain ⟨v11, G12, e10, h⟩ := h
  refine j_cont (zrV (As := []) msX0_174 (yX2_isStrongLL2_ok e10) (Nat.le_trans (Nat.le_of_ble_eq_true rfl) hd) (zk_2 _ e9) rfl rfl (Nat.le_of_ble_eq_true rfl) dL_law_1158) ?_
  refine j_icmp_eq (tgt := 1954) dL_law_1161 (by decide) (fun c13 => ?_) (fun c13 => ?_)
  · rw [if_pos c13] at h
    exact J.sub (zall [0, 1, 2, 3, 4] rfl) (wfL_law_1954 hd x0 (some a1) (some a7) x3 x4  G12 h hk)
  · rw [if_neg c13] at h
    replace h := zoE h
    obtain ⟨a, h, rfl⟩ := h
    replace hk := hk
    refine j_iconst (v := 0) dL_law_1164 (by decide) ?_
    replace h := zcondE h
    obtain ⟨e14, h⟩ := h
    obtain rfl := Option.some.inj h
    exact j_zret hk.1 hk.2 rfl (zbb_n e14) dL_law_1165
def fL_law_1140 (x0 : Option Nat) (x1 : Option Nat) (x2 : Option Nat) (x3 : Option Nat) (x4 : Int32)  (G : GS) : Option ((Int32 × GS) ⊕ ((Int32) × GS)) :=
  x1.bind fun a1 => zk [1] G a1 <| zb2 (fX1_pairConflicts_0 a1 G) fun v5 G6 => x2.bind fun a7 => zk [2] G6 a7 <| zb2 (fX2_pairConflicts_0 a7 G6) fun v11 G12 => if v5 = v11 then (fL_law_1954 x0 (some a1) (some a7) x3 x4 G12) else (zo (zcond (zbb 0) (some (0, G12))))
theorem wfL_law_1140 {F : zF} (hd : 904 ≤ F.2.2.2) (x0 : Option Nat) (x1 : Option Nat) (x2 : Option Nat) (x3 : Option Nat) (x4 : Int32)  (G : GS) {a : (Int32 × GS) ⊕ ((Int32) × GS)} (h : fL_law_1140 x0 x1 x2 x3 x4  G = some a) (hk : (zcase (fun s : Int32 × GS => J mL_law F s.2 23 [(0, vR x0), (1, vR x1), (2, vR x2), (3, vR x3), (4, vI s.1)] []) (zKI F)) a) : J mL_law F G 1140 [(0, vR x0), (1, vR x1), (2, vR x2), (3, vR x3), (4, vI x4)] [] := by
  unfold fL_law_1140 at h
  refine j_aload_n (j := 1) dL_law_1140 rfl rfl ?_
  replace h := zbE h
  obtain ⟨a1, e2, h⟩ := h
  subst e2
  replace h := zkE h
  obtain ⟨e3, h⟩ := h
  replace h := zb2E h
  obtain ⟨v5, G6, e4, h⟩ := h
  refine j_cont (zrV (As := []) msX0_167 (yX1_pairConflicts_ok e4) (Nat.le_trans (Nat.le_of_ble_eq_true rfl) hd) (zk_1 _ e3) rfl rfl (Nat.le_of_ble_eq_true rfl) dL_law_1141) ?_
  refine j_aload_n (j := 2) dL_law_1144 rfl rfl ?_
  replace h := zbE h
  obtain ⟨a7, e8, h⟩ := h
  subst e8
  replace h := zkE h
  obtain ⟨e9, h⟩ := h
  replace h := zb2E h
  obtain ⟨v11, G12, e10, h⟩ := h
  refine j_cont (zrV (As := []) msX0_170 (yX2_pairConflicts_ok e10) (Nat.le_trans (Nat.le_of_ble_eq_true rfl) hd) (zk_2 _ e9) rfl rfl (Nat.le_of_ble_eq_true rfl) dL_law_1145) ?_
  refine j_icmp_eq (tgt := 1954) dL_law_1148 (by decide) (fun c13 => ?_) (fun c13 => ?_)
  · rw [if_pos c13] at h
    exact J.sub (zall [0, 1, 2, 3, 4] rfl) (wfL_law_1954 hd x0 (some a1) (some a7) x3 x4  G12 h hk)
  · rw [if_neg c13] at h
    replace h := zoE h
    obtain ⟨a, h, rfl⟩ := h
    replace hk := hk
    refine j_iconst (v := 0) dL_law_1151 (by decide) ?_
    replace h := zcondE h
    obtain ⟨e14, h⟩ := h
    obtain rfl := Option.some.inj h
    exact j_zret hk.1 hk.2 rfl (zbb_n e14) dL_law_1152
def fL_law_1137 (x0 : Option Nat) (x1 : Option Nat) (x2 : Option Nat) (x3 : Option Nat) (x4 : Int32)  (G : GS) : Option ((Int32 × GS) ⊕ ((Int32) × GS)) :=
  fL_law_1954 x0 x1 x2 x3 x4 G
theorem wfL_law_1137 {F : zF} (hd : 904 ≤ F.2.2.2) (x0 : Option Nat) (x1 : Option Nat) (x2 : Option Nat) (x3 : Option Nat) (x4 : Int32)  (G : GS) {a : (Int32 × GS) ⊕ ((Int32) × GS)} (h : fL_law_1137 x0 x1 x2 x3 x4  G = some a) (hk : (zcase (fun s : Int32 × GS => J mL_law F s.2 23 [(0, vR x0), (1, vR x1), (2, vR x2), (3, vR x3), (4, vI s.1)] []) (zKI F)) a) : J mL_law F G 1137 [(0, vR x0), (1, vR x1), (2, vR x2), (3, vR x3), (4, vI x4)] [] := by
  unfold fL_law_1137 at h
  refine j_goto (tgt := 1954) dL_law_1137 (by decide) ?_
  exact J.sub (zall [0, 1, 2, 3, 4] rfl) (wfL_law_1954 hd x0 x1 x2 x3 x4  G h hk)
def fL_law_1060 (x0 : Option Nat) (x1 : Option Nat) (x2 : Option Nat) (x3 : Option Nat) (x4 : Int32)  (G : GS) : Option ((Int32 × GS) ⊕ ((Int32) × GS)) :=
  x0.bind fun a1 => (zaI G 60 a1 (x4 + 1)).bind fun v3 => (zaI G 60 a1 (x4 + 2)).bind fun v5 => (zaI G 60 a1 (x4 + 3)).bind fun v7 => zb2 (fX0_predictedByPair_0 x1 v3 v5 v7 x3 G) fun v10 G11 => (zaI G11 60 a1 (x4 + 1)).bind fun v12 => (zaI G11 60 a1 (x4 + 2)).bind fun v14 => (zaI G11 60 a1 (x4 + 3)).bind fun v16 => x2.bind fun a18 => zk [2] G11 a18 <| zb2 (fX2_predictedByPair_0 a18 v12 v14 v16 G11) fun v22 G23 => zk [2] G23 a18 <| (fX2_thrown_0 a18 G23).bind fun v26 => if v26 = v10 then (if v10 = 0 then (x3.bind fun a29 => (zaL G23 51 a29 (0 : Int32)).bind fun l31 => if (lg_cmp l31 v22.toInt64) = 0 then (fL_law_1137 (some a1) x1 (some a18) (some a29) x4 G23) else (zo (zcond (zbb 0) (some (0, G23))))) else (fL_law_1137 (some a1) x1 (some a18) x3 x4 G23)) else (zo (zcond (zbb 0) (some (0, G23))))
theorem wfL_law_1060 {F : zF} (hd : 904 ≤ F.2.2.2) (x0 : Option Nat) (x1 : Option Nat) (x2 : Option Nat) (x3 : Option Nat) (x4 : Int32)  (G : GS) {a : (Int32 × GS) ⊕ ((Int32) × GS)} (h : fL_law_1060 x0 x1 x2 x3 x4  G = some a) (hk : (zcase (fun s : Int32 × GS => J mL_law F s.2 23 [(0, vR x0), (1, vR x1), (2, vR x2), (3, vR x3), (4, vI s.1)] []) (zKI F)) a) : J mL_law F G 1060 [(0, vR x0), (1, vR x1), (2, vR x2), (3, vR x3), (4, vI x4)] [] := by
  unfold fL_law_1060 at h
  refine j_aload_n (j := 1) dL_law_1060 rfl rfl ?_
  refine j_aload_n (j := 0) dL_law_1061 rfl rfl ?_
  refine j_iload (j := 4) dL_law_1062 rfl ?_
  refine j_iconst (v := 1) dL_law_1064 (by decide) ?_
  refine j_iadd dL_law_1065 ?_
  replace h := zbE h
  obtain ⟨a1, e2, h⟩ := h
  subst e2
  replace h := zbE h
  obtain ⟨v3, e4, h⟩ := h
  refine j_iald (Or.inr rfl) e4 dL_law_1066 ?_
  refine j_aload_n (j := 0) dL_law_1067 rfl rfl ?_
  refine j_iload (j := 4) dL_law_1068 rfl ?_
  refine j_iconst (v := 2) dL_law_1070 (by decide) ?_
  refine j_iadd dL_law_1071 ?_
  replace h := zbE h
  obtain ⟨v5, e6, h⟩ := h
  refine j_iald (Or.inr rfl) e6 dL_law_1072 ?_
  refine j_aload_n (j := 0) dL_law_1073 rfl rfl ?_
  refine j_iload (j := 4) dL_law_1074 rfl ?_
  refine j_iconst (v := 3) dL_law_1076 (by decide) ?_
  refine j_iadd dL_law_1077 ?_
  replace h := zbE h
  obtain ⟨v7, e8, h⟩ := h
  refine j_iald (Or.inr rfl) e8 dL_law_1078 ?_
  refine j_aload_n (j := 3) dL_law_1079 rfl rfl ?_
  replace h := zb2E h
  obtain ⟨v10, G11, e9, h⟩ := h
  refine j_cont (zrSW (As := [vR x1, vI v3, vI v5, vI v7, vR x3]) msX0_163 (yX0_predictedByPair_ok e9) (Nat.le_trans (Nat.le_of_ble_eq_true rfl) hd) rfl rfl (Nat.le_of_ble_eq_true rfl) dL_law_1080) ?_
  refine j_istore (lv' := [(5, vI v10), (0, vR (some a1)), (1, vR x1), (2, vR x2), (3, vR x3), (4, vI x4)]) dL_law_1083 (Nat.le_of_ble_eq_true rfl) rfl ?_
  refine j_aload_n (j := 3) dL_law_1085 rfl rfl ?_
  refine j_aload_n (j := 1) dL_law_1086 rfl rfl ?_
  refine j_iload (j := 5) dL_law_1087 rfl ?_
  refine j_iconst (v := 1) dL_law_1089 (by decide) ?_
  refine j_iadd dL_law_1090 ?_
  replace h := zbE h
  obtain ⟨v12, e13, h⟩ := h
  refine j_iald (Or.inr rfl) e13 dL_law_1091 ?_
  refine j_aload_n (j := 1) dL_law_1092 rfl rfl ?_
  refine j_iload (j := 5) dL_law_1093 rfl ?_
  refine j_iconst (v := 2) dL_law_1095 (by decide) ?_
  refine j_iadd dL_law_1096 ?_
  replace h := zbE h
  obtain ⟨v14, e15, h⟩ := h
  refine j_iald (Or.inr rfl) e15 dL_law_1097 ?_
  refine j_aload_n (j := 1) dL_law_1098 rfl rfl ?_
  refine j_iload (j := 5) dL_law_1099 rfl ?_
  refine j_iconst (v := 3) dL_law_1101 (by decide) ?_
  refine j_iadd dL_law_1102 ?_
  replace h := zbE h
  obtain ⟨v16, e17, h⟩ := h
  refine j_iald (Or.inr rfl) e17 dL_law_1103 ?_
  replace h := zbE h
  obtain ⟨a18, e19, h⟩ := h
  subst e19
  replace h := zkE h
  obtain ⟨e20, h⟩ := h
  replace h := zb2E h
  obtain ⟨v22, G23, e21, h⟩ := h
  refine j_cont (zrV (As := [vI v12, vI v14, vI v16]) msX0_166 (yX2_predictedByPair_ok e21) (Nat.le_trans (Nat.le_of_ble_eq_true rfl) hd) (zk_2 _ e20) rfl rfl (Nat.le_of_ble_eq_true rfl) dL_law_1104) ?_
  refine j_istore (lv' := [(6, vI v22), (5, vI v10), (0, vR (some a1)), (1, vR x1), (2, vR (some a18)), (3, vR x3), (4, vI x4)]) dL_law_1107 (Nat.le_of_ble_eq_true rfl) rfl ?_
  refine j_aload_n (j := 4) dL_law_1109 rfl rfl ?_
  replace h := zkE h
  obtain ⟨e24, h⟩ := h
  replace h := zbE h
  obtain ⟨v26, e25, h⟩ := h
  refine j_cont (zrV (As := []) msX0_102 (yX2_thrown_ok e25) (Nat.le_trans (Nat.le_of_ble_eq_true rfl) hd) (zk_2 _ e24) rfl rfl (Nat.le_of_ble_eq_true rfl) dL_law_1110) ?_
  refine j_iload (j := 1) dL_law_1113 rfl ?_
  refine j_icmp_eq (tgt := 1120) dL_law_1115 (by decide) (fun c27 => ?_) (fun c27 => ?_)
  · rw [if_pos c27] at h
    refine j_iload (j := 1) dL_law_1120 rfl ?_
    refine j_if_ne (tgt := 1137) dL_law_1122 (by decide) (fun c28 => ?_) (fun c28 => ?_)
    · rw [if_pos c28] at h
      refine j_aload_n (j := 5) dL_law_1125 rfl rfl ?_
      refine j_iconst (v := 0) dL_law_1126 (by decide) ?_
      replace h := zbE h
      obtain ⟨a29, e30, h⟩ := h
      subst e30
      replace h := zbE h
      obtain ⟨l31, e32, h⟩ := h
      refine j_lald rfl e32 dL_law_1127 ?_
      refine j_iload (j := 0) dL_law_1128 rfl ?_
      refine j_i2l dL_law_1130 ?_
      refine j_lcmp dL_law_1131 ?_
      refine j_if_eq (tgt := 1137) dL_law_1132 (by decide) (fun c33 => ?_) (fun c33 => ?_)
      · rw [if_pos c33] at h
        exact J.sub (zall [2, 3, 4, 5, 6] rfl) (wfL_law_1137 hd (some a1) x1 (some a18) (some a29) x4  G23 h hk)
      · rw [if_neg c33] at h
        replace h := zoE h
        obtain ⟨a, h, rfl⟩ := h
        replace hk := hk
        refine j_iconst (v := 0) dL_law_1135 (by decide) ?_
        replace h := zcondE h
        obtain ⟨e34, h⟩ := h
        obtain rfl := Option.some.inj h
        exact j_zret hk.1 hk.2 rfl (zbb_n e34) dL_law_1136
    · rw [if_neg c28] at h
      exact J.sub (zall [2, 3, 4, 5, 6] rfl) (wfL_law_1137 hd (some a1) x1 (some a18) x3 x4  G23 h hk)
  · rw [if_neg c27] at h
    replace h := zoE h
    obtain ⟨a, h, rfl⟩ := h
    replace hk := hk
    refine j_iconst (v := 0) dL_law_1118 (by decide) ?_
    replace h := zcondE h
    obtain ⟨e35, h⟩ := h
    obtain rfl := Option.some.inj h
    exact j_zret hk.1 hk.2 rfl (zbb_n e35) dL_law_1119
def fL_law_1057 (x0 : Option Nat) (x1 : Option Nat) (x2 : Option Nat) (x3 : Option Nat) (x4 : Int32)  (G : GS) : Option ((Int32 × GS) ⊕ ((Int32) × GS)) :=
  fL_law_1954 x0 x1 x2 x3 x4 G
theorem wfL_law_1057 {F : zF} (hd : 904 ≤ F.2.2.2) (x0 : Option Nat) (x1 : Option Nat) (x2 : Option Nat) (x3 : Option Nat) (x4 : Int32)  (G : GS) {a : (Int32 × GS) ⊕ ((Int32) × GS)} (h : fL_law_1057 x0 x1 x2 x3 x4  G = some a) (hk : (zcase (fun s : Int32 × GS => J mL_law F s.2 23 [(0, vR x0), (1, vR x1), (2, vR x2), (3, vR x3), (4, vI s.1)] []) (zKI F)) a) : J mL_law F G 1057 [(0, vR x0), (1, vR x1), (2, vR x2), (3, vR x3), (4, vI x4)] [] := by
  unfold fL_law_1057 at h
  refine j_goto (tgt := 1954) dL_law_1057 (by decide) ?_
  exact J.sub (zall [0, 1, 2, 3, 4] rfl) (wfL_law_1954 hd x0 x1 x2 x3 x4  G h hk)
def fL_law_1004 (x0 : Option Nat) (x1 : Option Nat) (x2 : Option Nat) (x3 : Option Nat) (x4 : Int32)  (G : GS) : Option ((Int32 × GS) ⊕ ((Int32) × GS)) :=
  x0.bind fun a1 => (zaI G 60 a1 (x4 + 1)).bind fun v3 => zb2 (fX0_pairCount_0 x1 v3 x3 G) fun v6 G7 => (zaI G7 60 a1 (x4 + 1)).bind fun v8 => x2.bind fun a10 => zk [2] G7 a10 <| zb2 (fX2_pairCount_0 a10 v8 G7) fun v14 G15 => zk [2] G15 a10 <| (fX2_thrown_0 a10 G15).bind fun v18 => if v18 = v6 then (if v6 = 0 then (x3.bind fun a21 => (zaL G15 51 a21 (0 : Int32)).bind fun l23 => if (lg_cmp l23 v14.toInt64) = 0 then (fL_law_1057 (some a1) x1 (some a10) (some a21) x4 G15) else (zo (zcond (zbb 0) (some (0, G15))))) else (fL_law_1057 (some a1) x1 (some a10) x3 x4 G15)) else (zo (zcond (zbb 0) (some (0, G15))))
theorem wfL_law_1004 {F : zF} (hd : 904 ≤ F.2.2.2) (x0 : Option Nat) (x1 : Option Nat) (x2 : Option Nat) (x3 : Option Nat) (x4 : Int32)  (G : GS) {a : (Int32 × GS) ⊕ ((Int32) × GS)} (h : fL_law_1004 x0 x1 x2 x3 x4  G = some a) (hk : (zcase (fun s : Int32 × GS => J mL_law F s.2 23 [(0, vR x0), (1, vR x1), (2, vR x2), (3, vR x3), (4, vI s.1)] []) (zKI F)) a) : J mL_law F G 1004 [(0, vR x0), (1, vR x1), (2, vR x2), (3, vR x3), (4, vI x4)] [] := by
  unfold fL_law_1004 at h
  refine j_aload_n (j := 1) dL_law_1004 rfl rfl ?_
  refine j_aload_n (j := 0) dL_law_1005 rfl rfl ?_
  refine j_iload (j := 4) dL_law_1006 rfl ?_
  refine j_iconst (v := 1) dL_law_1008 (by decide) ?_
  refine j_iadd dL_law_1009 ?_
  replace h := zbE h
  obtain ⟨a1, e2, h⟩ := h
  subst e2
  replace h := zbE h
  obtain ⟨v3, e4, h⟩ := h
  refine j_iald (Or.inr rfl) e4 dL_law_1010 ?_
  refine j_aload_n (j := 3) dL_law_1011 rfl rfl ?_
  replace h := zb2E h
  obtain ⟨v6, G7, e5, h⟩ := h
  refine j_cont (zrSW (As := [vR x1, vI v3, vR x3]) msX0_160 (yX0_pairCount_ok e5) (Nat.le_trans (Nat.le_of_ble_eq_true rfl) hd) rfl rfl (Nat.le_of_ble_eq_true rfl) dL_law_1012) ?_
  refine j_istore (lv' := [(5, vI v6), (0, vR (some a1)), (1, vR x1), (2, vR x2), (3, vR x3), (4, vI x4)]) dL_law_1015 (Nat.le_of_ble_eq_true rfl) rfl ?_
  refine j_aload_n (j := 3) dL_law_1017 rfl rfl ?_
  refine j_aload_n (j := 1) dL_law_1018 rfl rfl ?_
  refine j_iload (j := 5) dL_law_1019 rfl ?_
  refine j_iconst (v := 1) dL_law_1021 (by decide) ?_
  refine j_iadd dL_law_1022 ?_
  replace h := zbE h
  obtain ⟨v8, e9, h⟩ := h
  refine j_iald (Or.inr rfl) e9 dL_law_1023 ?_
  replace h := zbE h
  obtain ⟨a10, e11, h⟩ := h
  subst e11
  replace h := zkE h
  obtain ⟨e12, h⟩ := h
  replace h := zb2E h
  obtain ⟨v14, G15, e13, h⟩ := h
  refine j_cont (zrV (As := [vI v8]) msX0_162 (yX2_pairCount_ok e13) (Nat.le_trans (Nat.le_of_ble_eq_true rfl) hd) (zk_2 _ e12) rfl rfl (Nat.le_of_ble_eq_true rfl) dL_law_1024) ?_
  refine j_istore (lv' := [(6, vI v14), (5, vI v6), (0, vR (some a1)), (1, vR x1), (2, vR (some a10)), (3, vR x3), (4, vI x4)]) dL_law_1027 (Nat.le_of_ble_eq_true rfl) rfl ?_
  refine j_aload_n (j := 4) dL_law_1029 rfl rfl ?_
  replace h := zkE h
  obtain ⟨e16, h⟩ := h
  replace h := zbE h
  obtain ⟨v18, e17, h⟩ := h
  refine j_cont (zrV (As := []) msX0_102 (yX2_thrown_ok e17) (Nat.le_trans (Nat.le_of_ble_eq_true rfl) hd) (zk_2 _ e16) rfl rfl (Nat.le_of_ble_eq_true rfl) dL_law_1030) ?_
  refine j_iload (j := 1) dL_law_1033 rfl ?_
  refine j_icmp_eq (tgt := 1040) dL_law_1035 (by decide) (fun c19 => ?_) (fun c19 => ?_)
  · rw [if_pos c19] at h
    refine j_iload (j := 1) dL_law_1040 rfl ?_
    refine j_if_ne (tgt := 1057) dL_law_1042 (by decide) (fun c20 => ?_) (fun c20 => ?_)
    · rw [if_pos c20] at h
      refine j_aload_n (j := 5) dL_law_1045 rfl rfl ?_
      refine j_iconst (v := 0) dL_law_1046 (by decide) ?_
      replace h := zbE h
      obtain ⟨a21, e22, h⟩ := h
      subst e22
      replace h := zbE h
      obtain ⟨l23, e24, h⟩ := h
      refine j_lald rfl e24 dL_law_1047 ?_
      refine j_iload (j := 0) dL_law_1048 rfl ?_
      refine j_i2l dL_law_1050 ?_
      refine j_lcmp dL_law_1051 ?_
      refine j_if_eq (tgt := 1057) dL_law_1052 (by decide) (fun c25 => ?_) (fun c25 => ?_)
      · rw [if_pos c25] at h
        exact J.sub (zall [2, 3, 4, 5, 6] rfl) (wfL_law_1057 hd (some a1) x1 (some a10) (some a21) x4  G15 h hk)
      · rw [if_neg c25] at h
        replace h := zoE h
        obtain ⟨a, h, rfl⟩ := h
        replace hk := hk
        refine j_iconst (v := 0) dL_law_1055 (by decide) ?_
        replace h := zcondE h
        obtain ⟨e26, h⟩ := h
        obtain rfl := Option.some.inj h
        exact j_zret hk.1 hk.2 rfl (zbb_n e26) dL_law_1056
    · rw [if_neg c20] at h
      exact J.sub (zall [2, 3, 4, 5, 6] rfl) (wfL_law_1057 hd (some a1) x1 (some a10) x3 x4  G15 h hk)
  · rw [if_neg c19] at h
    replace h := zoE h
    obtain ⟨a, h, rfl⟩ := h
    replace hk := hk
    refine j_iconst (v := 0) dL_law_1038 (by decide) ?_
    replace h := zcondE h
    obtain ⟨e27, h⟩ := h
    obtain rfl := Option.some.inj h
    exact j_zret hk.1 hk.2 rfl (zbb_n e27) dL_law_1039
def fL_law_991 (x0 : Option Nat) (x1 : Option Nat) (x2 : Option Nat) (x3 : Option Nat) (x4 : Int32)  (G : GS) : Option ((Int32 × GS) ⊕ ((Int32) × GS)) :=
  x1.bind fun a1 => zk [1] G a1 <| zb2 (fX1_isLL1_0 a1 G) fun v5 G6 => x2.bind fun a7 => zk [2] G6 a7 <| zb2 (fX2_isLL1_0 a7 G6) fun v11 G12 => if v5 = v11 then (fL_law_1954 x0 (some a1) (some a7) x3 x4 G12) else (zo (zcond (zbb 0) (some (0, G12))))
theorem wfL_law_991 {F : zF} (hd : 904 ≤ F.2.2.2) (x0 : Option Nat) (x1 : Option Nat) (x2 : Option Nat) (x3 : Option Nat) (x4 : Int32)  (G : GS) {a : (Int32 × GS) ⊕ ((Int32) × GS)} (h : fL_law_991 x0 x1 x2 x3 x4  G = some a) (hk : (zcase (fun s : Int32 × GS => J mL_law F s.2 23 [(0, vR x0), (1, vR x1), (2, vR x2), (3, vR x3), (4, vI s.1)] []) (zKI F)) a) : J mL_law F G 991 [(0, vR x0), (1, vR x1), (2, vR x2), (3, vR x3), (4, vI x4)] [] := by
  unfold fL_law_991 at h
  refine j_aload_n (j := 1) dL_law_991 rfl rfl ?_
  replace h := zbE h
  obtain ⟨a1, e2, h⟩ := h
  subst e2
  replace h := zkE h
  obtain ⟨e3, h⟩ := h
  replace h := zb2E h
  obtain ⟨v5, G6, e4, h⟩ := h
  refine j_cont (zrV (As := []) msX0_155 (yX1_isLL1_ok e4) (Nat.le_trans (Nat.le_of_ble_eq_true rfl) hd) (zk_1 _ e3) rfl rfl (Nat.le_of_ble_eq_true rfl) dL_law_992) ?_
  refine j_aload_n (j := 2) dL_law_995 rfl rfl ?_
  replace h := zbE h
  obtain ⟨a7, e8, h⟩ := h
  subst e8
  replace h := zkE h
  obtain ⟨e9, h⟩ := h
  replace h := zb2E h
  obtain ⟨v11, G12, e10, h⟩ := h
  refine j_cont (zrV (As := []) msX0_159 (yX2_isLL1_ok e10) (Nat.le_trans (Nat.le_of_ble_eq_true rfl) hd) (zk_2 _ e9) rfl rfl (Nat.le_of_ble_eq_true rfl) dL_law_996) ?_
  refine j_icmp_eq (tgt := 1954) dL_law_999 (by decide) (fun c13 => ?_) (fun c13 => ?_)
  · rw [if_pos c13] at h
    exact J.sub (zall [0, 1, 2, 3, 4] rfl) (wfL_law_1954 hd x0 (some a1) (some a7) x3 x4  G12 h hk)
  · rw [if_neg c13] at h
    replace h := zoE h
    obtain ⟨a, h, rfl⟩ := h
    replace hk := hk
    refine j_iconst (v := 0) dL_law_1002 (by decide) ?_
    replace h := zcondE h
    obtain ⟨e14, h⟩ := h
    obtain rfl := Option.some.inj h
    exact j_zret hk.1 hk.2 rfl (zbb_n e14) dL_law_1003
def fL_law_978 (x0 : Option Nat) (x1 : Option Nat) (x2 : Option Nat) (x3 : Option Nat) (x4 : Int32)  (G : GS) : Option ((Int32 × GS) ⊕ ((Int32) × GS)) :=
  x1.bind fun a1 => zk [1] G a1 <| zb2 (fX1_conflicts_0 a1 G) fun v5 G6 => x2.bind fun a7 => zk [2] G6 a7 <| zb2 (fX2_conflicts_0 a7 G6) fun v11 G12 => if v5 = v11 then (fL_law_1954 x0 (some a1) (some a7) x3 x4 G12) else (zo (zcond (zbb 0) (some (0, G12))))
theorem wfL_law_978 {F : zF} (hd : 904 ≤ F.2.2.2) (x0 : Option Nat) (x1 : Option Nat) (x2 : Option Nat) (x3 : Option Nat) (x4 : Int32)  (G : GS) {a : (Int32 × GS) ⊕ ((Int32) × GS)} (h : fL_law_978 x0 x1 x2 x3 x4  G = some a) (hk : (zcase (fun s : Int32 × GS => J mL_law F s.2 23 [(0, vR x0), (1, vR x1), (2, vR x2), (3, vR x3), (4, vI s.1)] []) (zKI F)) a) : J mL_law F G 978 [(0, vR x0), (1, vR x1), (2, vR x2), (3, vR x3), (4, vI x4)] [] := by
  unfold fL_law_978 at h
  refine j_aload_n (j := 1) dL_law_978 rfl rfl ?_
  replace h := zbE h
  obtain ⟨a1, e2, h⟩ := h
  subst e2
  replace h := zkE h
  obtain ⟨e3, h⟩ := h
  replace h := zb2E h
  obtain ⟨v5, G6, e4, h⟩ := h
  refine j_cont (zrV (As := []) msX0_151 (yX1_conflicts_ok e4) (Nat.le_trans (Nat.le_of_ble_eq_true rfl) hd) (zk_1 _ e3) rfl rfl (Nat.le_of_ble_eq_true rfl) dL_law_979) ?_
  refine j_aload_n (j := 2) dL_law_982 rfl rfl ?_
  replace h := zbE h
  obtain ⟨a7, e8, h⟩ := h
  subst e8
  replace h := zkE h
  obtain ⟨e9, h⟩ := h
  replace h := zb2E h
  obtain ⟨v11, G12, e10, h⟩ := h
  refine j_cont (zrV (As := []) msX0_154 (yX2_conflicts_ok e10) (Nat.le_trans (Nat.le_of_ble_eq_true rfl) hd) (zk_2 _ e9) rfl rfl (Nat.le_of_ble_eq_true rfl) dL_law_983) ?_
  refine j_icmp_eq (tgt := 1954) dL_law_986 (by decide) (fun c13 => ?_) (fun c13 => ?_)
  · rw [if_pos c13] at h
    exact J.sub (zall [0, 1, 2, 3, 4] rfl) (wfL_law_1954 hd x0 (some a1) (some a7) x3 x4  G12 h hk)
  · rw [if_neg c13] at h
    replace h := zoE h
    obtain ⟨a, h, rfl⟩ := h
    replace hk := hk
    refine j_iconst (v := 0) dL_law_989 (by decide) ?_
    replace h := zcondE h
    obtain ⟨e14, h⟩ := h
    obtain rfl := Option.some.inj h
    exact j_zret hk.1 hk.2 rfl (zbb_n e14) dL_law_990
def fL_law_975 (x0 : Option Nat) (x1 : Option Nat) (x2 : Option Nat) (x3 : Option Nat) (x4 : Int32)  (G : GS) : Option ((Int32 × GS) ⊕ ((Int32) × GS)) :=
  fL_law_1954 x0 x1 x2 x3 x4 G
theorem wfL_law_975 {F : zF} (hd : 904 ≤ F.2.2.2) (x0 : Option Nat) (x1 : Option Nat) (x2 : Option Nat) (x3 : Option Nat) (x4 : Int32)  (G : GS) {a : (Int32 × GS) ⊕ ((Int32) × GS)} (h : fL_law_975 x0 x1 x2 x3 x4  G = some a) (hk : (zcase (fun s : Int32 × GS => J mL_law F s.2 23 [(0, vR x0), (1, vR x1), (2, vR x2), (3, vR x3), (4, vI s.1)] []) (zKI F)) a) : J mL_law F G 975 [(0, vR x0), (1, vR x1), (2, vR x2), (3, vR x3), (4, vI x4)] [] := by
  unfold fL_law_975 at h
  refine j_goto (tgt := 1954) dL_law_975 (by decide) ?_
  exact J.sub (zall [0, 1, 2, 3, 4] rfl) (wfL_law_1954 hd x0 x1 x2 x3 x4  G h hk)
def fL_law_910 (x0 : Option Nat) (x1 : Option Nat) (x2 : Option Nat) (x3 : Option Nat) (x4 : Int32)  (G : GS) : Option ((Int32 × GS) ⊕ ((Int32) × GS)) :=
  x0.bind fun a1 => (zaI G 60 a1 (x4 + 1)).bind fun v3 => (zaI G 60 a1 (x4 + 2)).bind fun v5 => zb2 (fX0_predicted_0 x1 v3 v5 x3 G) fun v8 G9 => (zaI G9 60 a1 (x4 + 1)).bind fun v10 => (zaI G9 60 a1 (x4 + 2)).bind fun v12 => x2.bind fun a14 => zk [2] G9 a14 <| zb2 (fX2_predicted_0 a14 v10 v12 G9) fun v18 G19 => zk [2] G19 a14 <| (fX2_thrown_0 a14 G19).bind fun v22 => if v22 = v8 then (if v8 = 0 then (x3.bind fun a25 => (zaL G19 51 a25 (0 : Int32)).bind fun l27 => if (lg_cmp l27 v18.toInt64) = 0 then (fL_law_975 (some a1) x1 (some a14) (some a25) x4 G19) else (zo (zcond (zbb 0) (some (0, G19))))) else (fL_law_975 (some a1) x1 (some a14) x3 x4 G19)) else (zo (zcond (zbb 0) (some (0, G19))))
theorem wfL_law_910 {F : zF} (hd : 904 ≤ F.2.2.2) (x0 : Option Nat) (x1 : Option Nat) (x2 : Option Nat) (x3 : Option Nat) (x4 : Int32)  (G : GS) {a : (Int32 × GS) ⊕ ((Int32) × GS)} (h : fL_law_910 x0 x1 x2 x3 x4  G = some a) (hk : (zcase (fun s : Int32 × GS => J mL_law F s.2 23 [(0, vR x0), (1, vR x1), (2, vR x2), (3, vR x3), (4, vI s.1)] []) (zKI F)) a) : J mL_law F G 910 [(0, vR x0), (1, vR x1), (2, vR x2), (3, vR x3), (4, vI x4)] [] := by
  unfold fL_law_910 at h
  refine j_aload_n (j := 1) dL_law_910 rfl rfl ?_
  refine j_aload_n (j := 0) dL_law_911 rfl rfl ?_
  refine j_iload (j := 4) dL_law_912 rfl ?_
  refine j_iconst (v := 1) dL_law_914 (by decide) ?_
  refine j_iadd dL_law_915 ?_
  replace h := zbE h
  obtain ⟨a1, e2, h⟩ := h
  subst e2
  replace h := zbE h
  obtain ⟨v3, e4, h⟩ := h
  refine j_iald (Or.inr rfl) e4 dL_law_916 ?_
  refine j_aload_n (j := 0) dL_law_917 rfl rfl ?_
  refine j_iload (j := 4) dL_law_918 rfl ?_
  refine j_iconst (v := 2) dL_law_920 (by decide) ?_
  refine j_iadd dL_law_921 ?_
  replace h := zbE h
  obtain ⟨v5, e6, h⟩ := h
  refine j_iald (Or.inr rfl) e6 dL_law_922 ?_
  refine j_aload_n (j := 3) dL_law_923 rfl rfl ?_
  replace h := zb2E h
  obtain ⟨v8, G9, e7, h⟩ := h
  refine j_cont (zrSW (As := [vR x1, vI v3, vI v5, vR x3]) msX0_148 (yX0_predicted_ok e7) (Nat.le_trans (Nat.le_of_ble_eq_true rfl) hd) rfl rfl (Nat.le_of_ble_eq_true rfl) dL_law_924) ?_
  refine j_istore (lv' := [(5, vI v8), (0, vR (some a1)), (1, vR x1), (2, vR x2), (3, vR x3), (4, vI x4)]) dL_law_927 (Nat.le_of_ble_eq_true rfl) rfl ?_
  refine j_aload_n (j := 3) dL_law_929 rfl rfl ?_
  refine j_aload_n (j := 1) dL_law_930 rfl rfl ?_
  refine j_iload (j := 5) dL_law_931 rfl ?_
  refine j_iconst (v := 1) dL_law_933 (by decide) ?_
  refine j_iadd dL_law_934 ?_
  replace h := zbE h
  obtain ⟨v10, e11, h⟩ := h
  refine j_iald (Or.inr rfl) e11 dL_law_935 ?_
  refine j_aload_n (j := 1) dL_law_936 rfl rfl ?_
  refine j_iload (j := 5) dL_law_937 rfl ?_
  refine j_iconst (v := 2) dL_law_939 (by decide) ?_
  refine j_iadd dL_law_940 ?_
  replace h := zbE h
  obtain ⟨v12, e13, h⟩ := h
  refine j_iald (Or.inr rfl) e13 dL_law_941 ?_
  replace h := zbE h
  obtain ⟨a14, e15, h⟩ := h
  subst e15
  replace h := zkE h
  obtain ⟨e16, h⟩ := h
  replace h := zb2E h
  obtain ⟨v18, G19, e17, h⟩ := h
  refine j_cont (zrV (As := [vI v10, vI v12]) msX0_150 (yX2_predicted_ok e17) (Nat.le_trans (Nat.le_of_ble_eq_true rfl) hd) (zk_2 _ e16) rfl rfl (Nat.le_of_ble_eq_true rfl) dL_law_942) ?_
  refine j_istore (lv' := [(6, vI v18), (5, vI v8), (0, vR (some a1)), (1, vR x1), (2, vR (some a14)), (3, vR x3), (4, vI x4)]) dL_law_945 (Nat.le_of_ble_eq_true rfl) rfl ?_
  refine j_aload_n (j := 4) dL_law_947 rfl rfl ?_
  replace h := zkE h
  obtain ⟨e20, h⟩ := h
  replace h := zbE h
  obtain ⟨v22, e21, h⟩ := h
  refine j_cont (zrV (As := []) msX0_102 (yX2_thrown_ok e21) (Nat.le_trans (Nat.le_of_ble_eq_true rfl) hd) (zk_2 _ e20) rfl rfl (Nat.le_of_ble_eq_true rfl) dL_law_948) ?_
  refine j_iload (j := 1) dL_law_951 rfl ?_
  refine j_icmp_eq (tgt := 958) dL_law_953 (by decide) (fun c23 => ?_) (fun c23 => ?_)
  · rw [if_pos c23] at h
    refine j_iload (j := 1) dL_law_958 rfl ?_
    refine j_if_ne (tgt := 975) dL_law_960 (by decide) (fun c24 => ?_) (fun c24 => ?_)
    · rw [if_pos c24] at h
      refine j_aload_n (j := 5) dL_law_963 rfl rfl ?_
      refine j_iconst (v := 0) dL_law_964 (by decide) ?_
      replace h := zbE h
      obtain ⟨a25, e26, h⟩ := h
      subst e26
      replace h := zbE h
      obtain ⟨l27, e28, h⟩ := h
      refine j_lald rfl e28 dL_law_965 ?_
      refine j_iload (j := 0) dL_law_966 rfl ?_
      refine j_i2l dL_law_968 ?_
      refine j_lcmp dL_law_969 ?_
      refine j_if_eq (tgt := 975) dL_law_970 (by decide) (fun c29 => ?_) (fun c29 => ?_)
      · rw [if_pos c29] at h
        exact J.sub (zall [2, 3, 4, 5, 6] rfl) (wfL_law_975 hd (some a1) x1 (some a14) (some a25) x4  G19 h hk)
      · rw [if_neg c29] at h
        replace h := zoE h
        obtain ⟨a, h, rfl⟩ := h
        replace hk := hk
        refine j_iconst (v := 0) dL_law_973 (by decide) ?_
        replace h := zcondE h
        obtain ⟨e30, h⟩ := h
        obtain rfl := Option.some.inj h
        exact j_zret hk.1 hk.2 rfl (zbb_n e30) dL_law_974
    · rw [if_neg c24] at h
      exact J.sub (zall [2, 3, 4, 5, 6] rfl) (wfL_law_975 hd (some a1) x1 (some a14) x3 x4  G19 h hk)
  · rw [if_neg c23] at h
    replace h := zoE h
    obtain ⟨a, h, rfl⟩ := h
    replace hk := hk
    refine j_iconst (v := 0) dL_law_956 (by decide) ?_
    replace h := zcondE h
    obtain ⟨e31, h⟩ := h
    obtain rfl := Option.some.inj h
    exact j_zret hk.1 hk.2 rfl (zbb_n e31) dL_law_957
def fL_law_907 (x0 : Option Nat) (x1 : Option Nat) (x2 : Option Nat) (x3 : Option Nat) (x4 : Int32)  (G : GS) : Option ((Int32 × GS) ⊕ ((Int32) × GS)) :=
  fL_law_1954 x0 x1 x2 x3 x4 G
theorem wfL_law_907 {F : zF} (hd : 904 ≤ F.2.2.2) (x0 : Option Nat) (x1 : Option Nat) (x2 : Option Nat) (x3 : Option Nat) (x4 : Int32)  (G : GS) {a : (Int32 × GS) ⊕ ((Int32) × GS)} (h : fL_law_907 x0 x1 x2 x3 x4  G = some a) (hk : (zcase (fun s : Int32 × GS => J mL_law F s.2 23 [(0, vR x0), (1, vR x1), (2, vR x2), (3, vR x3), (4, vI s.1)] []) (zKI F)) a) : J mL_law F G 907 [(0, vR x0), (1, vR x1), (2, vR x2), (3, vR x3), (4, vI x4)] [] := by
  unfold fL_law_907 at h
  refine j_goto (tgt := 1954) dL_law_907 (by decide) ?_
  exact J.sub (zall [0, 1, 2, 3, 4] rfl) (wfL_law_1954 hd x0 x1 x2 x3 x4  G h hk)
def fL_law_854 (x0 : Option Nat) (x1 : Option Nat) (x2 : Option Nat) (x3 : Option Nat) (x4 : Int32)  (G : GS) : Option ((Int32 × GS) ⊕ ((Int32) × GS)) :=
  x0.bind fun a1 => (zaI G 60 a1 (x4 + 1)).bind fun v3 => zb2 (fX0_predictionOf_0 x1 v3 x3 G) fun v6 G7 => (zaI G7 60 a1 (x4 + 1)).bind fun v8 => x2.bind fun a10 => zk [2] G7 a10 <| zb2 (fX2_predictionOf_0 a10 v8 G7) fun v14 G15 => zk [2] G15 a10 <| (fX2_thrown_0 a10 G15).bind fun v18 => if v18 = v6 then (if v6 = 0 then (x3.bind fun a21 => (zaL G15 51 a21 (0 : Int32)).bind fun l23 => if (lg_cmp l23 v14.toInt64) = 0 then (fL_law_907 (some a1) x1 (some a10) (some a21) x4 G15) else (zo (zcond (zbb 0) (some (0, G15))))) else (fL_law_907 (some a1) x1 (some a10) x3 x4 G15)) else (zo (zcond (zbb 0) (some (0, G15))))
theorem wfL_law_854 {F : zF} (hd : 904 ≤ F.2.2.2) (x0 : Option Nat) (x1 : Option Nat) (x2 : Option Nat) (x3 : Option Nat) (x4 : Int32)  (G : GS) {a : (Int32 × GS) ⊕ ((Int32) × GS)} (h : fL_law_854 x0 x1 x2 x3 x4  G = some a) (hk : (zcase (fun s : Int32 × GS => J mL_law F s.2 23 [(0, vR x0), (1, vR x1), (2, vR x2), (3, vR x3), (4, vI s.1)] []) (zKI F)) a) : J mL_law F G 854 [(0, vR x0), (1, vR x1), (2, vR x2), (3, vR x3), (4, vI x4)] [] := by
  unfold fL_law_854 at h
  refine j_aload_n (j := 1) dL_law_854 rfl rfl ?_
  refine j_aload_n (j := 0) dL_law_855 rfl rfl ?_
  refine j_iload (j := 4) dL_law_856 rfl ?_
  refine j_iconst (v := 1) dL_law_858 (by decide) ?_
  refine j_iadd dL_law_859 ?_
  replace h := zbE h
  obtain ⟨a1, e2, h⟩ := h
  subst e2
  replace h := zbE h
  obtain ⟨v3, e4, h⟩ := h
  refine j_iald (Or.inr rfl) e4 dL_law_860 ?_
  refine j_aload_n (j := 3) dL_law_861 rfl rfl ?_
  replace h := zb2E h
  obtain ⟨v6, G7, e5, h⟩ := h
  refine j_cont (zrSW (As := [vR x1, vI v3, vR x3]) msX0_145 (yX0_predictionOf_ok e5) (Nat.le_trans (Nat.le_of_ble_eq_true rfl) hd) rfl rfl (Nat.le_of_ble_eq_true rfl) dL_law_862) ?_
  refine j_istore (lv' := [(5, vI v6), (0, vR (some a1)), (1, vR x1), (2, vR x2), (3, vR x3), (4, vI x4)]) dL_law_865 (Nat.le_of_ble_eq_true rfl) rfl ?_
  refine j_aload_n (j := 3) dL_law_867 rfl rfl ?_
  refine j_aload_n (j := 1) dL_law_868 rfl rfl ?_
  refine j_iload (j := 5) dL_law_869 rfl ?_
  refine j_iconst (v := 1) dL_law_871 (by decide) ?_
  refine j_iadd dL_law_872 ?_
  replace h := zbE h
  obtain ⟨v8, e9, h⟩ := h
  refine j_iald (Or.inr rfl) e9 dL_law_873 ?_
  replace h := zbE h
  obtain ⟨a10, e11, h⟩ := h
  subst e11
  replace h := zkE h
  obtain ⟨e12, h⟩ := h
  replace h := zb2E h
  obtain ⟨v14, G15, e13, h⟩ := h
  refine j_cont (zrV (As := [vI v8]) msX0_147 (yX2_predictionOf_ok e13) (Nat.le_trans (Nat.le_of_ble_eq_true rfl) hd) (zk_2 _ e12) rfl rfl (Nat.le_of_ble_eq_true rfl) dL_law_874) ?_
  refine j_istore (lv' := [(6, vI v14), (5, vI v6), (0, vR (some a1)), (1, vR x1), (2, vR (some a10)), (3, vR x3), (4, vI x4)]) dL_law_877 (Nat.le_of_ble_eq_true rfl) rfl ?_
  refine j_aload_n (j := 4) dL_law_879 rfl rfl ?_
  replace h := zkE h
  obtain ⟨e16, h⟩ := h
  replace h := zbE h
  obtain ⟨v18, e17, h⟩ := h
  refine j_cont (zrV (As := []) msX0_102 (yX2_thrown_ok e17) (Nat.le_trans (Nat.le_of_ble_eq_true rfl) hd) (zk_2 _ e16) rfl rfl (Nat.le_of_ble_eq_true rfl) dL_law_880) ?_
  refine j_iload (j := 1) dL_law_883 rfl ?_
  refine j_icmp_eq (tgt := 890) dL_law_885 (by decide) (fun c19 => ?_) (fun c19 => ?_)
  · rw [if_pos c19] at h
    refine j_iload (j := 1) dL_law_890 rfl ?_
    refine j_if_ne (tgt := 907) dL_law_892 (by decide) (fun c20 => ?_) (fun c20 => ?_)
    · rw [if_pos c20] at h
      refine j_aload_n (j := 5) dL_law_895 rfl rfl ?_
      refine j_iconst (v := 0) dL_law_896 (by decide) ?_
      replace h := zbE h
      obtain ⟨a21, e22, h⟩ := h
      subst e22
      replace h := zbE h
      obtain ⟨l23, e24, h⟩ := h
      refine j_lald rfl e24 dL_law_897 ?_
      refine j_iload (j := 0) dL_law_898 rfl ?_
      refine j_i2l dL_law_900 ?_
      refine j_lcmp dL_law_901 ?_
      refine j_if_eq (tgt := 907) dL_law_902 (by decide) (fun c25 => ?_) (fun c25 => ?_)
      · rw [if_pos c25] at h
        exact J.sub (zall [2, 3, 4, 5, 6] rfl) (wfL_law_907 hd (some a1) x1 (some a10) (some a21) x4  G15 h hk)
      · rw [if_neg c25] at h
        replace h := zoE h
        obtain ⟨a, h, rfl⟩ := h
        replace hk := hk
        refine j_iconst (v := 0) dL_law_905 (by decide) ?_
        replace h := zcondE h
        obtain ⟨e26, h⟩ := h
        obtain rfl := Option.some.inj h
        exact j_zret hk.1 hk.2 rfl (zbb_n e26) dL_law_906
    · rw [if_neg c20] at h
      exact J.sub (zall [2, 3, 4, 5, 6] rfl) (wfL_law_907 hd (some a1) x1 (some a10) x3 x4  G15 h hk)
  · rw [if_neg c19] at h
    replace h := zoE h
    obtain ⟨a, h, rfl⟩ := h
    replace hk := hk
    refine j_iconst (v := 0) dL_law_888 (by decide) ?_
    replace h := zcondE h
    obtain ⟨e27, h⟩ := h
    obtain rfl := Option.some.inj h
    exact j_zret hk.1 hk.2 rfl (zbb_n e27) dL_law_889
def fL_law_851 (x0 : Option Nat) (x1 : Option Nat) (x2 : Option Nat) (x3 : Option Nat) (x4 : Int32)  (G : GS) : Option ((Int32 × GS) ⊕ ((Int32) × GS)) :=
  fL_law_1954 x0 x1 x2 x3 x4 G
theorem wfL_law_851 {F : zF} (hd : 904 ≤ F.2.2.2) (x0 : Option Nat) (x1 : Option Nat) (x2 : Option Nat) (x3 : Option Nat) (x4 : Int32)  (G : GS) {a : (Int32 × GS) ⊕ ((Int32) × GS)} (h : fL_law_851 x0 x1 x2 x3 x4  G = some a) (hk : (zcase (fun s : Int32 × GS => J mL_law F s.2 23 [(0, vR x0), (1, vR x1), (2, vR x2), (3, vR x3), (4, vI s.1)] []) (zKI F)) a) : J mL_law F G 851 [(0, vR x0), (1, vR x1), (2, vR x2), (3, vR x3), (4, vI x4)] [] := by
  unfold fL_law_851 at h
  refine j_goto (tgt := 1954) dL_law_851 (by decide) ?_
  exact J.sub (zall [0, 1, 2, 3, 4] rfl) (wfL_law_1954 hd x0 x1 x2 x3 x4  G h hk)
def fL_law_798 (x0 : Option Nat) (x1 : Option Nat) (x2 : Option Nat) (x3 : Option Nat) (x4 : Int32)  (G : GS) : Option ((Int32 × GS) ⊕ ((Int32) × GS)) :=
  x0.bind fun a1 => (zaI G 60 a1 (x4 + 1)).bind fun v3 => zb2 (fX0_shortestOf_0 x1 v3 x3 G) fun v6 G7 => (zaI G7 60 a1 (x4 + 1)).bind fun v8 => x2.bind fun a10 => zk [2] G7 a10 <| zb2 (fX2_shortestOf_0 a10 v8 G7) fun v14 G15 => zk [2] G15 a10 <| (fX2_thrown_0 a10 G15).bind fun v18 => if v18 = v6 then (if v6 = 0 then (x3.bind fun a21 => (zaL G15 51 a21 (0 : Int32)).bind fun l23 => if (lg_cmp l23 v14.toInt64) = 0 then (fL_law_851 (some a1) x1 (some a10) (some a21) x4 G15) else (zo (zcond (zbb 0) (some (0, G15))))) else (fL_law_851 (some a1) x1 (some a10) x3 x4 G15)) else (zo (zcond (zbb 0) (some (0, G15))))
theorem wfL_law_798 {F : zF} (hd : 904 ≤ F.2.2.2) (x0 : Option Nat) (x1 : Option Nat) (x2 : Option Nat) (x3 : Option Nat) (x4 : Int32)  (G : GS) {a : (Int32 × GS) ⊕ ((Int32) × GS)} (h : fL_law_798 x0 x1 x2 x3 x4  G = some a) (hk : (zcase (fun s : Int32 × GS => J mL_law F s.2 23 [(0, vR x0), (1, vR x1), (2, vR x2), (3, vR x3), (4, vI s.1)] []) (zKI F)) a) : J mL_law F G 798 [(0, vR x0), (1, vR x1), (2, vR x2), (3, vR x3), (4, vI x4)] [] := by
  unfold fL_law_798 at h
  refine j_aload_n (j := 1) dL_law_798 rfl rfl ?_
  refine j_aload_n (j := 0) dL_law_799 rfl rfl ?_
  refine j_iload (j := 4) dL_law_800 rfl ?_
  refine j_iconst (v := 1) dL_law_802 (by decide) ?_
  refine j_iadd dL_law_803 ?_
  replace h := zbE h
  obtain ⟨a1, e2, h⟩ := h
  subst e2
  replace h := zbE h
  obtain ⟨v3, e4, h⟩ := h
  refine j_iald (Or.inr rfl) e4 dL_law_804 ?_
  refine j_aload_n (j := 3) dL_law_805 rfl rfl ?_
  replace h := zb2E h
  obtain ⟨v6, G7, e5, h⟩ := h
  refine j_cont (zrSW (As := [vR x1, vI v3, vR x3]) msX0_142 (yX0_shortestOf_ok e5) (Nat.le_trans (Nat.le_of_ble_eq_true rfl) hd) rfl rfl (Nat.le_of_ble_eq_true rfl) dL_law_806) ?_
  refine j_istore (lv' := [(5, vI v6), (0, vR (some a1)), (1, vR x1), (2, vR x2), (3, vR x3), (4, vI x4)]) dL_law_809 (Nat.le_of_ble_eq_true rfl) rfl ?_
  refine j_aload_n (j := 3) dL_law_811 rfl rfl ?_
  refine j_aload_n (j := 1) dL_law_812 rfl rfl ?_
  refine j_iload (j := 5) dL_law_813 rfl ?_
  refine j_iconst (v := 1) dL_law_815 (by decide) ?_
  refine j_iadd dL_law_816 ?_
  replace h := zbE h
  obtain ⟨v8, e9, h⟩ := h
  refine j_iald (Or.inr rfl) e9 dL_law_817 ?_
  replace h := zbE h
  obtain ⟨a10, e11, h⟩ := h
  subst e11
  replace h := zkE h
  obtain ⟨e12, h⟩ := h
  replace h := zb2E h
  obtain ⟨v14, G15, e13, h⟩ := h
  refine j_cont (zrV (As := [vI v8]) msX0_144 (yX2_shortestOf_ok e13) (Nat.le_trans (Nat.le_of_ble_eq_true rfl) hd) (zk_2 _ e12) rfl rfl (Nat.le_of_ble_eq_true rfl) dL_law_818) ?_
  refine j_istore (lv' := [(6, vI v14), (5, vI v6), (0, vR (some a1)), (1, vR x1), (2, vR (some a10)), (3, vR x3), (4, vI x4)]) dL_law_821 (Nat.le_of_ble_eq_true rfl) rfl ?_
  refine j_aload_n (j := 4) dL_law_823 rfl rfl ?_
  replace h := zkE h
  obtain ⟨e16, h⟩ := h
  replace h := zbE h
  obtain ⟨v18, e17, h⟩ := h
  refine j_cont (zrV (As := []) msX0_102 (yX2_thrown_ok e17) (Nat.le_trans (Nat.le_of_ble_eq_true rfl) hd) (zk_2 _ e16) rfl rfl (Nat.le_of_ble_eq_true rfl) dL_law_824) ?_
  refine j_iload (j := 1) dL_law_827 rfl ?_
  refine j_icmp_eq (tgt := 834) dL_law_829 (by decide) (fun c19 => ?_) (fun c19 => ?_)
  · rw [if_pos c19] at h
    refine j_iload (j := 1) dL_law_834 rfl ?_
    refine j_if_ne (tgt := 851) dL_law_836 (by decide) (fun c20 => ?_) (fun c20 => ?_)
    · rw [if_pos c20] at h
      refine j_aload_n (j := 5) dL_law_839 rfl rfl ?_
      refine j_iconst (v := 0) dL_law_840 (by decide) ?_
      replace h := zbE h
      obtain ⟨a21, e22, h⟩ := h
      subst e22
      replace h := zbE h
      obtain ⟨l23, e24, h⟩ := h
      refine j_lald rfl e24 dL_law_841 ?_
      refine j_iload (j := 0) dL_law_842 rfl ?_
      refine j_i2l dL_law_844 ?_
      refine j_lcmp dL_law_845 ?_
      refine j_if_eq (tgt := 851) dL_law_846 (by decide) (fun c25 => ?_) (fun c25 => ?_)
      · rw [if_pos c25] at h
        exact J.sub (zall [2, 3, 4, 5, 6] rfl) (wfL_law_851 hd (some a1) x1 (some a10) (some a21) x4  G15 h hk)
      · rw [if_neg c25] at h
        replace h := zoE h
        obtain ⟨a, h, rfl⟩ := h
        replace hk := hk
        refine j_iconst (v := 0) dL_law_849 (by decide) ?_
        replace h := zcondE h
        obtain ⟨e26, h⟩ := h
        obtain rfl := Option.some.inj h
        exact j_zret hk.1 hk.2 rfl (zbb_n e26) dL_law_850
    · rw [if_neg c20] at h
      exact J.sub (zall [2, 3, 4, 5, 6] rfl) (wfL_law_851 hd (some a1) x1 (some a10) x3 x4  G15 h hk)
  · rw [if_neg c19] at h
    replace h := zoE h
    obtain ⟨a, h, rfl⟩ := h
    replace hk := hk
    refine j_iconst (v := 0) dL_law_832 (by decide) ?_
    replace h := zcondE h
    obtain ⟨e27, h⟩ := h
    obtain rfl := Option.some.inj h
    exact j_zret hk.1 hk.2 rfl (zbb_n e27) dL_law_833
def fL_law_785 (x0 : Option Nat) (x1 : Option Nat) (x2 : Option Nat) (x3 : Option Nat) (x4 : Int32)  (G : GS) : Option ((Int32 × GS) ⊕ ((Int32) × GS)) :=
  x1.bind fun a1 => zk [1] G a1 <| zb2 (fX1_firstRounds_0 a1 G) fun v5 G6 => x2.bind fun a7 => zk [2] G6 a7 <| zb2 (fX2_firstRounds_0 a7 G6) fun v11 G12 => if v5 = v11 then (fL_law_1954 x0 (some a1) (some a7) x3 x4 G12) else (zo (zcond (zbb 0) (some (0, G12))))
theorem wfL_law_785 {F : zF} (hd : 904 ≤ F.2.2.2) (x0 : Option Nat) (x1 : Option Nat) (x2 : Option Nat) (x3 : Option Nat) (x4 : Int32)  (G : GS) {a : (Int32 × GS) ⊕ ((Int32) × GS)} (h : fL_law_785 x0 x1 x2 x3 x4  G = some a) (hk : (zcase (fun s : Int32 × GS => J mL_law F s.2 23 [(0, vR x0), (1, vR x1), (2, vR x2), (3, vR x3), (4, vI s.1)] []) (zKI F)) a) : J mL_law F G 785 [(0, vR x0), (1, vR x1), (2, vR x2), (3, vR x3), (4, vI x4)] [] := by
  unfold fL_law_785 at h
  refine j_aload_n (j := 1) dL_law_785 rfl rfl ?_
  replace h := zbE h
  obtain ⟨a1, e2, h⟩ := h
  subst e2
  replace h := zkE h
  obtain ⟨e3, h⟩ := h
  replace h := zb2E h
  obtain ⟨v5, G6, e4, h⟩ := h
  refine j_cont (zrV (As := []) msX0_138 (yX1_firstRounds_ok e4) (Nat.le_trans (Nat.le_of_ble_eq_true rfl) hd) (zk_1 _ e3) rfl rfl (Nat.le_of_ble_eq_true rfl) dL_law_786) ?_
  refine j_aload_n (j := 2) dL_law_789 rfl rfl ?_
  replace h := zbE h
  obtain ⟨a7, e8, h⟩ := h
  subst e8
  replace h := zkE h
  obtain ⟨e9, h⟩ := h
  replace h := zb2E h
  obtain ⟨v11, G12, e10, h⟩ := h
  refine j_cont (zrV (As := []) msX0_141 (yX2_firstRounds_ok e10) (Nat.le_trans (Nat.le_of_ble_eq_true rfl) hd) (zk_2 _ e9) rfl rfl (Nat.le_of_ble_eq_true rfl) dL_law_790) ?_
  refine j_icmp_eq (tgt := 1954) dL_law_793 (by decide) (fun c13 => ?_) (fun c13 => ?_)
  · rw [if_pos c13] at h
    exact J.sub (zall [0, 1, 2, 3, 4] rfl) (wfL_law_1954 hd x0 (some a1) (some a7) x3 x4  G12 h hk)
  · rw [if_neg c13] at h
    replace h := zoE h
    obtain ⟨a, h, rfl⟩ := h
    replace hk := hk
    refine j_iconst (v := 0) dL_law_796 (by decide) ?_
    replace h := zcondE h
    obtain ⟨e14, h⟩ := h
    obtain rfl := Option.some.inj h
    exact j_zret hk.1 hk.2 rfl (zbb_n e14) dL_law_797
def fL_law_782 (x0 : Option Nat) (x1 : Option Nat) (x2 : Option Nat) (x3 : Option Nat) (x4 : Int32)  (G : GS) : Option ((Int32 × GS) ⊕ ((Int32) × GS)) :=
  fL_law_1954 x0 x1 x2 x3 x4 G
theorem wfL_law_782 {F : zF} (hd : 904 ≤ F.2.2.2) (x0 : Option Nat) (x1 : Option Nat) (x2 : Option Nat) (x3 : Option Nat) (x4 : Int32)  (G : GS) {a : (Int32 × GS) ⊕ ((Int32) × GS)} (h : fL_law_782 x0 x1 x2 x3 x4  G = some a) (hk : (zcase (fun s : Int32 × GS => J mL_law F s.2 23 [(0, vR x0), (1, vR x1), (2, vR x2), (3, vR x3), (4, vI s.1)] []) (zKI F)) a) : J mL_law F G 782 [(0, vR x0), (1, vR x1), (2, vR x2), (3, vR x3), (4, vI x4)] [] := by
  unfold fL_law_782 at h
  refine j_goto (tgt := 1954) dL_law_782 (by decide) ?_
  exact J.sub (zall [0, 1, 2, 3, 4] rfl) (wfL_law_1954 hd x0 x1 x2 x3 x4  G h hk)
def fL_law_729 (x0 : Option Nat) (x1 : Option Nat) (x2 : Option Nat) (x3 : Option Nat) (x4 : Int32)  (G : GS) : Option ((Int32 × GS) ⊕ ((Int32) × GS)) :=
  x0.bind fun a1 => (zaI G 60 a1 (x4 + 1)).bind fun v3 => zb2 (fX0_followOf_0 x1 v3 x3 G) fun v6 G7 => (zaI G7 60 a1 (x4 + 1)).bind fun v8 => x2.bind fun a10 => zk [2] G7 a10 <| zb2 (fX2_followOf_0 a10 v8 G7) fun v14 G15 => zk [2] G15 a10 <| (fX2_thrown_0 a10 G15).bind fun v18 => if v18 = v6 then (if v6 = 0 then (x3.bind fun a21 => (zaL G15 51 a21 (0 : Int32)).bind fun l23 => if (lg_cmp l23 v14.toInt64) = 0 then (fL_law_782 (some a1) x1 (some a10) (some a21) x4 G15) else (zo (zcond (zbb 0) (some (0, G15))))) else (fL_law_782 (some a1) x1 (some a10) x3 x4 G15)) else (zo (zcond (zbb 0) (some (0, G15))))
theorem wfL_law_729 {F : zF} (hd : 904 ≤ F.2.2.2) (x0 : Option Nat) (x1 : Option Nat) (x2 : Option Nat) (x3 : Option Nat) (x4 : Int32)  (G : GS) {a : (Int32 × GS) ⊕ ((Int32) × GS)} (h : fL_law_729 x0 x1 x2 x3 x4  G = some a) (hk : (zcase (fun s : Int32 × GS => J mL_law F s.2 23 [(0, vR x0), (1, vR x1), (2, vR x2), (3, vR x3), (4, vI s.1)] []) (zKI F)) a) : J mL_law F G 729 [(0, vR x0), (1, vR x1), (2, vR x2), (3, vR x3), (4, vI x4)] [] := by
  unfold fL_law_729 at h
  refine j_aload_n (j := 1) dL_law_729 rfl rfl ?_
  refine j_aload_n (j := 0) dL_law_730 rfl rfl ?_
  refine j_iload (j := 4) dL_law_731 rfl ?_
  refine j_iconst (v := 1) dL_law_733 (by decide) ?_
  refine j_iadd dL_law_734 ?_
  replace h := zbE h
  obtain ⟨a1, e2, h⟩ := h
  subst e2
  replace h := zbE h
  obtain ⟨v3, e4, h⟩ := h
  refine j_iald (Or.inr rfl) e4 dL_law_735 ?_
  refine j_aload_n (j := 3) dL_law_736 rfl rfl ?_
  replace h := zb2E h
  obtain ⟨v6, G7, e5, h⟩ := h
  refine j_cont (zrSW (As := [vR x1, vI v3, vR x3]) msX0_135 (yX0_followOf_ok e5) (Nat.le_trans (Nat.le_of_ble_eq_true rfl) hd) rfl rfl (Nat.le_of_ble_eq_true rfl) dL_law_737) ?_
  refine j_istore (lv' := [(5, vI v6), (0, vR (some a1)), (1, vR x1), (2, vR x2), (3, vR x3), (4, vI x4)]) dL_law_740 (Nat.le_of_ble_eq_true rfl) rfl ?_
  refine j_aload_n (j := 3) dL_law_742 rfl rfl ?_
  refine j_aload_n (j := 1) dL_law_743 rfl rfl ?_
  refine j_iload (j := 5) dL_law_744 rfl ?_
  refine j_iconst (v := 1) dL_law_746 (by decide) ?_
  refine j_iadd dL_law_747 ?_
  replace h := zbE h
  obtain ⟨v8, e9, h⟩ := h
  refine j_iald (Or.inr rfl) e9 dL_law_748 ?_
  replace h := zbE h
  obtain ⟨a10, e11, h⟩ := h
  subst e11
  replace h := zkE h
  obtain ⟨e12, h⟩ := h
  replace h := zb2E h
  obtain ⟨v14, G15, e13, h⟩ := h
  refine j_cont (zrV (As := [vI v8]) msX0_137 (yX2_followOf_ok e13) (Nat.le_trans (Nat.le_of_ble_eq_true rfl) hd) (zk_2 _ e12) rfl rfl (Nat.le_of_ble_eq_true rfl) dL_law_749) ?_
  refine j_istore (lv' := [(6, vI v14), (5, vI v6), (0, vR (some a1)), (1, vR x1), (2, vR (some a10)), (3, vR x3), (4, vI x4)]) dL_law_752 (Nat.le_of_ble_eq_true rfl) rfl ?_
  refine j_aload_n (j := 4) dL_law_754 rfl rfl ?_
  replace h := zkE h
  obtain ⟨e16, h⟩ := h
  replace h := zbE h
  obtain ⟨v18, e17, h⟩ := h
  refine j_cont (zrV (As := []) msX0_102 (yX2_thrown_ok e17) (Nat.le_trans (Nat.le_of_ble_eq_true rfl) hd) (zk_2 _ e16) rfl rfl (Nat.le_of_ble_eq_true rfl) dL_law_755) ?_
  refine j_iload (j := 1) dL_law_758 rfl ?_
  refine j_icmp_eq (tgt := 765) dL_law_760 (by decide) (fun c19 => ?_) (fun c19 => ?_)
  · rw [if_pos c19] at h
    refine j_iload (j := 1) dL_law_765 rfl ?_
    refine j_if_ne (tgt := 782) dL_law_767 (by decide) (fun c20 => ?_) (fun c20 => ?_)
    · rw [if_pos c20] at h
      refine j_aload_n (j := 5) dL_law_770 rfl rfl ?_
      refine j_iconst (v := 0) dL_law_771 (by decide) ?_
      replace h := zbE h
      obtain ⟨a21, e22, h⟩ := h
      subst e22
      replace h := zbE h
      obtain ⟨l23, e24, h⟩ := h
      refine j_lald rfl e24 dL_law_772 ?_
      refine j_iload (j := 0) dL_law_773 rfl ?_
      refine j_i2l dL_law_775 ?_
      refine j_lcmp dL_law_776 ?_
      refine j_if_eq (tgt := 782) dL_law_777 (by decide) (fun c25 => ?_) (fun c25 => ?_)
      · rw [if_pos c25] at h
        exact J.sub (zall [2, 3, 4, 5, 6] rfl) (wfL_law_782 hd (some a1) x1 (some a10) (some a21) x4  G15 h hk)
      · rw [if_neg c25] at h
        replace h := zoE h
        obtain ⟨a, h, rfl⟩ := h
        replace hk := hk
        refine j_iconst (v := 0) dL_law_780 (by decide) ?_
        replace h := zcondE h
        obtain ⟨e26, h⟩ := h
        obtain rfl := Option.some.inj h
        exact j_zret hk.1 hk.2 rfl (zbb_n e26) dL_law_781
    · rw [if_neg c20] at h
      exact J.sub (zall [2, 3, 4, 5, 6] rfl) (wfL_law_782 hd (some a1) x1 (some a10) x3 x4  G15 h hk)
  · rw [if_neg c19] at h
    replace h := zoE h
    obtain ⟨a, h, rfl⟩ := h
    replace hk := hk
    refine j_iconst (v := 0) dL_law_763 (by decide) ?_
    replace h := zcondE h
    obtain ⟨e27, h⟩ := h
    obtain rfl := Option.some.inj h
    exact j_zret hk.1 hk.2 rfl (zbb_n e27) dL_law_764
def fL_law_726 (x0 : Option Nat) (x1 : Option Nat) (x2 : Option Nat) (x3 : Option Nat) (x4 : Int32)  (G : GS) : Option ((Int32 × GS) ⊕ ((Int32) × GS)) :=
  fL_law_1954 x0 x1 x2 x3 x4 G
theorem wfL_law_726 {F : zF} (hd : 904 ≤ F.2.2.2) (x0 : Option Nat) (x1 : Option Nat) (x2 : Option Nat) (x3 : Option Nat) (x4 : Int32)  (G : GS) {a : (Int32 × GS) ⊕ ((Int32) × GS)} (h : fL_law_726 x0 x1 x2 x3 x4  G = some a) (hk : (zcase (fun s : Int32 × GS => J mL_law F s.2 23 [(0, vR x0), (1, vR x1), (2, vR x2), (3, vR x3), (4, vI s.1)] []) (zKI F)) a) : J mL_law F G 726 [(0, vR x0), (1, vR x1), (2, vR x2), (3, vR x3), (4, vI x4)] [] := by
  unfold fL_law_726 at h
  refine j_goto (tgt := 1954) dL_law_726 (by decide) ?_
  exact J.sub (zall [0, 1, 2, 3, 4] rfl) (wfL_law_1954 hd x0 x1 x2 x3 x4  G h hk)
def fL_law_673 (x0 : Option Nat) (x1 : Option Nat) (x2 : Option Nat) (x3 : Option Nat) (x4 : Int32)  (G : GS) : Option ((Int32 × GS) ⊕ ((Int32) × GS)) :=
  x0.bind fun a1 => (zaI G 60 a1 (x4 + 1)).bind fun v3 => zb2 (fX0_firstOf_0 x1 v3 x3 G) fun v6 G7 => (zaI G7 60 a1 (x4 + 1)).bind fun v8 => x2.bind fun a10 => zk [2] G7 a10 <| zb2 (fX2_firstOf_0 a10 v8 G7) fun v14 G15 => zk [2] G15 a10 <| (fX2_thrown_0 a10 G15).bind fun v18 => if v18 = v6 then (if v6 = 0 then (x3.bind fun a21 => (zaL G15 51 a21 (0 : Int32)).bind fun l23 => if (lg_cmp l23 v14.toInt64) = 0 then (fL_law_726 (some a1) x1 (some a10) (some a21) x4 G15) else (zo (zcond (zbb 0) (some (0, G15))))) else (fL_law_726 (some a1) x1 (some a10) x3 x4 G15)) else (zo (zcond (zbb 0) (some (0, G15))))
theorem wfL_law_673 {F : zF} (hd : 904 ≤ F.2.2.2) (x0 : Option Nat) (x1 : Option Nat) (x2 : Option Nat) (x3 : Option Nat) (x4 : Int32)  (G : GS) {a : (Int32 × GS) ⊕ ((Int32) × GS)} (h : fL_law_673 x0 x1 x2 x3 x4  G = some a) (hk : (zcase (fun s : Int32 × GS => J mL_law F s.2 23 [(0, vR x0), (1, vR x1), (2, vR x2), (3, vR x3), (4, vI s.1)] []) (zKI F)) a) : J mL_law F G 673 [(0, vR x0), (1, vR x1), (2, vR x2), (3, vR x3), (4, vI x4)] [] := by
  unfold fL_law_673 at h
  refine j_aload_n (j := 1) dL_law_673 rfl rfl ?_
  refine j_aload_n (j := 0) dL_law_674 rfl rfl ?_
  refine j_iload (j := 4) dL_law_675 rfl ?_
  refine j_iconst (v := 1) dL_law_677 (by decide) ?_
  refine j_iadd dL_law_678 ?_
  replace h := zbE h
  obtain ⟨a1, e2, h⟩ := h
  subst e2
  replace h := zbE h
  obtain ⟨v3, e4, h⟩ := h
  refine j_iald (Or.inr rfl) e4 dL_law_679 ?_
  refine j_aload_n (j := 3) dL_law_680 rfl rfl ?_
  replace h := zb2E h
  obtain ⟨v6, G7, e5, h⟩ := h
  refine j_cont (zrSW (As := [vR x1, vI v3, vR x3]) msX0_132 (yX0_firstOf_ok e5) (Nat.le_trans (Nat.le_of_ble_eq_true rfl) hd) rfl rfl (Nat.le_of_ble_eq_true rfl) dL_law_681) ?_
  refine j_istore (lv' := [(5, vI v6), (0, vR (some a1)), (1, vR x1), (2, vR x2), (3, vR x3), (4, vI x4)]) dL_law_684 (Nat.le_of_ble_eq_true rfl) rfl ?_
  refine j_aload_n (j := 3) dL_law_686 rfl rfl ?_
  refine j_aload_n (j := 1) dL_law_687 rfl rfl ?_
  refine j_iload (j := 5) dL_law_688 rfl ?_
  refine j_iconst (v := 1) dL_law_690 (by decide) ?_
  refine j_iadd dL_law_691 ?_
  replace h := zbE h
  obtain ⟨v8, e9, h⟩ := h
  refine j_iald (Or.inr rfl) e9 dL_law_692 ?_
  replace h := zbE h
  obtain ⟨a10, e11, h⟩ := h
  subst e11
  replace h := zkE h
  obtain ⟨e12, h⟩ := h
  replace h := zb2E h
  obtain ⟨v14, G15, e13, h⟩ := h
  refine j_cont (zrV (As := [vI v8]) msX0_134 (yX2_firstOf_ok e13) (Nat.le_trans (Nat.le_of_ble_eq_true rfl) hd) (zk_2 _ e12) rfl rfl (Nat.le_of_ble_eq_true rfl) dL_law_693) ?_
  refine j_istore (lv' := [(6, vI v14), (5, vI v6), (0, vR (some a1)), (1, vR x1), (2, vR (some a10)), (3, vR x3), (4, vI x4)]) dL_law_696 (Nat.le_of_ble_eq_true rfl) rfl ?_
  refine j_aload_n (j := 4) dL_law_698 rfl rfl ?_
  replace h := zkE h
  obtain ⟨e16, h⟩ := h
  replace h := zbE h
  obtain ⟨v18, e17, h⟩ := h
  refine j_cont (zrV (As := []) msX0_102 (yX2_thrown_ok e17) (Nat.le_trans (Nat.le_of_ble_eq_true rfl) hd) (zk_2 _ e16) rfl rfl (Nat.le_of_ble_eq_true rfl) dL_law_699) ?_
  refine j_iload (j := 1) dL_law_702 rfl ?_
  refine j_icmp_eq (tgt := 709) dL_law_704 (by decide) (fun c19 => ?_) (fun c19 => ?_)
  · rw [if_pos c19] at h
    refine j_iload (j := 1) dL_law_709 rfl ?_
    refine j_if_ne (tgt := 726) dL_law_711 (by decide) (fun c20 => ?_) (fun c20 => ?_)
    · rw [if_pos c20] at h
      refine j_aload_n (j := 5) dL_law_714 rfl rfl ?_
      refine j_iconst (v := 0) dL_law_715 (by decide) ?_
      replace h := zbE h
      obtain ⟨a21, e22, h⟩ := h
      subst e22
      replace h := zbE h
      obtain ⟨l23, e24, h⟩ := h
      refine j_lald rfl e24 dL_law_716 ?_
      refine j_iload (j := 0) dL_law_717 rfl ?_
      refine j_i2l dL_law_719 ?_
      refine j_lcmp dL_law_720 ?_
      refine j_if_eq (tgt := 726) dL_law_721 (by decide) (fun c25 => ?_) (fun c25 => ?_)
      · rw [if_pos c25] at h
        exact J.sub (zall [2, 3, 4, 5, 6] rfl) (wfL_law_726 hd (some a1) x1 (some a10) (some a21) x4  G15 h hk)
      · rw [if_neg c25] at h
        replace h := zoE h
        obtain ⟨a, h, rfl⟩ := h
        replace hk := hk
        refine j_iconst (v := 0) dL_law_724 (by decide) ?_
        replace h := zcondE h
        obtain ⟨e26, h⟩ := h
        obtain rfl := Option.some.inj h
        exact j_zret hk.1 hk.2 rfl (zbb_n e26) dL_law_725
    · rw [if_neg c20] at h
      exact J.sub (zall [2, 3, 4, 5, 6] rfl) (wfL_law_726 hd (some a1) x1 (some a10) x3 x4  G15 h hk)
  · rw [if_neg c19] at h
    replace h := zoE h
    obtain ⟨a, h, rfl⟩ := h
    replace hk := hk
    refine j_iconst (v := 0) dL_law_707 (by decide) ?_
    replace h := zcondE h
    obtain ⟨e27, h⟩ := h
    obtain rfl := Option.some.inj h
    exact j_zret hk.1 hk.2 rfl (zbb_n e27) dL_law_708
def fL_law_670 (x0 : Option Nat) (x1 : Option Nat) (x2 : Option Nat) (x3 : Option Nat) (x4 : Int32)  (G : GS) : Option ((Int32 × GS) ⊕ ((Int32) × GS)) :=
  fL_law_1954 x0 x1 x2 x3 x4 G
theorem wfL_law_670 {F : zF} (hd : 904 ≤ F.2.2.2) (x0 : Option Nat) (x1 : Option Nat) (x2 : Option Nat) (x3 : Option Nat) (x4 : Int32)  (G : GS) {a : (Int32 × GS) ⊕ ((Int32) × GS)} (h : fL_law_670 x0 x1 x2 x3 x4  G = some a) (hk : (zcase (fun s : Int32 × GS => J mL_law F s.2 23 [(0, vR x0), (1, vR x1), (2, vR x2), (3, vR x3), (4, vI s.1)] []) (zKI F)) a) : J mL_law F G 670 [(0, vR x0), (1, vR x1), (2, vR x2), (3, vR x3), (4, vI x4)] [] := by
  unfold fL_law_670 at h
  refine j_goto (tgt := 1954) dL_law_670 (by decide) ?_
  exact J.sub (zall [0, 1, 2, 3, 4] rfl) (wfL_law_1954 hd x0 x1 x2 x3 x4  G h hk)
def fL_law_664 (x0 : Option Nat) (x1 : Option Nat) (x2 : Option Nat) (x3 : Option Nat) (x4 : Int32) (s0 : Int64) (s1 : Int64) (G : GS) : Option ((Int32 × GS) ⊕ ((Int32) × GS)) :=
  if (lg_cmp s0 s1) = 0 then (fL_law_670 x0 x1 x2 x3 x4 G) else (zo (zcond (zbb 0) (some (0, G))))
theorem wfL_law_664 {F : zF} (hd : 904 ≤ F.2.2.2) (x0 : Option Nat) (x1 : Option Nat) (x2 : Option Nat) (x3 : Option Nat) (x4 : Int32) (s0 : Int64) (s1 : Int64) (G : GS) {a : (Int32 × GS) ⊕ ((Int32) × GS)} (h : fL_law_664 x0 x1 x2 x3 x4 s0 s1 G = some a) (hk : (zcase (fun s : Int32 × GS => J mL_law F s.2 23 [(0, vR x0), (1, vR x1), (2, vR x2), (3, vR x3), (4, vI s.1)] []) (zKI F)) a) : J mL_law F G 664 [(0, vR x0), (1, vR x1), (2, vR x2), (3, vR x3), (4, vI x4)] [vL s1, vL s0] := by
  unfold fL_law_664 at h
  refine j_lcmp dL_law_664 ?_
  refine j_if_eq (tgt := 670) dL_law_665 (by decide) (fun c1 => ?_) (fun c1 => ?_)
  · rw [if_pos c1] at h
    exact J.sub (zall [0, 1, 2, 3, 4] rfl) (wfL_law_670 hd x0 x1 x2 x3 x4  G h hk)
  · rw [if_neg c1] at h
    replace h := zoE h
    obtain ⟨a, h, rfl⟩ := h
    replace hk := hk
    refine j_iconst (v := 0) dL_law_668 (by decide) ?_
    replace h := zcondE h
    obtain ⟨e2, h⟩ := h
    obtain rfl := Option.some.inj h
    exact j_zret hk.1 hk.2 rfl (zbb_n e2) dL_law_669
def fL_law_610 (x0 : Option Nat) (x1 : Option Nat) (x2 : Option Nat) (x3 : Option Nat) (x4 : Int32)  (G : GS) : Option ((Int32 × GS) ⊕ ((Int32) × GS)) :=
  x0.bind fun a1 => (zaI G 60 a1 (x4 + 1)).bind fun v3 => zb2 (fX0_isNullable_0 x1 v3 x3 G) fun v6 G7 => (zaI G7 60 a1 (x4 + 1)).bind fun v8 => x2.bind fun a10 => zk [2] G7 a10 <| zb2 (fX2_isNullable_0 a10 v8 G7) fun v14 G15 => zk [2] G15 a10 <| (fX2_thrown_0 a10 G15).bind fun v18 => if v18 = v6 then (if v6 = 0 then (x3.bind fun a21 => (zaL G15 51 a21 (0 : Int32)).bind fun l23 => if v14 = 0 then (fL_law_664 (some a1) x1 (some a10) (some a21) x4 l23 0 G15) else (fL_law_664 (some a1) x1 (some a10) (some a21) x4 l23 1 G15)) else (fL_law_670 (some a1) x1 (some a10) x3 x4 G15)) else (zo (zcond (zbb 0) (some (0, G15))))
theorem wfL_law_610 {F : zF} (hd : 904 ≤ F.2.2.2) (x0 : Option Nat) (x1 : Option Nat) (x2 : Option Nat) (x3 : Option Nat) (x4 : Int32)  (G : GS) {a : (Int32 × GS) ⊕ ((Int32) × GS)} (h : fL_law_610 x0 x1 x2 x3 x4  G = some a) (hk : (zcase (fun s : Int32 × GS => J mL_law F s.2 23 [(0, vR x0), (1, vR x1), (2, vR x2), (3, vR x3), (4, vI s.1)] []) (zKI F)) a) : J mL_law F G 610 [(0, vR x0), (1, vR x1), (2, vR x2), (3, vR x3), (4, vI x4)] [] := by
  unfold fL_law_610 at h
  refine j_aload_n (j := 1) dL_law_610 rfl rfl ?_
  refine j_aload_n (j := 0) dL_law_611 rfl rfl ?_
  refine j_iload (j := 4) dL_law_612 rfl ?_
  refine j_iconst (v := 1) dL_law_614 (by decide) ?_
  refine j_iadd dL_law_615 ?_
  replace h := zbE h
  obtain ⟨a1, e2, h⟩ := h
  subst e2
  replace h := zbE h
  obtain ⟨v3, e4, h⟩ := h
  refine j_iald (Or.inr rfl) e4 dL_law_616 ?_
  refine j_aload_n (j := 3) dL_law_617 rfl rfl ?_
  replace h := zb2E h
  obtain ⟨v6, G7, e5, h⟩ := h
  refine j_cont (zrSW (As := [vR x1, vI v3, vR x3]) msX0_129 (yX0_isNullable_ok e5) (Nat.le_trans (Nat.le_of_ble_eq_true rfl) hd) rfl rfl (Nat.le_of_ble_eq_true rfl) dL_law_618) ?_
  refine j_istore (lv' := [(5, vI v6), (0, vR (some a1)), (1, vR x1), (2, vR x2), (3, vR x3), (4, vI x4)]) dL_law_621 (Nat.le_of_ble_eq_true rfl) rfl ?_
  refine j_aload_n (j := 3) dL_law_623 rfl rfl ?_
  refine j_aload_n (j := 1) dL_law_624 rfl rfl ?_
  refine j_iload (j := 5) dL_law_625 rfl ?_
  refine j_iconst (v := 1) dL_law_627 (by decide) ?_
  refine j_iadd dL_law_628 ?_
  replace h := zbE h
  obtain ⟨v8, e9, h⟩ := h
  refine j_iald (Or.inr rfl) e9 dL_law_629 ?_
  replace h := zbE h
  obtain ⟨a10, e11, h⟩ := h
  subst e11
  replace h := zkE h
  obtain ⟨e12, h⟩ := h
  replace h := zb2E h
  obtain ⟨v14, G15, e13, h⟩ := h
  refine j_cont (zrV (As := [vI v8]) msX0_131 (yX2_isNullable_ok e13) (Nat.le_trans (Nat.le_of_ble_eq_true rfl) hd) (zk_2 _ e12) rfl rfl (Nat.le_of_ble_eq_true rfl) dL_law_630) ?_
  refine j_istore (lv' := [(6, vI v14), (5, vI v6), (0, vR (some a1)), (1, vR x1), (2, vR (some a10)), (3, vR x3), (4, vI x4)]) dL_law_633 (Nat.le_of_ble_eq_true rfl) rfl ?_
  refine j_aload_n (j := 4) dL_law_635 rfl rfl ?_
  replace h := zkE h
  obtain ⟨e16, h⟩ := h
  replace h := zbE h
  obtain ⟨v18, e17, h⟩ := h
  refine j_cont (zrV (As := []) msX0_102 (yX2_thrown_ok e17) (Nat.le_trans (Nat.le_of_ble_eq_true rfl) hd) (zk_2 _ e16) rfl rfl (Nat.le_of_ble_eq_true rfl) dL_law_636) ?_
  refine j_iload (j := 1) dL_law_639 rfl ?_
  refine j_icmp_eq (tgt := 646) dL_law_641 (by decide) (fun c19 => ?_) (fun c19 => ?_)
  · rw [if_pos c19] at h
    refine j_iload (j := 1) dL_law_646 rfl ?_
    refine j_if_ne (tgt := 670) dL_law_648 (by decide) (fun c20 => ?_) (fun c20 => ?_)
    · rw [if_pos c20] at h
      refine j_aload_n (j := 5) dL_law_651 rfl rfl ?_
      refine j_iconst (v := 0) dL_law_652 (by decide) ?_
      replace h := zbE h
      obtain ⟨a21, e22, h⟩ := h
      subst e22
      replace h := zbE h
      obtain ⟨l23, e24, h⟩ := h
      refine j_lald rfl e24 dL_law_653 ?_
      refine j_iload (j := 0) dL_law_654 rfl ?_
      refine j_if_eq (tgt := 663) dL_law_656 (by decide) (fun c25 => ?_) (fun c25 => ?_)
      · rw [if_pos c25] at h
        refine j_lconst (v := 0) dL_law_663 rfl ?_
        exact J.sub (zall [2, 3, 4, 5, 6] rfl) (wfL_law_664 hd (some a1) x1 (some a10) (some a21) x4 l23 0 G15 h hk)
      · rw [if_neg c25] at h
        refine j_lconst (v := 1) dL_law_659 rfl ?_
        refine j_goto (tgt := 664) dL_law_660 (by decide) ?_
        exact J.sub (zall [2, 3, 4, 5, 6] rfl) (wfL_law_664 hd (some a1) x1 (some a10) (some a21) x4 l23 1 G15 h hk)
    · rw [if_neg c20] at h
      exact J.sub (zall [2, 3, 4, 5, 6] rfl) (wfL_law_670 hd (some a1) x1 (some a10) x3 x4  G15 h hk)
  · rw [if_neg c19] at h
    replace h := zoE h
    obtain ⟨a, h, rfl⟩ := h
    replace hk := hk
    refine j_iconst (v := 0) dL_law_644 (by decide) ?_
    replace h := zcondE h
    obtain ⟨e26, h⟩ := h
    obtain rfl := Option.some.inj h
    exact j_zret hk.1 hk.2 rfl (zbb_n e26) dL_law_645
def fL_law_597 (x0 : Option Nat) (x1 : Option Nat) (x2 : Option Nat) (x3 : Option Nat) (x4 : Int32)  (G : GS) : Option ((Int32 × GS) ⊕ ((Int32) × GS)) :=
  x1.bind fun a1 => zk [1] G a1 <| zb2 (fX1_usedNonterminals_0 a1 G) fun v5 G6 => x2.bind fun a7 => zk [2] G6 a7 <| zb2 (fX2_usedNonterminals_0 a7 G6) fun v11 G12 => if v5 = v11 then (fL_law_1954 x0 (some a1) (some a7) x3 x4 G12) else (zo (zcond (zbb 0) (some (0, G12))))
theorem wfL_law_597 {F : zF} (hd : 904 ≤ F.2.2.2) (x0 : Option Nat) (x1 : Option Nat) (x2 : Option Nat) (x3 : Option Nat) (x4 : Int32)  (G : GS) {a : (Int32 × GS) ⊕ ((Int32) × GS)} (h : fL_law_597 x0 x1 x2 x3 x4  G = some a) (hk : (zcase (fun s : Int32 × GS => J mL_law F s.2 23 [(0, vR x0), (1, vR x1), (2, vR x2), (3, vR x3), (4, vI s.1)] []) (zKI F)) a) : J mL_law F G 597 [(0, vR x0), (1, vR x1), (2, vR x2), (3, vR x3), (4, vI x4)] [] := by
  unfold fL_law_597 at h
  refine j_aload_n (j := 1) dL_law_597 rfl rfl ?_
  replace h := zbE h
  obtain ⟨a1, e2, h⟩ := h
  subst e2
  replace h := zkE h
  obtain ⟨e3, h⟩ := h
  replace h := zb2E h
  obtain ⟨v5, G6, e4, h⟩ := h
  refine j_cont (zrV (As := []) msX0_125 (yX1_usedNonterminals_ok e4) (Nat.le_trans (Nat.le_of_ble_eq_true rfl) hd) (zk_1 _ e3) rfl rfl (Nat.le_of_ble_eq_true rfl) dL_law_598) ?_
  refine j_aload_n (j := 2) dL_law_601 rfl rfl ?_
  replace h := zbE h
  obtain ⟨a7, e8, h⟩ := h
  subst e8
  replace h := zkE h
  obtain ⟨e9, h⟩ := h
  replace h := zb2E h
  obtain ⟨v11, G12, e10, h⟩ := h
  refine j_cont (zrV (As := []) msX0_128 (yX2_usedNonterminals_ok e10) (Nat.le_trans (Nat.le_of_ble_eq_true rfl) hd) (zk_2 _ e9) rfl rfl (Nat.le_of_ble_eq_true rfl) dL_law_602) ?_
  refine j_icmp_eq (tgt := 1954) dL_law_605 (by decide) (fun c13 => ?_) (fun c13 => ?_)
  · rw [if_pos c13] at h
    exact J.sub (zall [0, 1, 2, 3, 4] rfl) (wfL_law_1954 hd x0 (some a1) (some a7) x3 x4  G12 h hk)
  · rw [if_neg c13] at h
    replace h := zoE h
    obtain ⟨a, h, rfl⟩ := h
    replace hk := hk
    refine j_iconst (v := 0) dL_law_608 (by decide) ?_
    replace h := zcondE h
    obtain ⟨e14, h⟩ := h
    obtain rfl := Option.some.inj h
    exact j_zret hk.1 hk.2 rfl (zbb_n e14) dL_law_609
def fL_law_594 (x0 : Option Nat) (x1 : Option Nat) (x2 : Option Nat) (x3 : Option Nat) (x4 : Int32)  (G : GS) : Option ((Int32 × GS) ⊕ ((Int32) × GS)) :=
  fL_law_1954 x0 x1 x2 x3 x4 G
theorem wfL_law_594 {F : zF} (hd : 904 ≤ F.2.2.2) (x0 : Option Nat) (x1 : Option Nat) (x2 : Option Nat) (x3 : Option Nat) (x4 : Int32)  (G : GS) {a : (Int32 × GS) ⊕ ((Int32) × GS)} (h : fL_law_594 x0 x1 x2 x3 x4  G = some a) (hk : (zcase (fun s : Int32 × GS => J mL_law F s.2 23 [(0, vR x0), (1, vR x1), (2, vR x2), (3, vR x3), (4, vI s.1)] []) (zKI F)) a) : J mL_law F G 594 [(0, vR x0), (1, vR x1), (2, vR x2), (3, vR x3), (4, vI x4)] [] := by
  unfold fL_law_594 at h
  refine j_goto (tgt := 1954) dL_law_594 (by decide) ?_
  exact J.sub (zall [0, 1, 2, 3, 4] rfl) (wfL_law_1954 hd x0 x1 x2 x3 x4  G h hk)
def fL_law_529 (x0 : Option Nat) (x1 : Option Nat) (x2 : Option Nat) (x3 : Option Nat) (x4 : Int32)  (G : GS) : Option ((Int32 × GS) ⊕ ((Int32) × GS)) :=
  x0.bind fun a1 => (zaI G 60 a1 (x4 + 1)).bind fun v3 => (zaI G 60 a1 (x4 + 2)).bind fun v5 => zb2 (fX0_symbolAt_0 x1 v3 v5 x3 G) fun v8 G9 => (zaI G9 60 a1 (x4 + 1)).bind fun v10 => (zaI G9 60 a1 (x4 + 2)).bind fun v12 => x2.bind fun a14 => zk [2] G9 a14 <| zb2 (fX2_symbolAt_0 a14 v10 v12 G9) fun v18 G19 => zk [2] G19 a14 <| (fX2_thrown_0 a14 G19).bind fun v22 => if v22 = v8 then (if v8 = 0 then (x3.bind fun a25 => (zaL G19 51 a25 (0 : Int32)).bind fun l27 => if (lg_cmp l27 v18.toInt64) = 0 then (fL_law_594 (some a1) x1 (some a14) (some a25) x4 G19) else (zo (zcond (zbb 0) (some (0, G19))))) else (fL_law_594 (some a1) x1 (some a14) x3 x4 G19)) else (zo (zcond (zbb 0) (some (0, G19))))
theorem wfL_law_529 {F : zF} (hd : 904 ≤ F.2.2.2) (x0 : Option Nat) (x1 : Option Nat) (x2 : Option Nat) (x3 : Option Nat) (x4 : Int32)  (G : GS) {a : (Int32 × GS) ⊕ ((Int32) × GS)} (h : fL_law_529 x0 x1 x2 x3 x4  G = some a) (hk : (zcase (fun s : Int32 × GS => J mL_law F s.2 23 [(0, vR x0), (1, vR x1), (2, vR x2), (3, vR x3), (4, vI s.1)] []) (zKI F)) a) : J mL_law F G 529 [(0, vR x0), (1, vR x1), (2, vR x2), (3, vR x3), (4, vI x4)] [] := by
  unfold fL_law_529 at h
  refine j_aload_n (j := 1) dL_law_529 rfl rfl ?_
  refine j_aload_n (j := 0) dL_law_530 rfl rfl ?_
  refine j_iload (j := 4) dL_law_531 rfl ?_
  refine j_iconst (v := 1) dL_law_533 (by decide) ?_
  refine j_iadd dL_law_534 ?_
  replace h := zbE h
  obtain ⟨a1, e2, h⟩ := h
  subst e2
  replace h := zbE h
  obtain ⟨v3, e4, h⟩ := h
  refine j_iald (Or.inr rfl) e4 dL_law_535 ?_
  refine j_aload_n (j := 0) dL_law_536 rfl rfl ?_
  refine j_iload (j := 4) dL_law_537 rfl ?_
  refine j_iconst (v := 2) dL_law_539 (by decide) ?_
  refine j_iadd dL_law_540 ?_
  replace h := zbE h
  obtain ⟨v5, e6, h⟩ := h
  refine j_iald (Or.inr rfl) e6 dL_law_541 ?_
  refine j_aload_n (j := 3) dL_law_542 rfl rfl ?_
  replace h := zb2E h
  obtain ⟨v8, G9, e7, h⟩ := h
  refine j_cont (zrSW (As := [vR x1, vI v3, vI v5, vR x3]) msX0_122 (yX0_symbolAt_ok e7) (Nat.le_trans (Nat.le_of_ble_eq_true rfl) hd) rfl rfl (Nat.le_of_ble_eq_true rfl) dL_law_543) ?_
  refine j_istore (lv' := [(5, vI v8), (0, vR (some a1)), (1, vR x1), (2, vR x2), (3, vR x3), (4, vI x4)]) dL_law_546 (Nat.le_of_ble_eq_true rfl) rfl ?_
  refine j_aload_n (j := 3) dL_law_548 rfl rfl ?_
  refine j_aload_n (j := 1) dL_law_549 rfl rfl ?_
  refine j_iload (j := 5) dL_law_550 rfl ?_
  refine j_iconst (v := 1) dL_law_552 (by decide) ?_
  refine j_iadd dL_law_553 ?_
  replace h := zbE h
  obtain ⟨v10, e11, h⟩ := h
  refine j_iald (Or.inr rfl) e11 dL_law_554 ?_
  refine j_aload_n (j := 1) dL_law_555 rfl rfl ?_
  refine j_iload (j := 5) dL_law_556 rfl ?_
  refine j_iconst (v := 2) dL_law_558 (by decide) ?_
  refine j_iadd dL_law_559 ?_
  replace h := zbE h
  obtain ⟨v12, e13, h⟩ := h
  refine j_iald (Or.inr rfl) e13 dL_law_560 ?_
  replace h := zbE h
  obtain ⟨a14, e15, h⟩ := h
  subst e15
  replace h := zkE h
  obtain ⟨e16, h⟩ := h
  replace h := zb2E h
  obtain ⟨v18, G19, e17, h⟩ := h
  refine j_cont (zrV (As := [vI v10, vI v12]) msX0_124 (yX2_symbolAt_ok e17) (Nat.le_trans (Nat.le_of_ble_eq_true rfl) hd) (zk_2 _ e16) rfl rfl (Nat.le_of_ble_eq_true rfl) dL_law_561) ?_
  refine j_istore (lv' := [(6, vI v18), (5, vI v8), (0, vR (some a1)), (1, vR x1), (2, vR (some a14)), (3, vR x3), (4, vI x4)]) dL_law_564 (Nat.le_of_ble_eq_true rfl) rfl ?_
  refine j_aload_n (j := 4) dL_law_566 rfl rfl ?_
  replace h := zkE h
  obtain ⟨e20, h⟩ := h
  replace h := zbE h
  obtain ⟨v22, e21, h⟩ := h
  refine j_cont (zrV (As := []) msX0_102 (yX2_thrown_ok e21) (Nat.le_trans (Nat.le_of_ble_eq_true rfl) hd) (zk_2 _ e20) rfl rfl (Nat.le_of_ble_eq_true rfl) dL_law_567) ?_
  refine j_iload (j := 1) dL_law_570 rfl ?_
  refine j_icmp_eq (tgt := 577) dL_law_572 (by decide) (fun c23 => ?_) (fun c23 => ?_)
  · rw [if_pos c23] at h
    refine j_iload (j := 1) dL_law_577 rfl ?_
    refine j_if_ne (tgt := 594) dL_law_579 (by decide) (fun c24 => ?_) (fun c24 => ?_)
    · rw [if_pos c24] at h
      refine j_aload_n (j := 5) dL_law_582 rfl rfl ?_
      refine j_iconst (v := 0) dL_law_583 (by decide) ?_
      replace h := zbE h
      obtain ⟨a25, e26, h⟩ := h
      subst e26
      replace h := zbE h
      obtain ⟨l27, e28, h⟩ := h
      refine j_lald rfl e28 dL_law_584 ?_
      refine j_iload (j := 0) dL_law_585 rfl ?_
      refine j_i2l dL_law_587 ?_
      refine j_lcmp dL_law_588 ?_
      refine j_if_eq (tgt := 594) dL_law_589 (by decide) (fun c29 => ?_) (fun c29 => ?_)
      · rw [if_pos c29] at h
        exact J.sub (zall [2, 3, 4, 5, 6] rfl) (wfL_law_594 hd (some a1) x1 (some a14) (some a25) x4  G19 h hk)
      · rw [if_neg c29] at h
        replace h := zoE h
        obtain ⟨a, h, rfl⟩ := h
        replace hk := hk
        refine j_iconst (v := 0) dL_law_592 (by decide) ?_
        replace h := zcondE h
        obtain ⟨e30, h⟩ := h
        obtain rfl := Option.some.inj h
        exact j_zret hk.1 hk.2 rfl (zbb_n e30) dL_law_593
    · rw [if_neg c24] at h
      exact J.sub (zall [2, 3, 4, 5, 6] rfl) (wfL_law_594 hd (some a1) x1 (some a14) x3 x4  G19 h hk)
  · rw [if_neg c23] at h
    replace h := zoE h
    obtain ⟨a, h, rfl⟩ := h
    replace hk := hk
    refine j_iconst (v := 0) dL_law_575 (by decide) ?_
    replace h := zcondE h
    obtain ⟨e31, h⟩ := h
    obtain rfl := Option.some.inj h
    exact j_zret hk.1 hk.2 rfl (zbb_n e31) dL_law_576
def fL_law_526 (x0 : Option Nat) (x1 : Option Nat) (x2 : Option Nat) (x3 : Option Nat) (x4 : Int32)  (G : GS) : Option ((Int32 × GS) ⊕ ((Int32) × GS)) :=
  fL_law_1954 x0 x1 x2 x3 x4 G
theorem wfL_law_526 {F : zF} (hd : 904 ≤ F.2.2.2) (x0 : Option Nat) (x1 : Option Nat) (x2 : Option Nat) (x3 : Option Nat) (x4 : Int32)  (G : GS) {a : (Int32 × GS) ⊕ ((Int32) × GS)} (h : fL_law_526 x0 x1 x2 x3 x4  G = some a) (hk : (zcase (fun s : Int32 × GS => J mL_law F s.2 23 [(0, vR x0), (1, vR x1), (2, vR x2), (3, vR x3), (4, vI s.1)] []) (zKI F)) a) : J mL_law F G 526 [(0, vR x0), (1, vR x1), (2, vR x2), (3, vR x3), (4, vI x4)] [] := by
  unfold fL_law_526 at h
  refine j_goto (tgt := 1954) dL_law_526 (by decide) ?_
  exact J.sub (zall [0, 1, 2, 3, 4] rfl) (wfL_law_1954 hd x0 x1 x2 x3 x4  G h hk)
def fL_law_473 (x0 : Option Nat) (x1 : Option Nat) (x2 : Option Nat) (x3 : Option Nat) (x4 : Int32)  (G : GS) : Option ((Int32 × GS) ⊕ ((Int32) × GS)) :=
  x0.bind fun a1 => (zaI G 60 a1 (x4 + 1)).bind fun v3 => zb2 (fX0_lengthOf_0 x1 v3 x3 G) fun v6 G7 => (zaI G7 60 a1 (x4 + 1)).bind fun v8 => x2.bind fun a10 => zk [2] G7 a10 <| zb2 (fX2_lengthOf_0 a10 v8 G7) fun v14 G15 => zk [2] G15 a10 <| (fX2_thrown_0 a10 G15).bind fun v18 => if v18 = v6 then (if v6 = 0 then (x3.bind fun a21 => (zaL G15 51 a21 (0 : Int32)).bind fun l23 => if (lg_cmp l23 v14.toInt64) = 0 then (fL_law_526 (some a1) x1 (some a10) (some a21) x4 G15) else (zo (zcond (zbb 0) (some (0, G15))))) else (fL_law_526 (some a1) x1 (some a10) x3 x4 G15)) else (zo (zcond (zbb 0) (some (0, G15))))
theorem wfL_law_473 {F : zF} (hd : 904 ≤ F.2.2.2) (x0 : Option Nat) (x1 : Option Nat) (x2 : Option Nat) (x3 : Option Nat) (x4 : Int32)  (G : GS) {a : (Int32 × GS) ⊕ ((Int32) × GS)} (h : fL_law_473 x0 x1 x2 x3 x4  G = some a) (hk : (zcase (fun s : Int32 × GS => J mL_law F s.2 23 [(0, vR x0), (1, vR x1), (2, vR x2), (3, vR x3), (4, vI s.1)] []) (zKI F)) a) : J mL_law F G 473 [(0, vR x0), (1, vR x1), (2, vR x2), (3, vR x3), (4, vI x4)] [] := by
  unfold fL_law_473 at h
  refine j_aload_n (j := 1) dL_law_473 rfl rfl ?_
  refine j_aload_n (j := 0) dL_law_474 rfl rfl ?_
  refine j_iload (j := 4) dL_law_475 rfl ?_
  refine j_iconst (v := 1) dL_law_477 (by decide) ?_
  refine j_iadd dL_law_478 ?_
  replace h := zbE h
  obtain ⟨a1, e2, h⟩ := h
  subst e2
  replace h := zbE h
  obtain ⟨v3, e4, h⟩ := h
  refine j_iald (Or.inr rfl) e4 dL_law_479 ?_
  refine j_aload_n (j := 3) dL_law_480 rfl rfl ?_
  replace h := zb2E h
  obtain ⟨v6, G7, e5, h⟩ := h
  refine j_cont (zrSW (As := [vR x1, vI v3, vR x3]) msX0_119 (yX0_lengthOf_ok e5) (Nat.le_trans (Nat.le_of_ble_eq_true rfl) hd) rfl rfl (Nat.le_of_ble_eq_true rfl) dL_law_481) ?_
  refine j_istore (lv' := [(5, vI v6), (0, vR (some a1)), (1, vR x1), (2, vR x2), (3, vR x3), (4, vI x4)]) dL_law_484 (Nat.le_of_ble_eq_true rfl) rfl ?_
  refine j_aload_n (j := 3) dL_law_486 rfl rfl ?_
  refine j_aload_n (j := 1) dL_law_487 rfl rfl ?_
  refine j_iload (j := 5) dL_law_488 rfl ?_
  refine j_iconst (v := 1) dL_law_490 (by decide) ?_
  refine j_iadd dL_law_491 ?_
  replace h := zbE h
  obtain ⟨v8, e9, h⟩ := h
  refine j_iald (Or.inr rfl) e9 dL_law_492 ?_
  replace h := zbE h
  obtain ⟨a10, e11, h⟩ := h
  subst e11
  replace h := zkE h
  obtain ⟨e12, h⟩ := h
  replace h := zb2E h
  obtain ⟨v14, G15, e13, h⟩ := h
  refine j_cont (zrV (As := [vI v8]) msX0_121 (yX2_lengthOf_ok e13) (Nat.le_trans (Nat.le_of_ble_eq_true rfl) hd) (zk_2 _ e12) rfl rfl (Nat.le_of_ble_eq_true rfl) dL_law_493) ?_
  refine j_istore (lv' := [(6, vI v14), (5, vI v6), (0, vR (some a1)), (1, vR x1), (2, vR (some a10)), (3, vR x3), (4, vI x4)]) dL_law_496 (Nat.le_of_ble_eq_true rfl) rfl ?_
  refine j_aload_n (j := 4) dL_law_498 rfl rfl ?_
  replace h := zkE h
  obtain ⟨e16, h⟩ := h
  replace h := zbE h
  obtain ⟨v18, e17, h⟩ := h
  refine j_cont (zrV (As := []) msX0_102 (yX2_thrown_ok e17) (Nat.le_trans (Nat.le_of_ble_eq_true rfl) hd) (zk_2 _ e16) rfl rfl (Nat.le_of_ble_eq_true rfl) dL_law_499) ?_
  refine j_iload (j := 1) dL_law_502 rfl ?_
  refine j_icmp_eq (tgt := 509) dL_law_504 (by decide) (fun c19 => ?_) (fun c19 => ?_)
  · rw [if_pos c19] at h
    refine j_iload (j := 1) dL_law_509 rfl ?_
    refine j_if_ne (tgt := 526) dL_law_511 (by decide) (fun c20 => ?_) (fun c20 => ?_)
    · rw [if_pos c20] at h
      refine j_aload_n (j := 5) dL_law_514 rfl rfl ?_
      refine j_iconst (v := 0) dL_law_515 (by decide) ?_
      replace h := zbE h
      obtain ⟨a21, e22, h⟩ := h
      subst e22
      replace h := zbE h
      obtain ⟨l23, e24, h⟩ := h
      refine j_lald rfl e24 dL_law_516 ?_
      refine j_iload (j := 0) dL_law_517 rfl ?_
      refine j_i2l dL_law_519 ?_
      refine j_lcmp dL_law_520 ?_
      refine j_if_eq (tgt := 526) dL_law_521 (by decide) (fun c25 => ?_) (fun c25 => ?_)
      · rw [if_pos c25] at h
        exact J.sub (zall [2, 3, 4, 5, 6] rfl) (wfL_law_526 hd (some a1) x1 (some a10) (some a21) x4  G15 h hk)
      · rw [if_neg c25] at h
        replace h := zoE h
        obtain ⟨a, h, rfl⟩ := h
        replace hk := hk
        refine j_iconst (v := 0) dL_law_524 (by decide) ?_
        replace h := zcondE h
        obtain ⟨e26, h⟩ := h
        obtain rfl := Option.some.inj h
        exact j_zret hk.1 hk.2 rfl (zbb_n e26) dL_law_525
    · rw [if_neg c20] at h
      exact J.sub (zall [2, 3, 4, 5, 6] rfl) (wfL_law_526 hd (some a1) x1 (some a10) x3 x4  G15 h hk)
  · rw [if_neg c19] at h
    replace h := zoE h
    obtain ⟨a, h, rfl⟩ := h
    replace hk := hk
    refine j_iconst (v := 0) dL_law_507 (by decide) ?_
    replace h := zcondE h
    obtain ⟨e27, h⟩ := h
    obtain rfl := Option.some.inj h
    exact j_zret hk.1 hk.2 rfl (zbb_n e27) dL_law_508
def fL_law_470 (x0 : Option Nat) (x1 : Option Nat) (x2 : Option Nat) (x3 : Option Nat) (x4 : Int32)  (G : GS) : Option ((Int32 × GS) ⊕ ((Int32) × GS)) :=
  fL_law_1954 x0 x1 x2 x3 x4 G
theorem wfL_law_470 {F : zF} (hd : 904 ≤ F.2.2.2) (x0 : Option Nat) (x1 : Option Nat) (x2 : Option Nat) (x3 : Option Nat) (x4 : Int32)  (G : GS) {a : (Int32 × GS) ⊕ ((Int32) × GS)} (h : fL_law_470 x0 x1 x2 x3 x4  G = some a) (hk : (zcase (fun s : Int32 × GS => J mL_law F s.2 23 [(0, vR x0), (1, vR x1), (2, vR x2), (3, vR x3), (4, vI s.1)] []) (zKI F)) a) : J mL_law F G 470 [(0, vR x0), (1, vR x1), (2, vR x2), (3, vR x3), (4, vI x4)] [] := by
  unfold fL_law_470 at h
  refine j_goto (tgt := 1954) dL_law_470 (by decide) ?_
  exact J.sub (zall [0, 1, 2, 3, 4] rfl) (wfL_law_1954 hd x0 x1 x2 x3 x4  G h hk)
def fL_law_417 (x0 : Option Nat) (x1 : Option Nat) (x2 : Option Nat) (x3 : Option Nat) (x4 : Int32)  (G : GS) : Option ((Int32 × GS) ⊕ ((Int32) × GS)) :=
  x0.bind fun a1 => (zaI G 60 a1 (x4 + 1)).bind fun v3 => zb2 (fX0_leftOf_0 x1 v3 x3 G) fun v6 G7 => (zaI G7 60 a1 (x4 + 1)).bind fun v8 => x2.bind fun a10 => zk [2] G7 a10 <| zb2 (fX2_leftOf_0 a10 v8 G7) fun v14 G15 => zk [2] G15 a10 <| (fX2_thrown_0 a10 G15).bind fun v18 => if v18 = v6 then (if v6 = 0 then (x3.bind fun a21 => (zaL G15 51 a21 (0 : Int32)).bind fun l23 => if (lg_cmp l23 v14.toInt64) = 0 then (fL_law_470 (some a1) x1 (some a10) (some a21) x4 G15) else (zo (zcond (zbb 0) (some (0, G15))))) else (fL_law_470 (some a1) x1 (some a10) x3 x4 G15)) else (zo (zcond (zbb 0) (some (0, G15))))
theorem wfL_law_417 {F : zF} (hd : 904 ≤ F.2.2.2) (x0 : Option Nat) (x1 : Option Nat) (x2 : Option Nat) (x3 : Option Nat) (x4 : Int32)  (G : GS) {a : (Int32 × GS) ⊕ ((Int32) × GS)} (h : fL_law_417 x0 x1 x2 x3 x4  G = some a) (hk : (zcase (fun s : Int32 × GS => J mL_law F s.2 23 [(0, vR x0), (1, vR x1), (2, vR x2), (3, vR x3), (4, vI s.1)] []) (zKI F)) a) : J mL_law F G 417 [(0, vR x0), (1, vR x1), (2, vR x2), (3, vR x3), (4, vI x4)] [] := by
  unfold fL_law_417 at h
  refine j_aload_n (j := 1) dL_law_417 rfl rfl ?_
  refine j_aload_n (j := 0) dL_law_418 rfl rfl ?_
  refine j_iload (j := 4) dL_law_419 rfl ?_
  refine j_iconst (v := 1) dL_law_421 (by decide) ?_
  refine j_iadd dL_law_422 ?_
  replace h := zbE h
  obtain ⟨a1, e2, h⟩ := h
  subst e2
  replace h := zbE h
  obtain ⟨v3, e4, h⟩ := h
  refine j_iald (Or.inr rfl) e4 dL_law_423 ?_
  refine j_aload_n (j := 3) dL_law_424 rfl rfl ?_
  replace h := zb2E h
  obtain ⟨v6, G7, e5, h⟩ := h
  refine j_cont (zrSW (As := [vR x1, vI v3, vR x3]) msX0_116 (yX0_leftOf_ok e5) (Nat.le_trans (Nat.le_of_ble_eq_true rfl) hd) rfl rfl (Nat.le_of_ble_eq_true rfl) dL_law_425) ?_
  refine j_istore (lv' := [(5, vI v6), (0, vR (some a1)), (1, vR x1), (2, vR x2), (3, vR x3), (4, vI x4)]) dL_law_428 (Nat.le_of_ble_eq_true rfl) rfl ?_
  refine j_aload_n (j := 3) dL_law_430 rfl rfl ?_
  refine j_aload_n (j := 1) dL_law_431 rfl rfl ?_
  refine j_iload (j := 5) dL_law_432 rfl ?_
  refine j_iconst (v := 1) dL_law_434 (by decide) ?_
  refine j_iadd dL_law_435 ?_
  replace h := zbE h
  obtain ⟨v8, e9, h⟩ := h
  refine j_iald (Or.inr rfl) e9 dL_law_436 ?_
  replace h := zbE h
  obtain ⟨a10, e11, h⟩ := h
  subst e11
  replace h := zkE h
  obtain ⟨e12, h⟩ := h
  replace h := zb2E h
  obtain ⟨v14, G15, e13, h⟩ := h
  refine j_cont (zrV (As := [vI v8]) msX0_118 (yX2_leftOf_ok e13) (Nat.le_trans (Nat.le_of_ble_eq_true rfl) hd) (zk_2 _ e12) rfl rfl (Nat.le_of_ble_eq_true rfl) dL_law_437) ?_
  refine j_istore (lv' := [(6, vI v14), (5, vI v6), (0, vR (some a1)), (1, vR x1), (2, vR (some a10)), (3, vR x3), (4, vI x4)]) dL_law_440 (Nat.le_of_ble_eq_true rfl) rfl ?_
  refine j_aload_n (j := 4) dL_law_442 rfl rfl ?_
  replace h := zkE h
  obtain ⟨e16, h⟩ := h
  replace h := zbE h
  obtain ⟨v18, e17, h⟩ := h
  refine j_cont (zrV (As := []) msX0_102 (yX2_thrown_ok e17) (Nat.le_trans (Nat.le_of_ble_eq_true rfl) hd) (zk_2 _ e16) rfl rfl (Nat.le_of_ble_eq_true rfl) dL_law_443) ?_
  refine j_iload (j := 1) dL_law_446 rfl ?_
  refine j_icmp_eq (tgt := 453) dL_law_448 (by decide) (fun c19 => ?_) (fun c19 => ?_)
  · rw [if_pos c19] at h
    refine j_iload (j := 1) dL_law_453 rfl ?_
    refine j_if_ne (tgt := 470) dL_law_455 (by decide) (fun c20 => ?_) (fun c20 => ?_)
    · rw [if_pos c20] at h
      refine j_aload_n (j := 5) dL_law_458 rfl rfl ?_
      refine j_iconst (v := 0) dL_law_459 (by decide) ?_
      replace h := zbE h
      obtain ⟨a21, e22, h⟩ := h
      subst e22
      replace h := zbE h
      obtain ⟨l23, e24, h⟩ := h
      refine j_lald rfl e24 dL_law_460 ?_
      refine j_iload (j := 0) dL_law_461 rfl ?_
      refine j_i2l dL_law_463 ?_
      refine j_lcmp dL_law_464 ?_
      refine j_if_eq (tgt := 470) dL_law_465 (by decide) (fun c25 => ?_) (fun c25 => ?_)
      · rw [if_pos c25] at h
        exact J.sub (zall [2, 3, 4, 5, 6] rfl) (wfL_law_470 hd (some a1) x1 (some a10) (some a21) x4  G15 h hk)
      · rw [if_neg c25] at h
        replace h := zoE h
        obtain ⟨a, h, rfl⟩ := h
        replace hk := hk
        refine j_iconst (v := 0) dL_law_468 (by decide) ?_
        replace h := zcondE h
        obtain ⟨e26, h⟩ := h
        obtain rfl := Option.some.inj h
        exact j_zret hk.1 hk.2 rfl (zbb_n e26) dL_law_469
    · rw [if_neg c20] at h
      exact J.sub (zall [2, 3, 4, 5, 6] rfl) (wfL_law_470 hd (some a1) x1 (some a10) x3 x4  G15 h hk)
  · rw [if_neg c19] at h
    replace h := zoE h
    obtain ⟨a, h, rfl⟩ := h
    replace hk := hk
    refine j_iconst (v := 0) dL_law_451 (by decide) ?_
    replace h := zcondE h
    obtain ⟨e27, h⟩ := h
    obtain rfl := Option.some.inj h
    exact j_zret hk.1 hk.2 rfl (zbb_n e27) dL_law_452
def fL_law_404 (x0 : Option Nat) (x1 : Option Nat) (x2 : Option Nat) (x3 : Option Nat) (x4 : Int32)  (G : GS) : Option ((Int32 × GS) ⊕ ((Int32) × GS)) :=
  x1.bind fun a1 => zk [1] G a1 <| (fX1_ruleCount_0 a1 G).bind fun v5 => x2.bind fun a6 => zk [2] G a6 <| zb2 (fX2_ruleCount_0 a6 G) fun v10 G11 => if v5 = v10 then (fL_law_1954 x0 (some a1) (some a6) x3 x4 G11) else (zo (zcond (zbb 0) (some (0, G11))))
theorem wfL_law_404 {F : zF} (hd : 904 ≤ F.2.2.2) (x0 : Option Nat) (x1 : Option Nat) (x2 : Option Nat) (x3 : Option Nat) (x4 : Int32)  (G : GS) {a : (Int32 × GS) ⊕ ((Int32) × GS)} (h : fL_law_404 x0 x1 x2 x3 x4  G = some a) (hk : (zcase (fun s : Int32 × GS => J mL_law F s.2 23 [(0, vR x0), (1, vR x1), (2, vR x2), (3, vR x3), (4, vI s.1)] []) (zKI F)) a) : J mL_law F G 404 [(0, vR x0), (1, vR x1), (2, vR x2), (3, vR x3), (4, vI x4)] [] := by
  unfold fL_law_404 at h
  refine j_aload_n (j := 1) dL_law_404 rfl rfl ?_
  replace h := zbE h
  obtain ⟨a1, e2, h⟩ := h
  subst e2
  replace h := zkE h
  obtain ⟨e3, h⟩ := h
  replace h := zbE h
  obtain ⟨v5, e4, h⟩ := h
  refine j_cont (zrV (As := []) msX0_112 (yX1_ruleCount_ok e4) (Nat.le_trans (Nat.le_of_ble_eq_true rfl) hd) (zk_1 _ e3) rfl rfl (Nat.le_of_ble_eq_true rfl) dL_law_405) ?_
  refine j_aload_n (j := 2) dL_law_408 rfl rfl ?_
  replace h := zbE h
  obtain ⟨a6, e7, h⟩ := h
  subst e7
  replace h := zkE h
  obtain ⟨e8, h⟩ := h
  replace h := zb2E h
  obtain ⟨v10, G11, e9, h⟩ := h
  refine j_cont (zrV (As := []) msX0_115 (yX2_ruleCount_ok e9) (Nat.le_trans (Nat.le_of_ble_eq_true rfl) hd) (zk_2 _ e8) rfl rfl (Nat.le_of_ble_eq_true rfl) dL_law_409) ?_
  refine j_icmp_eq (tgt := 1954) dL_law_412 (by decide) (fun c12 => ?_) (fun c12 => ?_)
  · rw [if_pos c12] at h
    exact J.sub (zall [0, 1, 2, 3, 4] rfl) (wfL_law_1954 hd x0 (some a1) (some a6) x3 x4  G11 h hk)
  · rw [if_neg c12] at h
    replace h := zoE h
    obtain ⟨a, h, rfl⟩ := h
    replace hk := hk
    refine j_iconst (v := 0) dL_law_415 (by decide) ?_
    replace h := zcondE h
    obtain ⟨e13, h⟩ := h
    obtain rfl := Option.some.inj h
    exact j_zret hk.1 hk.2 rfl (zbb_n e13) dL_law_416
def fL_law_401 (x0 : Option Nat) (x1 : Option Nat) (x2 : Option Nat) (x3 : Option Nat) (x4 : Int32)  (G : GS) : Option ((Int32 × GS) ⊕ ((Int32) × GS)) :=
  fL_law_1954 x0 x1 x2 x3 x4 G
theorem wfL_law_401 {F : zF} (hd : 904 ≤ F.2.2.2) (x0 : Option Nat) (x1 : Option Nat) (x2 : Option Nat) (x3 : Option Nat) (x4 : Int32)  (G : GS) {a : (Int32 × GS) ⊕ ((Int32) × GS)} (h : fL_law_401 x0 x1 x2 x3 x4  G = some a) (hk : (zcase (fun s : Int32 × GS => J mL_law F s.2 23 [(0, vR x0), (1, vR x1), (2, vR x2), (3, vR x3), (4, vI s.1)] []) (zKI F)) a) : J mL_law F G 401 [(0, vR x0), (1, vR x1), (2, vR x2), (3, vR x3), (4, vI x4)] [] := by
  unfold fL_law_401 at h
  refine j_goto (tgt := 1954) dL_law_401 (by decide) ?_
  exact J.sub (zall [0, 1, 2, 3, 4] rfl) (wfL_law_1954 hd x0 x1 x2 x3 x4  G h hk)
def fL_law_348 (x0 : Option Nat) (x1 : Option Nat) (x2 : Option Nat) (x3 : Option Nat) (x4 : Int32)  (G : GS) : Option ((Int32 × GS) ⊕ ((Int32) × GS)) :=
  x0.bind fun a1 => (zaI G 60 a1 (x4 + 1)).bind fun v3 => zb2 (fX0_removeRule_0 x1 v3 x3 G) fun v6 G7 => (zaI G7 60 a1 (x4 + 1)).bind fun v8 => x2.bind fun a10 => zk [2] G7 a10 <| zb2 (fX2_removeRule_0 a10 v8 G7) fun v14 G15 => zk [2] G15 a10 <| (fX2_thrown_0 a10 G15).bind fun v18 => if v18 = v6 then (if v6 = 0 then (x3.bind fun a21 => (zaL G15 51 a21 (0 : Int32)).bind fun l23 => if (lg_cmp l23 v14.toInt64) = 0 then (fL_law_401 (some a1) x1 (some a10) (some a21) x4 G15) else (zo (zcond (zbb 0) (some (0, G15))))) else (fL_law_401 (some a1) x1 (some a10) x3 x4 G15)) else (zo (zcond (zbb 0) (some (0, G15))))
theorem wfL_law_348 {F : zF} (hd : 904 ≤ F.2.2.2) (x0 : Option Nat) (x1 : Option Nat) (x2 : Option Nat) (x3 : Option Nat) (x4 : Int32)  (G : GS) {a : (Int32 × GS) ⊕ ((Int32) × GS)} (h : fL_law_348 x0 x1 x2 x3 x4  G = some a) (hk : (zcase (fun s : Int32 × GS => J mL_law F s.2 23 [(0, vR x0), (1, vR x1), (2, vR x2), (3, vR x3), (4, vI s.1)] []) (zKI F)) a) : J mL_law F G 348 [(0, vR x0), (1, vR x1), (2, vR x2), (3, vR x3), (4, vI x4)] [] := by
  unfold fL_law_348 at h
  refine j_aload_n (j := 1) dL_law_348 rfl rfl ?_
  refine j_aload_n (j := 0) dL_law_349 rfl rfl ?_
  refine j_iload (j := 4) dL_law_350 rfl ?_
  refine j_iconst (v := 1) dL_law_352 (by decide) ?_
  refine j_iadd dL_law_353 ?_
  replace h := zbE h
  obtain ⟨a1, e2, h⟩ := h
  subst e2
  replace h := zbE h
  obtain ⟨v3, e4, h⟩ := h
  refine j_iald (Or.inr rfl) e4 dL_law_354 ?_
  refine j_aload_n (j := 3) dL_law_355 rfl rfl ?_
  replace h := zb2E h
  obtain ⟨v6, G7, e5, h⟩ := h
  refine j_cont (zrSW (As := [vR x1, vI v3, vR x3]) msX0_109 (yX0_removeRule_ok e5) (Nat.le_trans (Nat.le_of_ble_eq_true rfl) hd) rfl rfl (Nat.le_of_ble_eq_true rfl) dL_law_356) ?_
  refine j_istore (lv' := [(5, vI v6), (0, vR (some a1)), (1, vR x1), (2, vR x2), (3, vR x3), (4, vI x4)]) dL_law_359 (Nat.le_of_ble_eq_true rfl) rfl ?_
  refine j_aload_n (j := 3) dL_law_361 rfl rfl ?_
  refine j_aload_n (j := 1) dL_law_362 rfl rfl ?_
  refine j_iload (j := 5) dL_law_363 rfl ?_
  refine j_iconst (v := 1) dL_law_365 (by decide) ?_
  refine j_iadd dL_law_366 ?_
  replace h := zbE h
  obtain ⟨v8, e9, h⟩ := h
  refine j_iald (Or.inr rfl) e9 dL_law_367 ?_
  replace h := zbE h
  obtain ⟨a10, e11, h⟩ := h
  subst e11
  replace h := zkE h
  obtain ⟨e12, h⟩ := h
  replace h := zb2E h
  obtain ⟨v14, G15, e13, h⟩ := h
  refine j_cont (zrV (As := [vI v8]) msX0_111 (yX2_removeRule_ok e13) (Nat.le_trans (Nat.le_of_ble_eq_true rfl) hd) (zk_2 _ e12) rfl rfl (Nat.le_of_ble_eq_true rfl) dL_law_368) ?_
  refine j_istore (lv' := [(6, vI v14), (5, vI v6), (0, vR (some a1)), (1, vR x1), (2, vR (some a10)), (3, vR x3), (4, vI x4)]) dL_law_371 (Nat.le_of_ble_eq_true rfl) rfl ?_
  refine j_aload_n (j := 4) dL_law_373 rfl rfl ?_
  replace h := zkE h
  obtain ⟨e16, h⟩ := h
  replace h := zbE h
  obtain ⟨v18, e17, h⟩ := h
  refine j_cont (zrV (As := []) msX0_102 (yX2_thrown_ok e17) (Nat.le_trans (Nat.le_of_ble_eq_true rfl) hd) (zk_2 _ e16) rfl rfl (Nat.le_of_ble_eq_true rfl) dL_law_374) ?_
  refine j_iload (j := 1) dL_law_377 rfl ?_
  refine j_icmp_eq (tgt := 384) dL_law_379 (by decide) (fun c19 => ?_) (fun c19 => ?_)
  · rw [if_pos c19] at h
    refine j_iload (j := 1) dL_law_384 rfl ?_
    refine j_if_ne (tgt := 401) dL_law_386 (by decide) (fun c20 => ?_) (fun c20 => ?_)
    · rw [if_pos c20] at h
      refine j_aload_n (j := 5) dL_law_389 rfl rfl ?_
      refine j_iconst (v := 0) dL_law_390 (by decide) ?_
      replace h := zbE h
      obtain ⟨a21, e22, h⟩ := h
      subst e22
      replace h := zbE h
      obtain ⟨l23, e24, h⟩ := h
      refine j_lald rfl e24 dL_law_391 ?_
      refine j_iload (j := 0) dL_law_392 rfl ?_
      refine j_i2l dL_law_394 ?_
      refine j_lcmp dL_law_395 ?_
      refine j_if_eq (tgt := 401) dL_law_396 (by decide) (fun c25 => ?_) (fun c25 => ?_)
      · rw [if_pos c25] at h
        exact J.sub (zall [2, 3, 4, 5, 6] rfl) (wfL_law_401 hd (some a1) x1 (some a10) (some a21) x4  G15 h hk)
      · rw [if_neg c25] at h
        replace h := zoE h
        obtain ⟨a, h, rfl⟩ := h
        replace hk := hk
        refine j_iconst (v := 0) dL_law_399 (by decide) ?_
        replace h := zcondE h
        obtain ⟨e26, h⟩ := h
        obtain rfl := Option.some.inj h
        exact j_zret hk.1 hk.2 rfl (zbb_n e26) dL_law_400
    · rw [if_neg c20] at h
      exact J.sub (zall [2, 3, 4, 5, 6] rfl) (wfL_law_401 hd (some a1) x1 (some a10) x3 x4  G15 h hk)
  · rw [if_neg c19] at h
    replace h := zoE h
    obtain ⟨a, h, rfl⟩ := h
    replace hk := hk
    refine j_iconst (v := 0) dL_law_382 (by decide) ?_
    replace h := zcondE h
    obtain ⟨e27, h⟩ := h
    obtain rfl := Option.some.inj h
    exact j_zret hk.1 hk.2 rfl (zbb_n e27) dL_law_383
def fL_law_345 (x0 : Option Nat) (x1 : Option Nat) (x2 : Option Nat) (x3 : Option Nat) (x4 : Int32)  (G : GS) : Option ((Int32 × GS) ⊕ ((Int32) × GS)) :=
  fL_law_1954 x0 x1 x2 x3 x4 G
theorem wfL_law_345 {F : zF} (hd : 904 ≤ F.2.2.2) (x0 : Option Nat) (x1 : Option Nat) (x2 : Option Nat) (x3 : Option Nat) (x4 : Int32)  (G : GS) {a : (Int32 × GS) ⊕ ((Int32) × GS)} (h : fL_law_345 x0 x1 x2 x3 x4  G = some a) (hk : (zcase (fun s : Int32 × GS => J mL_law F s.2 23 [(0, vR x0), (1, vR x1), (2, vR x2), (3, vR x3), (4, vI s.1)] []) (zKI F)) a) : J mL_law F G 345 [(0, vR x0), (1, vR x1), (2, vR x2), (3, vR x3), (4, vI x4)] [] := by
  unfold fL_law_345 at h
  refine j_goto (tgt := 1954) dL_law_345 (by decide) ?_
  exact J.sub (zall [0, 1, 2, 3, 4] rfl) (wfL_law_1954 hd x0 x1 x2 x3 x4  G h hk)
def fL_law_280 (x0 : Option Nat) (x1 : Option Nat) (x2 : Option Nat) (x3 : Option Nat) (x4 : Int32)  (G : GS) : Option ((Int32 × GS) ⊕ ((Int32) × GS)) :=
  x0.bind fun a1 => (zaI G 60 a1 (x4 + 1)).bind fun v3 => (zaI G 60 a1 (x4 + 2)).bind fun v5 => zb2 (fX0_append_0 x1 v3 v5 x3 G) fun v8 G9 => (zaI G9 60 a1 (x4 + 1)).bind fun v10 => (zaI G9 60 a1 (x4 + 2)).bind fun v12 => x2.bind fun a14 => zk [2] G9 a14 <| zb2 (fX2_append_0 a14 v10 v12 G9) fun v18 G19 => zk [2] G19 a14 <| (fX2_thrown_0 a14 G19).bind fun v22 => if v22 = v8 then (if v8 = 0 then (x3.bind fun a25 => (zaL G19 51 a25 (0 : Int32)).bind fun l27 => if (lg_cmp l27 v18.toInt64) = 0 then (fL_law_345 (some a1) x1 (some a14) (some a25) x4 G19) else (zo (zcond (zbb 0) (some (0, G19))))) else (fL_law_345 (some a1) x1 (some a14) x3 x4 G19)) else (zo (zcond (zbb 0) (some (0, G19))))
theorem wfL_law_280 {F : zF} (hd : 904 ≤ F.2.2.2) (x0 : Option Nat) (x1 : Option Nat) (x2 : Option Nat) (x3 : Option Nat) (x4 : Int32)  (G : GS) {a : (Int32 × GS) ⊕ ((Int32) × GS)} (h : fL_law_280 x0 x1 x2 x3 x4  G = some a) (hk : (zcase (fun s : Int32 × GS => J mL_law F s.2 23 [(0, vR x0), (1, vR x1), (2, vR x2), (3, vR x3), (4, vI s.1)] []) (zKI F)) a) : J mL_law F G 280 [(0, vR x0), (1, vR x1), (2, vR x2), (3, vR x3), (4, vI x4)] [] := by
  unfold fL_law_280 at h
  refine j_aload_n (j := 1) dL_law_280 rfl rfl ?_
  refine j_aload_n (j := 0) dL_law_281 rfl rfl ?_
  refine j_iload (j := 4) dL_law_282 rfl ?_
  refine j_iconst (v := 1) dL_law_284 (by decide) ?_
  refine j_iadd dL_law_285 ?_
  replace h := zbE h
  obtain ⟨a1, e2, h⟩ := h
  subst e2
  replace h := zbE h
  obtain ⟨v3, e4, h⟩ := h
  refine j_iald (Or.inr rfl) e4 dL_law_286 ?_
  refine j_aload_n (j := 0) dL_law_287 rfl rfl ?_
  refine j_iload (j := 4) dL_law_288 rfl ?_
  refine j_iconst (v := 2) dL_law_290 (by decide) ?_
  refine j_iadd dL_law_291 ?_
  replace h := zbE h
  obtain ⟨v5, e6, h⟩ := h
  refine j_iald (Or.inr rfl) e6 dL_law_292 ?_
  refine j_aload_n (j := 3) dL_law_293 rfl rfl ?_
  replace h := zb2E h
  obtain ⟨v8, G9, e7, h⟩ := h
  refine j_cont (zrSW (As := [vR x1, vI v3, vI v5, vR x3]) msX0_105 (yX0_append_ok e7) (Nat.le_trans (Nat.le_of_ble_eq_true rfl) hd) rfl rfl (Nat.le_of_ble_eq_true rfl) dL_law_294) ?_
  refine j_istore (lv' := [(5, vI v8), (0, vR (some a1)), (1, vR x1), (2, vR x2), (3, vR x3), (4, vI x4)]) dL_law_297 (Nat.le_of_ble_eq_true rfl) rfl ?_
  refine j_aload_n (j := 3) dL_law_299 rfl rfl ?_
  refine j_aload_n (j := 1) dL_law_300 rfl rfl ?_
  refine j_iload (j := 5) dL_law_301 rfl ?_
  refine j_iconst (v := 1) dL_law_303 (by decide) ?_
  refine j_iadd dL_law_304 ?_
  replace h := zbE h
  obtain ⟨v10, e11, h⟩ := h
  refine j_iald (Or.inr rfl) e11 dL_law_305 ?_
  refine j_aload_n (j := 1) dL_law_306 rfl rfl ?_
  refine j_iload (j := 5) dL_law_307 rfl ?_
  refine j_iconst (v := 2) dL_law_309 (by decide) ?_
  refine j_iadd dL_law_310 ?_
  replace h := zbE h
  obtain ⟨v12, e13, h⟩ := h
  refine j_iald (Or.inr rfl) e13 dL_law_311 ?_
  replace h := zbE h
  obtain ⟨a14, e15, h⟩ := h
  subst e15
  replace h := zkE h
  obtain ⟨e16, h⟩ := h
  replace h := zb2E h
  obtain ⟨v18, G19, e17, h⟩ := h
  refine j_cont (zrV (As := [vI v10, vI v12]) msX0_108 (yX2_append_ok e17) (Nat.le_trans (Nat.le_of_ble_eq_true rfl) hd) (zk_2 _ e16) rfl rfl (Nat.le_of_ble_eq_true rfl) dL_law_312) ?_
  refine j_istore (lv' := [(6, vI v18), (5, vI v8), (0, vR (some a1)), (1, vR x1), (2, vR (some a14)), (3, vR x3), (4, vI x4)]) dL_law_315 (Nat.le_of_ble_eq_true rfl) rfl ?_
  refine j_aload_n (j := 4) dL_law_317 rfl rfl ?_
  replace h := zkE h
  obtain ⟨e20, h⟩ := h
  replace h := zbE h
  obtain ⟨v22, e21, h⟩ := h
  refine j_cont (zrV (As := []) msX0_102 (yX2_thrown_ok e21) (Nat.le_trans (Nat.le_of_ble_eq_true rfl) hd) (zk_2 _ e20) rfl rfl (Nat.le_of_ble_eq_true rfl) dL_law_318) ?_
  refine j_iload (j := 1) dL_law_321 rfl ?_
  refine j_icmp_eq (tgt := 328) dL_law_323 (by decide) (fun c23 => ?_) (fun c23 => ?_)
  · rw [if_pos c23] at h
    refine j_iload (j := 1) dL_law_328 rfl ?_
    refine j_if_ne (tgt := 345) dL_law_330 (by decide) (fun c24 => ?_) (fun c24 => ?_)
    · rw [if_pos c24] at h
      refine j_aload_n (j := 5) dL_law_333 rfl rfl ?_
      refine j_iconst (v := 0) dL_law_334 (by decide) ?_
      replace h := zbE h
      obtain ⟨a25, e26, h⟩ := h
      subst e26
      replace h := zbE h
      obtain ⟨l27, e28, h⟩ := h
      refine j_lald rfl e28 dL_law_335 ?_
      refine j_iload (j := 0) dL_law_336 rfl ?_
      refine j_i2l dL_law_338 ?_
      refine j_lcmp dL_law_339 ?_
      refine j_if_eq (tgt := 345) dL_law_340 (by decide) (fun c29 => ?_) (fun c29 => ?_)
      · rw [if_pos c29] at h
        exact J.sub (zall [2, 3, 4, 5, 6] rfl) (wfL_law_345 hd (some a1) x1 (some a14) (some a25) x4  G19 h hk)
      · rw [if_neg c29] at h
        replace h := zoE h
        obtain ⟨a, h, rfl⟩ := h
        replace hk := hk
        refine j_iconst (v := 0) dL_law_343 (by decide) ?_
        replace h := zcondE h
        obtain ⟨e30, h⟩ := h
        obtain rfl := Option.some.inj h
        exact j_zret hk.1 hk.2 rfl (zbb_n e30) dL_law_344
    · rw [if_neg c24] at h
      exact J.sub (zall [2, 3, 4, 5, 6] rfl) (wfL_law_345 hd (some a1) x1 (some a14) x3 x4  G19 h hk)
  · rw [if_neg c23] at h
    replace h := zoE h
    obtain ⟨a, h, rfl⟩ := h
    replace hk := hk
    refine j_iconst (v := 0) dL_law_326 (by decide) ?_
    replace h := zcondE h
    obtain ⟨e31, h⟩ := h
    obtain rfl := Option.some.inj h
    exact j_zret hk.1 hk.2 rfl (zbb_n e31) dL_law_327
def fL_law_277 (x0 : Option Nat) (x1 : Option Nat) (x2 : Option Nat) (x3 : Option Nat) (x4 : Int32)  (G : GS) : Option ((Int32 × GS) ⊕ ((Int32) × GS)) :=
  fL_law_1954 x0 x1 x2 x3 x4 G
theorem wfL_law_277 {F : zF} (hd : 904 ≤ F.2.2.2) (x0 : Option Nat) (x1 : Option Nat) (x2 : Option Nat) (x3 : Option Nat) (x4 : Int32)  (G : GS) {a : (Int32 × GS) ⊕ ((Int32) × GS)} (h : fL_law_277 x0 x1 x2 x3 x4  G = some a) (hk : (zcase (fun s : Int32 × GS => J mL_law F s.2 23 [(0, vR x0), (1, vR x1), (2, vR x2), (3, vR x3), (4, vI s.1)] []) (zKI F)) a) : J mL_law F G 277 [(0, vR x0), (1, vR x1), (2, vR x2), (3, vR x3), (4, vI x4)] [] := by
  unfold fL_law_277 at h
  refine j_goto (tgt := 1954) dL_law_277 (by decide) ?_
  exact J.sub (zall [0, 1, 2, 3, 4] rfl) (wfL_law_1954 hd x0 x1 x2 x3 x4  G h hk)
def fL_law_224 (x0 : Option Nat) (x1 : Option Nat) (x2 : Option Nat) (x3 : Option Nat) (x4 : Int32)  (G : GS) : Option ((Int32 × GS) ⊕ ((Int32) × GS)) :=
  x0.bind fun a1 => (zaI G 60 a1 (x4 + 1)).bind fun v3 => zb2 (fX0_addRule_0 x1 v3 x3 G) fun v6 G7 => (zaI G7 60 a1 (x4 + 1)).bind fun v8 => x2.bind fun a10 => zk [2] G7 a10 <| zb2 (fX2_addRule_0 a10 v8 G7) fun v14 G15 => zk [2] G15 a10 <| (fX2_thrown_0 a10 G15).bind fun v18 => if v18 = v6 then (if v6 = 0 then (x3.bind fun a21 => (zaL G15 51 a21 (0 : Int32)).bind fun l23 => if (lg_cmp l23 v14.toInt64) = 0 then (fL_law_277 (some a1) x1 (some a10) (some a21) x4 G15) else (zo (zcond (zbb 0) (some (0, G15))))) else (fL_law_277 (some a1) x1 (some a10) x3 x4 G15)) else (zo (zcond (zbb 0) (some (0, G15))))
theorem wfL_law_224 {F : zF} (hd : 904 ≤ F.2.2.2) (x0 : Option Nat) (x1 : Option Nat) (x2 : Option Nat) (x3 : Option Nat) (x4 : Int32)  (G : GS) {a : (Int32 × GS) ⊕ ((Int32) × GS)} (h : fL_law_224 x0 x1 x2 x3 x4  G = some a) (hk : (zcase (fun s : Int32 × GS => J mL_law F s.2 23 [(0, vR x0), (1, vR x1), (2, vR x2), (3, vR x3), (4, vI s.1)] []) (zKI F)) a) : J mL_law F G 224 [(0, vR x0), (1, vR x1), (2, vR x2), (3, vR x3), (4, vI x4)] [] := by
  unfold fL_law_224 at h
  refine j_aload_n (j := 1) dL_law_224 rfl rfl ?_
  refine j_aload_n (j := 0) dL_law_225 rfl rfl ?_
  refine j_iload (j := 4) dL_law_226 rfl ?_
  refine j_iconst (v := 1) dL_law_228 (by decide) ?_
  refine j_iadd dL_law_229 ?_
  replace h := zbE h
  obtain ⟨a1, e2, h⟩ := h
  subst e2
  replace h := zbE h
  obtain ⟨v3, e4, h⟩ := h
  refine j_iald (Or.inr rfl) e4 dL_law_230 ?_
  refine j_aload_n (j := 3) dL_law_231 rfl rfl ?_
  replace h := zb2E h
  obtain ⟨v6, G7, e5, h⟩ := h
  refine j_cont (zrSW (As := [vR x1, vI v3, vR x3]) msX0_96 (yX0_addRule_ok e5) (Nat.le_trans (Nat.le_of_ble_eq_true rfl) hd) rfl rfl (Nat.le_of_ble_eq_true rfl) dL_law_232) ?_
  refine j_istore (lv' := [(5, vI v6), (0, vR (some a1)), (1, vR x1), (2, vR x2), (3, vR x3), (4, vI x4)]) dL_law_235 (Nat.le_of_ble_eq_true rfl) rfl ?_
  refine j_aload_n (j := 3) dL_law_237 rfl rfl ?_
  refine j_aload_n (j := 1) dL_law_238 rfl rfl ?_
  refine j_iload (j := 5) dL_law_239 rfl ?_
  refine j_iconst (v := 1) dL_law_241 (by decide) ?_
  refine j_iadd dL_law_242 ?_
  replace h := zbE h
  obtain ⟨v8, e9, h⟩ := h
  refine j_iald (Or.inr rfl) e9 dL_law_243 ?_
  replace h := zbE h
  obtain ⟨a10, e11, h⟩ := h
  subst e11
  replace h := zkE h
  obtain ⟨e12, h⟩ := h
  replace h := zb2E h
  obtain ⟨v14, G15, e13, h⟩ := h
  refine j_cont (zrV (As := [vI v8]) msX0_101 (yX2_addRule_ok e13) (Nat.le_trans (Nat.le_of_ble_eq_true rfl) hd) (zk_2 _ e12) rfl rfl (Nat.le_of_ble_eq_true rfl) dL_law_244) ?_
  refine j_istore (lv' := [(6, vI v14), (5, vI v6), (0, vR (some a1)), (1, vR x1), (2, vR (some a10)), (3, vR x3), (4, vI x4)]) dL_law_247 (Nat.le_of_ble_eq_true rfl) rfl ?_
  refine j_aload_n (j := 4) dL_law_249 rfl rfl ?_
  replace h := zkE h
  obtain ⟨e16, h⟩ := h
  replace h := zbE h
  obtain ⟨v18, e17, h⟩ := h
  refine j_cont (zrV (As := []) msX0_102 (yX2_thrown_ok e17) (Nat.le_trans (Nat.le_of_ble_eq_true rfl) hd) (zk_2 _ e16) rfl rfl (Nat.le_of_ble_eq_true rfl) dL_law_250) ?_
  refine j_iload (j := 1) dL_law_253 rfl ?_
  refine j_icmp_eq (tgt := 260) dL_law_255 (by decide) (fun c19 => ?_) (fun c19 => ?_)
  · rw [if_pos c19] at h
    refine j_iload (j := 1) dL_law_260 rfl ?_
    refine j_if_ne (tgt := 277) dL_law_262 (by decide) (fun c20 => ?_) (fun c20 => ?_)
    · rw [if_pos c20] at h
      refine j_aload_n (j := 5) dL_law_265 rfl rfl ?_
      refine j_iconst (v := 0) dL_law_266 (by decide) ?_
      replace h := zbE h
      obtain ⟨a21, e22, h⟩ := h
      subst e22
      replace h := zbE h
      obtain ⟨l23, e24, h⟩ := h
      refine j_lald rfl e24 dL_law_267 ?_
      refine j_iload (j := 0) dL_law_268 rfl ?_
      refine j_i2l dL_law_270 ?_
      refine j_lcmp dL_law_271 ?_
      refine j_if_eq (tgt := 277) dL_law_272 (by decide) (fun c25 => ?_) (fun c25 => ?_)
      · rw [if_pos c25] at h
        exact J.sub (zall [2, 3, 4, 5, 6] rfl) (wfL_law_277 hd (some a1) x1 (some a10) (some a21) x4  G15 h hk)
      · rw [if_neg c25] at h
        replace h := zoE h
        obtain ⟨a, h, rfl⟩ := h
        replace hk := hk
        refine j_iconst (v := 0) dL_law_275 (by decide) ?_
        replace h := zcondE h
        obtain ⟨e26, h⟩ := h
        obtain rfl := Option.some.inj h
        exact j_zret hk.1 hk.2 rfl (zbb_n e26) dL_law_276
    · rw [if_neg c20] at h
      exact J.sub (zall [2, 3, 4, 5, 6] rfl) (wfL_law_277 hd (some a1) x1 (some a10) x3 x4  G15 h hk)
  · rw [if_neg c19] at h
    replace h := zoE h
    obtain ⟨a, h, rfl⟩ := h
    replace hk := hk
    refine j_iconst (v := 0) dL_law_258 (by decide) ?_
    replace h := zcondE h
    obtain ⟨e27, h⟩ := h
    obtain rfl := Option.some.inj h
    exact j_zret hk.1 hk.2 rfl (zbb_n e27) dL_law_259
def fbL_law_23 (x0 : Option Nat) (x1 : Option Nat) (x2 : Option Nat) (x3 : Option Nat) (x4 : Int32)  (G : GS) : Option ((Int32 × GS) ⊕ ((Int32) × GS)) :=
  x0.bind fun a1 => (zln G a1).bind fun v3 => if (v3 - 4) < x4 then (zo (zcond (zbb 1) (some (1, G)))) else ((zaI G 60 a1 x4).bind fun v7 => if (v7 &&& 63) = 0 then (fL_law_224 (some a1) x1 x2 x3 x4 G) else (if (v7 &&& 63) = 1 then (fL_law_280 (some a1) x1 x2 x3 x4 G) else (if (v7 &&& 63) = 2 then (fL_law_348 (some a1) x1 x2 x3 x4 G) else (if (v7 &&& 63) = 3 then (fL_law_404 (some a1) x1 x2 x3 x4 G) else (if (v7 &&& 63) = 4 then (fL_law_417 (some a1) x1 x2 x3 x4 G) else (if (v7 &&& 63) = 5 then (fL_law_473 (some a1) x1 x2 x3 x4 G) else (if (v7 &&& 63) = 6 then (fL_law_529 (some a1) x1 x2 x3 x4 G) else (if (v7 &&& 63) = 7 then (fL_law_597 (some a1) x1 x2 x3 x4 G) else (if (v7 &&& 63) = 8 then (fL_law_610 (some a1) x1 x2 x3 x4 G) else (if (v7 &&& 63) = 9 then (fL_law_673 (some a1) x1 x2 x3 x4 G) else (if (v7 &&& 63) = 10 then (fL_law_729 (some a1) x1 x2 x3 x4 G) else (if (v7 &&& 63) = 11 then (fL_law_785 (some a1) x1 x2 x3 x4 G) else (if (v7 &&& 63) = 12 then (fL_law_798 (some a1) x1 x2 x3 x4 G) else (if (v7 &&& 63) = 13 then (fL_law_854 (some a1) x1 x2 x3 x4 G) else (if (v7 &&& 63) = 14 then (fL_law_910 (some a1) x1 x2 x3 x4 G) else (if (v7 &&& 63) = 15 then (fL_law_978 (some a1) x1 x2 x3 x4 G) else (if (v7 &&& 63) = 16 then (fL_law_991 (some a1) x1 x2 x3 x4 G) else (if (v7 &&& 63) = 17 then (fL_law_1004 (some a1) x1 x2 x3 x4 G) else (if (v7 &&& 63) = 18 then (fL_law_1060 (some a1) x1 x2 x3 x4 G) else (if (v7 &&& 63) = 19 then (fL_law_1140 (some a1) x1 x2 x3 x4 G) else (if (v7 &&& 63) = 20 then (fL_law_1153 (some a1) x1 x2 x3 x4 G) else (if (v7 &&& 63) = 21 then (fL_law_1166 (some a1) x1 x2 x3 x4 G) else (if (v7 &&& 63) = 22 then (fL_law_1229 (some a1) x1 x2 x3 x4 G) else (if (v7 &&& 63) = 23 then (fL_law_1273 (some a1) x1 x2 x3 x4 G) else (if (v7 &&& 63) = 24 then (fL_law_1317 (some a1) x1 x2 x3 x4 G) else (if (v7 &&& 63) = 25 then (fL_law_1373 (some a1) x1 x2 x3 x4 G) else (if (v7 &&& 63) = 26 then (fL_law_1429 (some a1) x1 x2 x3 x4 G) else (if (v7 &&& 63) = 27 then (fL_law_1442 (some a1) x1 x2 x3 x4 G) else (if (v7 &&& 63) = 28 then (fL_law_1455 (some a1) x1 x2 x3 x4 G) else (if (v7 &&& 63) = 29 then (fL_law_1468 (some a1) x1 x2 x3 x4 G) else (if (v7 &&& 63) = 30 then (fL_law_1493 (some a1) x1 x2 x3 x4 G) else (if (v7 &&& 63) = 31 then (fL_law_1506 (some a1) x1 x2 x3 x4 G) else (if (v7 &&& 63) = 32 then (fL_law_1519 (some a1) x1 x2 x3 x4 G) else (if (v7 &&& 63) = 33 then (fL_law_1544 (some a1) x1 x2 x3 x4 G) else (if (v7 &&& 63) = 34 then (fL_law_1557 (some a1) x1 x2 x3 x4 G) else (if (v7 &&& 63) = 35 then (fL_law_1613 (some a1) x1 x2 x3 x4 G) else (if (v7 &&& 63) = 36 then (fL_law_1669 (some a1) x1 x2 x3 x4 G) else (if (v7 &&& 63) = 37 then (fL_law_1732 (some a1) x1 x2 x3 x4 G) else (if (v7 &&& 63) = 38 then (fL_law_1776 (some a1) x1 x2 x3 x4 G) else (if (v7 &&& 63) = 39 then (fL_law_1789 (some a1) x1 x2 x3 x4 G) else (if (v7 &&& 63) = 40 then (fL_law_1830 (some a1) x1 x2 x3 x4 G) else (if (v7 &&& 63) = 41 then (fL_law_1873 (some a1) x1 x2 x3 x4 G) else (if (v7 &&& 63) = 42 then (fL_law_1929 (some a1) x1 x2 x3 x4 G) else (zcond ((v7 &&& 63).toInt < 0 ∨ 42 < (v7 &&& 63).toInt) (fL_law_1954 (some a1) x1 x2 x3 x4 G)))))))))))))))))))))))))))))))))))))))))))))
def flL_law_23 (x0 : Option Nat) (x1 : Option Nat) (x2 : Option Nat) (x3 : Option Nat) (x4 : Int32) (G : GS) : Option ((Int32) × GS) := zloop (fun s : Int32 × GS => fbL_law_23 x0 x1 x2 x3 s.1 s.2) (x4, G)
theorem wfbL_law_23 {F : zF} (hd : 904 ≤ F.2.2.2) (x0 : Option Nat) (x1 : Option Nat) (x2 : Option Nat) (x3 : Option Nat) (x4 : Int32) (G : GS) {a : (Int32 × GS) ⊕ ((Int32) × GS)} (h : fbL_law_23 x0 x1 x2 x3 x4 G = some a) (hk : (zcase (fun s : Int32 × GS => J mL_law F s.2 23 [(0, vR x0), (1, vR x1), (2, vR x2), (3, vR x3), (4, vI s.1)] []) (zKI F)) a) : J mL_law F G 23 [(0, vR x0), (1, vR x1), (2, vR x2), (3, vR x3), (4, vI x4)] [] := by
  unfold fbL_law_23 at h
  refine j_iload (j := 4) dL_law_23 rfl ?_
  refine j_aload_n (j := 0) dL_law_25 rfl rfl ?_
  replace h := zbE h
  obtain ⟨a1, e2, h⟩ := h
  subst e2
  replace h := zbE h
  obtain ⟨v3, e4, h⟩ := h
  refine j_alen e4 dL_law_26 ?_
  refine j_iconst (v := 4) dL_law_27 (by decide) ?_
  refine j_isub dL_law_28 ?_
  refine j_icmp_gt (tgt := 1960) dL_law_29 (by decide) (fun c5 => ?_) (fun c5 => ?_)
  · rw [if_pos c5] at h
    replace h := zoE h
    obtain ⟨a, h, rfl⟩ := h
    replace hk := hk
    refine j_iconst (v := 1) dL_law_1960 (by decide) ?_
    replace h := zcondE h
    obtain ⟨e6, h⟩ := h
    obtain rfl := Option.some.inj h
    exact j_zret hk.1 hk.2 rfl (zbb_n e6) dL_law_1961
  · rw [if_neg c5] at h
    refine j_aload_n (j := 0) dL_law_32 rfl rfl ?_
    refine j_iload (j := 4) dL_law_33 rfl ?_
    replace h := zbE h
    obtain ⟨v7, e8, h⟩ := h
    refine j_iald (Or.inr rfl) e8 dL_law_35 ?_
    refine j_bipush (v := 63) dL_law_36 (by decide) ?_
    refine j_iand dL_law_38 ?_
    by_cases c53 : (v7 &&& 63) = 0
    · rw [if_pos c53] at h
      refine j_switchIn (off := 185) (tgt := 224) dL_law_39 (by rw [c53]; decide) (by rw [c53]; decide) (by rw [c53]; rfl) (by decide) ?_
      exact J.sub (zall [0, 1, 2, 3, 4] rfl) (wfL_law_224 hd (some a1) x1 x2 x3 x4  G h hk)
    rw [if_neg c53] at h
    by_cases c52 : (v7 &&& 63) = 1
    · rw [if_pos c52] at h
      refine j_switchIn (off := 241) (tgt := 280) dL_law_39 (by rw [c52]; decide) (by rw [c52]; decide) (by rw [c52]; rfl) (by decide) ?_
      exact J.sub (zall [0, 1, 2, 3, 4] rfl) (wfL_law_280 hd (some a1) x1 x2 x3 x4  G h hk)
    rw [if_neg c52] at h
    by_cases c51 : (v7 &&& 63) = 2
    · rw [if_pos c51] at h
      refine j_switchIn (off := 309) (tgt := 348) dL_law_39 (by rw [c51]; decide) (by rw [c51]; decide) (by rw [c51]; rfl) (by decide) ?_
      exact J.sub (zall [0, 1, 2, 3, 4] rfl) (wfL_law_348 hd (some a1) x1 x2 x3 x4  G h hk)
    rw [if_neg c51] at h
    by_cases c50 : (v7 &&& 63) = 3
    · rw [if_pos c50] at h
      refine j_switchIn (off := 365) (tgt := 404) dL_law_39 (by rw [c50]; decide) (by rw [c50]; decide) (by rw [c50]; rfl) (by decide) ?_
      exact J.sub (zall [0, 1, 2, 3, 4] rfl) (wfL_law_404 hd (some a1) x1 x2 x3 x4  G h hk)
    rw [if_neg c50] at h
    by_cases c49 : (v7 &&& 63) = 4
    · rw [if_pos c49] at h
      refine j_switchIn (off := 378) (tgt := 417) dL_law_39 (by rw [c49]; decide) (by rw [c49]; decide) (by rw [c49]; rfl) (by decide) ?_
      exact J.sub (zall [0, 1, 2, 3, 4] rfl) (wfL_law_417 hd (some a1) x1 x2 x3 x4  G h hk)
    rw [if_neg c49] at h
    by_cases c48 : (v7 &&& 63) = 5
    · rw [if_pos c48] at h
      refine j_switchIn (off := 434) (tgt := 473) dL_law_39 (by rw [c48]; decide) (by rw [c48]; decide) (by rw [c48]; rfl) (by decide) ?_
      exact J.sub (zall [0, 1, 2, 3, 4] rfl) (wfL_law_473 hd (some a1) x1 x2 x3 x4  G h hk)
    rw [if_neg c48] at h
    by_cases c47 : (v7 &&& 63) = 6
    · rw [if_pos c47] at h
      refine j_switchIn (off := 490) (tgt := 529) dL_law_39 (by rw [c47]; decide) (by rw [c47]; decide) (by rw [c47]; rfl) (by decide) ?_
      exact J.sub (zall [0, 1, 2, 3, 4] rfl) (wfL_law_529 hd (some a1) x1 x2 x3 x4  G h hk)
    rw [if_neg c47] at h
    by_cases c46 : (v7 &&& 63) = 7
    · rw [if_pos c46] at h
      refine j_switchIn (off := 558) (tgt := 597) dL_law_39 (by rw [c46]; decide) (by rw [c46]; decide) (by rw [c46]; rfl) (by decide) ?_
      exact J.sub (zall [0, 1, 2, 3, 4] rfl) (wfL_law_597 hd (some a1) x1 x2 x3 x4  G h hk)
    rw [if_neg c46] at h
    by_cases c45 : (v7 &&& 63) = 8
    · rw [if_pos c45] at h
      refine j_switchIn (off := 571) (tgt := 610) dL_law_39 (by rw [c45]; decide) (by rw [c45]; decide) (by rw [c45]; rfl) (by decide) ?_
      exact J.sub (zall [0, 1, 2, 3, 4] rfl) (wfL_law_610 hd (some a1) x1 x2 x3 x4  G h hk)
    rw [if_neg c45] at h
    by_cases c44 : (v7 &&& 63) = 9
    · rw [if_pos c44] at h
      refine j_switchIn (off := 634) (tgt := 673) dL_law_39 (by rw [c44]; decide) (by rw [c44]; decide) (by rw [c44]; rfl) (by decide) ?_
      exact J.sub (zall [0, 1, 2, 3, 4] rfl) (wfL_law_673 hd (some a1) x1 x2 x3 x4  G h hk)
    rw [if_neg c44] at h
    by_cases c43 : (v7 &&& 63) = 10
    · rw [if_pos c43] at h
      refine j_switchIn (off := 690) (tgt := 729) dL_law_39 (by rw [c43]; decide) (by rw [c43]; decide) (by rw [c43]; rfl) (by decide) ?_
      exact J.sub (zall [0, 1, 2, 3, 4] rfl) (wfL_law_729 hd (some a1) x1 x2 x3 x4  G h hk)
    rw [if_neg c43] at h
    by_cases c42 : (v7 &&& 63) = 11
    · rw [if_pos c42] at h
      refine j_switchIn (off := 746) (tgt := 785) dL_law_39 (by rw [c42]; decide) (by rw [c42]; decide) (by rw [c42]; rfl) (by decide) ?_
      exact J.sub (zall [0, 1, 2, 3, 4] rfl) (wfL_law_785 hd (some a1) x1 x2 x3 x4  G h hk)
    rw [if_neg c42] at h
    by_cases c41 : (v7 &&& 63) = 12
    · rw [if_pos c41] at h
      refine j_switchIn (off := 759) (tgt := 798) dL_law_39 (by rw [c41]; decide) (by rw [c41]; decide) (by rw [c41]; rfl) (by decide) ?_
      exact J.sub (zall [0, 1, 2, 3, 4] rfl) (wfL_law_798 hd (some a1) x1 x2 x3 x4  G h hk)
    rw [if_neg c41] at h
    by_cases c40 : (v7 &&& 63) = 13
    · rw [if_pos c40] at h
      refine j_switchIn (off := 815) (tgt := 854) dL_law_39 (by rw [c40]; decide) (by rw [c40]; decide) (by rw [c40]; rfl) (by decide) ?_
      exact J.sub (zall [0, 1, 2, 3, 4] rfl) (wfL_law_854 hd (some a1) x1 x2 x3 x4  G h hk)
    rw [if_neg c40] at h
    by_cases c39 : (v7 &&& 63) = 14
    · rw [if_pos c39] at h
      refine j_switchIn (off := 871) (tgt := 910) dL_law_39 (by rw [c39]; decide) (by rw [c39]; decide) (by rw [c39]; rfl) (by decide) ?_
      exact J.sub (zall [0, 1, 2, 3, 4] rfl) (wfL_law_910 hd (some a1) x1 x2 x3 x4  G h hk)
    rw [if_neg c39] at h
    by_cases c38 : (v7 &&& 63) = 15
    · rw [if_pos c38] at h
      refine j_switchIn (off := 939) (tgt := 978) dL_law_39 (by rw [c38]; decide) (by rw [c38]; decide) (by rw [c38]; rfl) (by decide) ?_
      exact J.sub (zall [0, 1, 2, 3, 4] rfl) (wfL_law_978 hd (some a1) x1 x2 x3 x4  G h hk)
    rw [if_neg c38] at h
    by_cases c37 : (v7 &&& 63) = 16
    · rw [if_pos c37] at h
      refine j_switchIn (off := 952) (tgt := 991) dL_law_39 (by rw [c37]; decide) (by rw [c37]; decide) (by rw [c37]; rfl) (by decide) ?_
      exact J.sub (zall [0, 1, 2, 3, 4] rfl) (wfL_law_991 hd (some a1) x1 x2 x3 x4  G h hk)
    rw [if_neg c37] at h
    by_cases c36 : (v7 &&& 63) = 17
    · rw [if_pos c36] at h
      refine j_switchIn (off := 965) (tgt := 1004) dL_law_39 (by rw [c36]; decide) (by rw [c36]; decide) (by rw [c36]; rfl) (by decide) ?_
      exact J.sub (zall [0, 1, 2, 3, 4] rfl) (wfL_law_1004 hd (some a1) x1 x2 x3 x4  G h hk)
    rw [if_neg c36] at h
    by_cases c35 : (v7 &&& 63) = 18
    · rw [if_pos c35] at h
      refine j_switchIn (off := 1021) (tgt := 1060) dL_law_39 (by rw [c35]; decide) (by rw [c35]; decide) (by rw [c35]; rfl) (by decide) ?_
      exact J.sub (zall [0, 1, 2, 3, 4] rfl) (wfL_law_1060 hd (some a1) x1 x2 x3 x4  G h hk)
    rw [if_neg c35] at h
    by_cases c34 : (v7 &&& 63) = 19
    · rw [if_pos c34] at h
      refine j_switchIn (off := 1101) (tgt := 1140) dL_law_39 (by rw [c34]; decide) (by rw [c34]; decide) (by rw [c34]; rfl) (by decide) ?_
      exact J.sub (zall [0, 1, 2, 3, 4] rfl) (wfL_law_1140 hd (some a1) x1 x2 x3 x4  G h hk)
    rw [if_neg c34] at h
    by_cases c33 : (v7 &&& 63) = 20
    · rw [if_pos c33] at h
      refine j_switchIn (off := 1114) (tgt := 1153) dL_law_39 (by rw [c33]; decide) (by rw [c33]; decide) (by rw [c33]; rfl) (by decide) ?_
      exact J.sub (zall [0, 1, 2, 3, 4] rfl) (wfL_law_1153 hd (some a1) x1 x2 x3 x4  G h hk)
    rw [if_neg c33] at h
    by_cases c32 : (v7 &&& 63) = 21
    · rw [if_pos c32] at h
      refine j_switchIn (off := 1127) (tgt := 1166) dL_law_39 (by rw [c32]; decide) (by rw [c32]; decide) (by rw [c32]; rfl) (by decide) ?_
      exact J.sub (zall [0, 1, 2, 3, 4] rfl) (wfL_law_1166 hd (some a1) x1 x2 x3 x4  G h hk)
    rw [if_neg c32] at h
    by_cases c31 : (v7 &&& 63) = 22
    · rw [if_pos c31] at h
      refine j_switchIn (off := 1190) (tgt := 1229) dL_law_39 (by rw [c31]; decide) (by rw [c31]; decide) (by rw [c31]; rfl) (by decide) ?_
      exact J.sub (zall [0, 1, 2, 3, 4] rfl) (wfL_law_1229 hd (some a1) x1 x2 x3 x4  G h hk)
    rw [if_neg c31] at h
    by_cases c30 : (v7 &&& 63) = 23
    · rw [if_pos c30] at h
      refine j_switchIn (off := 1234) (tgt := 1273) dL_law_39 (by rw [c30]; decide) (by rw [c30]; decide) (by rw [c30]; rfl) (by decide) ?_
      exact J.sub (zall [0, 1, 2, 3, 4] rfl) (wfL_law_1273 hd (some a1) x1 x2 x3 x4  G h hk)
    rw [if_neg c30] at h
    by_cases c29 : (v7 &&& 63) = 24
    · rw [if_pos c29] at h
      refine j_switchIn (off := 1278) (tgt := 1317) dL_law_39 (by rw [c29]; decide) (by rw [c29]; decide) (by rw [c29]; rfl) (by decide) ?_
      exact J.sub (zall [0, 1, 2, 3, 4] rfl) (wfL_law_1317 hd (some a1) x1 x2 x3 x4  G h hk)
    rw [if_neg c29] at h
    by_cases c28 : (v7 &&& 63) = 25
    · rw [if_pos c28] at h
      refine j_switchIn (off := 1334) (tgt := 1373) dL_law_39 (by rw [c28]; decide) (by rw [c28]; decide) (by rw [c28]; rfl) (by decide) ?_
      exact J.sub (zall [0, 1, 2, 3, 4] rfl) (wfL_law_1373 hd (some a1) x1 x2 x3 x4  G h hk)
    rw [if_neg c28] at h
    by_cases c27 : (v7 &&& 63) = 26
    · rw [if_pos c27] at h
      refine j_switchIn (off := 1390) (tgt := 1429) dL_law_39 (by rw [c27]; decide) (by rw [c27]; decide) (by rw [c27]; rfl) (by decide) ?_
      exact J.sub (zall [0, 1, 2, 3, 4] rfl) (wfL_law_1429 hd (some a1) x1 x2 x3 x4  G h hk)
    rw [if_neg c27] at h
    by_cases c26 : (v7 &&& 63) = 27
    · rw [if_pos c26] at h
      refine j_switchIn (off := 1403) (tgt := 1442) dL_law_39 (by rw [c26]; decide) (by rw [c26]; decide) (by rw [c26]; rfl) (by decide) ?_
      exact J.sub (zall [0, 1, 2, 3, 4] rfl) (wfL_law_1442 hd (some a1) x1 x2 x3 x4  G h hk)
    rw [if_neg c26] at h
    by_cases c25 : (v7 &&& 63) = 28
    · rw [if_pos c25] at h
      refine j_switchIn (off := 1416) (tgt := 1455) dL_law_39 (by rw [c25]; decide) (by rw [c25]; decide) (by rw [c25]; rfl) (by decide) ?_
      exact J.sub (zall [0, 1, 2, 3, 4] rfl) (wfL_law_1455 hd (some a1) x1 x2 x3 x4  G h hk)
    rw [if_neg c25] at h
    by_cases c24 : (v7 &&& 63) = 29
    · rw [if_pos c24] at h
      refine j_switchIn (off := 1429) (tgt := 1468) dL_law_39 (by rw [c24]; decide) (by rw [c24]; decide) (by rw [c24]; rfl) (by decide) ?_
      exact J.sub (zall [0, 1, 2, 3, 4] rfl) (wfL_law_1468 hd (some a1) x1 x2 x3 x4  G h hk)
    rw [if_neg c24] at h
    by_cases c23 : (v7 &&& 63) = 30
    · rw [if_pos c23] at h
      refine j_switchIn (off := 1454) (tgt := 1493) dL_law_39 (by rw [c23]; decide) (by rw [c23]; decide) (by rw [c23]; rfl) (by decide) ?_
      exact J.sub (zall [0, 1, 2, 3, 4] rfl) (wfL_law_1493 hd (some a1) x1 x2 x3 x4  G h hk)
    rw [if_neg c23] at h
    by_cases c22 : (v7 &&& 63) = 31
    · rw [if_pos c22] at h
      refine j_switchIn (off := 1467) (tgt := 1506) dL_law_39 (by rw [c22]; decide) (by rw [c22]; decide) (by rw [c22]; rfl) (by decide) ?_
      exact J.sub (zall [0, 1, 2, 3, 4] rfl) (wfL_law_1506 hd (some a1) x1 x2 x3 x4  G h hk)
    rw [if_neg c22] at h
    by_cases c21 : (v7 &&& 63) = 32
    · rw [if_pos c21] at h
      refine j_switchIn (off := 1480) (tgt := 1519) dL_law_39 (by rw [c21]; decide) (by rw [c21]; decide) (by rw [c21]; rfl) (by decide) ?_
      exact J.sub (zall [0, 1, 2, 3, 4] rfl) (wfL_law_1519 hd (some a1) x1 x2 x3 x4  G h hk)
    rw [if_neg c21] at h
    by_cases c20 : (v7 &&& 63) = 33
    · rw [if_pos c20] at h
      refine j_switchIn (off := 1505) (tgt := 1544) dL_law_39 (by rw [c20]; decide) (by rw [c20]; decide) (by rw [c20]; rfl) (by decide) ?_
      exact J.sub (zall [0, 1, 2, 3, 4] rfl) (wfL_law_1544 hd (some a1) x1 x2 x3 x4  G h hk)
    rw [if_neg c20] at h
    by_cases c19 : (v7 &&& 63) = 34
    · rw [if_pos c19] at h
      refine j_switchIn (off := 1518) (tgt := 1557) dL_law_39 (by rw [c19]; decide) (by rw [c19]; decide) (by rw [c19]; rfl) (by decide) ?_
      exact J.sub (zall [0, 1, 2, 3, 4] rfl) (wfL_law_1557 hd (some a1) x1 x2 x3 x4  G h hk)
    rw [if_neg c19] at h
    by_cases c18 : (v7 &&& 63) = 35
    · rw [if_pos c18] at h
      refine j_switchIn (off := 1574) (tgt := 1613) dL_law_39 (by rw [c18]; decide) (by rw [c18]; decide) (by rw [c18]; rfl) (by decide) ?_
      exact J.sub (zall [0, 1, 2, 3, 4] rfl) (wfL_law_1613 hd (some a1) x1 x2 x3 x4  G h hk)
    rw [if_neg c18] at h
    by_cases c17 : (v7 &&& 63) = 36
    · rw [if_pos c17] at h
      refine j_switchIn (off := 1630) (tgt := 1669) dL_law_39 (by rw [c17]; decide) (by rw [c17]; decide) (by rw [c17]; rfl) (by decide) ?_
      exact J.sub (zall [0, 1, 2, 3, 4] rfl) (wfL_law_1669 hd (some a1) x1 x2 x3 x4  G h hk)
    rw [if_neg c17] at h
    by_cases c16 : (v7 &&& 63) = 37
    · rw [if_pos c16] at h
      refine j_switchIn (off := 1693) (tgt := 1732) dL_law_39 (by rw [c16]; decide) (by rw [c16]; decide) (by rw [c16]; rfl) (by decide) ?_
      exact J.sub (zall [0, 1, 2, 3, 4] rfl) (wfL_law_1732 hd (some a1) x1 x2 x3 x4  G h hk)
    rw [if_neg c16] at h
    by_cases c15 : (v7 &&& 63) = 38
    · rw [if_pos c15] at h
      refine j_switchIn (off := 1737) (tgt := 1776) dL_law_39 (by rw [c15]; decide) (by rw [c15]; decide) (by rw [c15]; rfl) (by decide) ?_
      exact J.sub (zall [0, 1, 2, 3, 4] rfl) (wfL_law_1776 hd (some a1) x1 x2 x3 x4  G h hk)
    rw [if_neg c15] at h
    by_cases c14 : (v7 &&& 63) = 39
    · rw [if_pos c14] at h
      refine j_switchIn (off := 1750) (tgt := 1789) dL_law_39 (by rw [c14]; decide) (by rw [c14]; decide) (by rw [c14]; rfl) (by decide) ?_
      exact J.sub (zall [0, 1, 2, 3, 4] rfl) (wfL_law_1789 hd (some a1) x1 x2 x3 x4  G h hk)
    rw [if_neg c14] at h
    by_cases c13 : (v7 &&& 63) = 40
    · rw [if_pos c13] at h
      refine j_switchIn (off := 1791) (tgt := 1830) dL_law_39 (by rw [c13]; decide) (by rw [c13]; decide) (by rw [c13]; rfl) (by decide) ?_
      exact J.sub (zall [0, 1, 2, 3, 4] rfl) (wfL_law_1830 hd (some a1) x1 x2 x3 x4  G h hk)
    rw [if_neg c13] at h
    by_cases c12 : (v7 &&& 63) = 41
    · rw [if_pos c12] at h
      refine j_switchIn (off := 1834) (tgt := 1873) dL_law_39 (by rw [c12]; decide) (by rw [c12]; decide) (by rw [c12]; rfl) (by decide) ?_
      exact J.sub (zall [0, 1, 2, 3, 4] rfl) (wfL_law_1873 hd (some a1) x1 x2 x3 x4  G h hk)
    rw [if_neg c12] at h
    by_cases c11 : (v7 &&& 63) = 42
    · rw [if_pos c11] at h
      refine j_switchIn (off := 1890) (tgt := 1929) dL_law_39 (by rw [c11]; decide) (by rw [c11]; decide) (by rw [c11]; rfl) (by decide) ?_
      exact J.sub (zall [0, 1, 2, 3, 4] rfl) (wfL_law_1929 hd (some a1) x1 x2 x3 x4  G h hk)
    rw [if_neg c11] at h
    replace h := zcondE h
    obtain ⟨e10, h⟩ := h
    refine j_switchOut (tgt := 1954) dL_law_39 e10 (by decide) ?_
    exact J.sub (zall [0, 1, 2, 3, 4] rfl) (wfL_law_1954 hd (some a1) x1 x2 x3 x4  G h hk)
theorem wflL_law_23 {F : zF} (hd : 904 ≤ F.2.2.2) (x0 : Option Nat) (x1 : Option Nat) (x2 : Option Nat) (x3 : Option Nat) (x4 : Int32) (G : GS) {a : (Int32) × GS} (h : flL_law_23 x0 x1 x2 x3 x4 G = some a) (hk : zKI F a) : J mL_law F G 23 [(0, vR x0), (1, vR x1), (2, vR x2), (3, vR x3), (4, vI x4)] [] := by
  unfold flL_law_23 at h
  exact zloop_walk (P := (fun s : Int32 × GS => J mL_law F s.2 23 [(0, vR x0), (1, vR x1), (2, vR x2), (3, vR x3), (4, vI s.1)] [])) (fun s b e hk => wfbL_law_23 hd x0 x1 x2 x3 s.1 s.2 e hk) (x4, G) _ h hk
def fL_law_0 (x0 : Option Nat)  (G : GS) : Option ((Int32) × GS) :=
  zl (al G 1 0 5) fun G1 => (fX1_init_0 (gz G) G1).bind fun G4 => zl (al G4 2 0 42) fun G5 => (fX2_init_0 (gz G4) G5).bind fun G8 => (zna G8 51 (1 : Int32)).bind fun G9 => flL_law_23 x0 (some (gz G)) (some (gz G4)) (some (gz G8)) 0 G9
theorem wfL_law_0 {F : zF} (hd : 904 ≤ F.2.2.2) (x0 : Option Nat)  (G : GS) {a : (Int32) × GS} (h : fL_law_0 x0  G = some a) (hk : zKI F a) : J mL_law F G 0 [(0, vR x0)] [] := by
  unfold fL_law_0 at h
  replace h := zlE h
  obtain ⟨G1, e2, h⟩ := h
  refine j_new (c := 0) (n := 5) (r := (RX1, TX1, 5, tyX1)) rfl rfl in_X1 tyX1_ok nwX1 q175 q176 q123 dL_law_0 ?_
  rw [show al G (0 + 1) 0 5 = G1 from e2.symm]
  refine j_dup dL_law_3 rfl ?_
  replace h := zbE h
  obtain ⟨G4, e3, h⟩ := h
  refine j_cont (zrI (As := []) msX0_92 (yX1_init_ok e3) (Nat.le_trans (Nat.le_of_ble_eq_true rfl) hd) rfl rfl (Nat.le_of_ble_eq_true rfl) dL_law_4) ?_
  refine j_astore_n (lv' := [(1, vR (some (gz G))), (0, vR x0)]) dL_law_7 rfl (Nat.le_of_ble_eq_true rfl) rfl ?_
  replace h := zlE h
  obtain ⟨G5, e6, h⟩ := h
  refine j_new (c := 1) (n := 42) (r := (RX2, TX2, 42, tyX2)) rfl rfl in_X2 tyX2_ok nwX2 q2666 q2667 q131 dL_law_8 ?_
  rw [show al G4 (1 + 1) 0 42 = G5 from e6.symm]
  refine j_dup dL_law_11 rfl ?_
  replace h := zbE h
  obtain ⟨G8, e7, h⟩ := h
  refine j_cont (zrI (As := []) msX0_95 (yX2_init_ok e7) (Nat.le_trans (Nat.le_of_ble_eq_true rfl) hd) rfl rfl (Nat.le_of_ble_eq_true rfl) dL_law_12) ?_
  refine j_astore_n (lv' := [(2, vR (some (gz G4))), (1, vR (some (gz G))), (0, vR x0)]) dL_law_15 rfl (Nat.le_of_ble_eq_true rfl) rfl ?_
  refine j_iconst (v := 1) dL_law_16 (by decide) ?_
  replace h := zbE h
  obtain ⟨G9, e10, h⟩ := h
  refine j_newa (t := 1) (ty := .long) rfl rfl q1339 (fun _ _ _ e1 e2 e3 => by simp only [zfv, e1, e2, e3] <;> rfl) (by decide) (fun _ _ h => h) e10 dL_law_17 ?_
  refine j_astore_n (lv' := [(3, vR (some (gz G8))), (2, vR (some (gz G4))), (1, vR (some (gz G))), (0, vR x0)]) dL_law_19 rfl (Nat.le_of_ble_eq_true rfl) rfl ?_
  refine j_iconst (v := 0) dL_law_20 (by decide) ?_
  refine j_istore (lv' := [(4, vI 0), (3, vR (some (gz G8))), (2, vR (some (gz G4))), (1, vR (some (gz G))), (0, vR x0)]) dL_law_21 (Nat.le_of_ble_eq_true rfl) rfl ?_
  exact J.sub (zall [4, 3, 2, 1, 0] rfl) (wflL_law_23 hd x0 (some (gz G)) (some (gz G4)) (some (gz G8)) 0  G9 h hk)
end
