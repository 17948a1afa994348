theorem d_MM_measure_0 : decode b_MM_measure 0 = .ok (.iconst 0, 1) := by decide +kernel
theorem d_MM_measure_1 : decode b_MM_measure 1 = .ok (.istore_n 1, 1) := by decide +kernel
theorem d_MM_measure_2 : decode b_MM_measure 2 = .ok (.iload_n 1, 1) := by decide +kernel
theorem d_MM_measure_3 : decode b_MM_measure 3 = .ok (.sipush 2304, 3) := by decide +kernel
theorem d_MM_measure_6 : decode b_MM_measure 6 = .ok (.if_icmp .ge 39, 3) := by decide +kernel
theorem d_MM_measure_9 : decode b_MM_measure 9 = .ok (.aload_n 0, 1) := by decide +kernel
theorem d_MM_measure_10 : decode b_MM_measure 10 = .ok (.getfield 111, 3) := by decide +kernel
theorem d_MM_measure_13 : decode b_MM_measure 13 = .ok (.iload_n 1, 1) := by decide +kernel
theorem d_MM_measure_14 : decode b_MM_measure 14 = .ok (.iload_n 1, 1) := by decide +kernel
theorem d_MM_measure_15 : decode b_MM_measure 15 = .ok (.bipush 48, 2) := by decide +kernel
theorem d_MM_measure_17 : decode b_MM_measure 17 = .ok (.idiv, 1) := by decide +kernel
theorem d_MM_measure_18 : decode b_MM_measure 18 = .ok (.iload_n 1, 1) := by decide +kernel
theorem d_MM_measure_19 : decode b_MM_measure 19 = .ok (.bipush 48, 2) := by decide +kernel
theorem d_MM_measure_21 : decode b_MM_measure 21 = .ok (.irem, 1) := by decide +kernel
theorem d_MM_measure_22 : decode b_MM_measure 22 = .ok (.if_icmp .ne 7, 3) := by decide +kernel
theorem d_MM_measure_25 : decode b_MM_measure 25 = .ok (.iconst 0, 1) := by decide +kernel
theorem d_MM_measure_26 : decode b_MM_measure 26 = .ok (.goto 5, 3) := by decide +kernel
theorem d_MM_measure_29 : decode b_MM_measure 29 = .ok (.ldc 216, 2) := by decide +kernel
theorem d_MM_measure_31 : decode b_MM_measure 31 = .ok (.iastore, 1) := by decide +kernel
theorem d_MM_measure_32 : decode b_MM_measure 32 = .ok (.aload_n 0, 1) := by decide +kernel
theorem d_MM_measure_33 : decode b_MM_measure 33 = .ok (.getfield 114, 3) := by decide +kernel
theorem d_MM_measure_36 : decode b_MM_measure 36 = .ok (.iload_n 1, 1) := by decide +kernel
theorem d_MM_measure_37 : decode b_MM_measure 37 = .ok (.iconst 0, 1) := by decide +kernel
theorem d_MM_measure_38 : decode b_MM_measure 38 = .ok (.iastore, 1) := by decide +kernel
theorem d_MM_measure_39 : decode b_MM_measure 39 = .ok (.iinc 1 1, 3) := by decide +kernel
theorem d_MM_measure_42 : decode b_MM_measure 42 = .ok (.goto (-40), 3) := by decide +kernel
theorem d_MM_measure_45 : decode b_MM_measure 45 = .ok (.iconst 0, 1) := by decide +kernel
theorem d_MM_measure_46 : decode b_MM_measure 46 = .ok (.istore_n 1, 1) := by decide +kernel
theorem d_MM_measure_47 : decode b_MM_measure 47 = .ok (.iload_n 1, 1) := by decide +kernel
theorem d_MM_measure_48 : decode b_MM_measure 48 = .ok (.sipush 192, 3) := by decide +kernel
theorem d_MM_measure_51 : decode b_MM_measure 51 = .ok (.if_icmp .ge 61, 3) := by decide +kernel
theorem d_MM_measure_54 : decode b_MM_measure 54 = .ok (.aload_n 0, 1) := by decide +kernel
theorem d_MM_measure_55 : decode b_MM_measure 55 = .ok (.getfield 92, 3) := by decide +kernel
theorem d_MM_measure_58 : decode b_MM_measure 58 = .ok (.iload_n 1, 1) := by decide +kernel
theorem d_MM_measure_59 : decode b_MM_measure 59 = .ok (.iaload, 1) := by decide +kernel
theorem d_MM_measure_60 : decode b_MM_measure 60 = .ok (.istore_n 2, 1) := by decide +kernel
theorem d_MM_measure_61 : decode b_MM_measure 61 = .ok (.iload_n 2, 1) := by decide +kernel
theorem d_MM_measure_62 : decode b_MM_measure 62 = .ok (.ifCond .lt 44, 3) := by decide +kernel
theorem d_MM_measure_65 : decode b_MM_measure 65 = .ok (.aload_n 0, 1) := by decide +kernel
theorem d_MM_measure_66 : decode b_MM_measure 66 = .ok (.getfield 83, 3) := by decide +kernel
theorem d_MM_measure_69 : decode b_MM_measure 69 = .ok (.iload_n 2, 1) := by decide +kernel
theorem d_MM_measure_70 : decode b_MM_measure 70 = .ok (.baload, 1) := by decide +kernel
theorem d_MM_measure_71 : decode b_MM_measure 71 = .ok (.ifCond .eq 35, 3) := by decide +kernel
theorem d_MM_measure_74 : decode b_MM_measure 74 = .ok (.iload_n 2, 1) := by decide +kernel
theorem d_MM_measure_75 : decode b_MM_measure 75 = .ok (.iload_n 1, 1) := by decide +kernel
theorem d_MM_measure_76 : decode b_MM_measure 76 = .ok (.iconst 4, 1) := by decide +kernel
theorem d_MM_measure_77 : decode b_MM_measure 77 = .ok (.idiv, 1) := by decide +kernel
theorem d_MM_measure_78 : decode b_MM_measure 78 = .ok (.if_icmp .eq 28, 3) := by decide +kernel
theorem d_MM_measure_81 : decode b_MM_measure 81 = .ok (.aload_n 0, 1) := by decide +kernel
theorem d_MM_measure_82 : decode b_MM_measure 82 = .ok (.iload_n 2, 1) := by decide +kernel
theorem d_MM_measure_83 : decode b_MM_measure 83 = .ok (.invokevirtual 230, 3) := by decide +kernel
theorem d_MM_measure_86 : decode b_MM_measure 86 = .ok (.istore_n 3, 1) := by decide +kernel
theorem d_MM_measure_87 : decode b_MM_measure 87 = .ok (.aload_n 0, 1) := by decide +kernel
theorem d_MM_measure_88 : decode b_MM_measure 88 = .ok (.bipush 48, 2) := by decide +kernel
theorem d_MM_measure_90 : decode b_MM_measure 90 = .ok (.iload_n 2, 1) := by decide +kernel
theorem d_MM_measure_91 : decode b_MM_measure 91 = .ok (.imul, 1) := by decide +kernel
theorem d_MM_measure_92 : decode b_MM_measure 92 = .ok (.iload_n 1, 1) := by decide +kernel
theorem d_MM_measure_93 : decode b_MM_measure 93 = .ok (.iconst 4, 1) := by decide +kernel
theorem d_MM_measure_94 : decode b_MM_measure 94 = .ok (.idiv, 1) := by decide +kernel
theorem d_MM_measure_95 : decode b_MM_measure 95 = .ok (.iadd, 1) := by decide +kernel
theorem d_MM_measure_96 : decode b_MM_measure 96 = .ok (.aload_n 0, 1) := by decide +kernel
theorem d_MM_measure_97 : decode b_MM_measure 97 = .ok (.getfield 95, 3) := by decide +kernel
theorem d_MM_measure_100 : decode b_MM_measure 100 = .ok (.iload_n 1, 1) := by decide +kernel
theorem d_MM_measure_101 : decode b_MM_measure 101 = .ok (.iaload, 1) := by decide +kernel
theorem d_MM_measure_102 : decode b_MM_measure 102 = .ok (.iload_n 3, 1) := by decide +kernel
theorem d_MM_measure_103 : decode b_MM_measure 103 = .ok (.invokevirtual 233, 3) := by decide +kernel
theorem d_MM_measure_106 : decode b_MM_measure 106 = .ok (.iinc 1 1, 3) := by decide +kernel
theorem d_MM_measure_109 : decode b_MM_measure 109 = .ok (.goto (-62), 3) := by decide +kernel
theorem d_MM_measure_112 : decode b_MM_measure 112 = .ok (.iconst 0, 1) := by decide +kernel
theorem d_MM_measure_113 : decode b_MM_measure 113 = .ok (.istore_n 1, 1) := by decide +kernel
theorem d_MM_measure_114 : decode b_MM_measure 114 = .ok (.iload_n 1, 1) := by decide +kernel
theorem d_MM_measure_115 : decode b_MM_measure 115 = .ok (.aload_n 0, 1) := by decide +kernel
theorem d_MM_measure_116 : decode b_MM_measure 116 = .ok (.getfield 135, 3) := by decide +kernel
theorem d_MM_measure_119 : decode b_MM_measure 119 = .ok (.if_icmp .ge 138, 3) := by decide +kernel
theorem d_MM_measure_122 : decode b_MM_measure 122 = .ok (.iconst 0, 1) := by decide +kernel
theorem d_MM_measure_123 : decode b_MM_measure 123 = .ok (.istore_n 2, 1) := by decide +kernel
theorem d_MM_measure_124 : decode b_MM_measure 124 = .ok (.iload_n 2, 1) := by decide +kernel
theorem d_MM_measure_125 : decode b_MM_measure 125 = .ok (.aload_n 0, 1) := by decide +kernel
theorem d_MM_measure_126 : decode b_MM_measure 126 = .ok (.getfield 135, 3) := by decide +kernel
theorem d_MM_measure_129 : decode b_MM_measure 129 = .ok (.if_icmp .ge 122, 3) := by decide +kernel
theorem d_MM_measure_132 : decode b_MM_measure 132 = .ok (.aload_n 0, 1) := by decide +kernel
theorem d_MM_measure_133 : decode b_MM_measure 133 = .ok (.getfield 83, 3) := by decide +kernel
theorem d_MM_measure_136 : decode b_MM_measure 136 = .ok (.iload_n 1, 1) := by decide +kernel
theorem d_MM_measure_137 : decode b_MM_measure 137 = .ok (.baload, 1) := by decide +kernel
theorem d_MM_measure_138 : decode b_MM_measure 138 = .ok (.ifCond .eq 113, 3) := by decide +kernel
theorem d_MM_measure_141 : decode b_MM_measure 141 = .ok (.iconst 0, 1) := by decide +kernel
theorem d_MM_measure_142 : decode b_MM_measure 142 = .ok (.istore_n 3, 1) := by decide +kernel
theorem d_MM_measure_143 : decode b_MM_measure 143 = .ok (.iload_n 3, 1) := by decide +kernel
theorem d_MM_measure_144 : decode b_MM_measure 144 = .ok (.aload_n 0, 1) := by decide +kernel
theorem d_MM_measure_145 : decode b_MM_measure 145 = .ok (.getfield 135, 3) := by decide +kernel
theorem d_MM_measure_148 : decode b_MM_measure 148 = .ok (.if_icmp .ge 97, 3) := by decide +kernel
theorem d_MM_measure_151 : decode b_MM_measure 151 = .ok (.aload_n 0, 1) := by decide +kernel
theorem d_MM_measure_152 : decode b_MM_measure 152 = .ok (.getfield 111, 3) := by decide +kernel
theorem d_MM_measure_155 : decode b_MM_measure 155 = .ok (.bipush 48, 2) := by decide +kernel
theorem d_MM_measure_157 : decode b_MM_measure 157 = .ok (.iload_n 2, 1) := by decide +kernel
theorem d_MM_measure_158 : decode b_MM_measure 158 = .ok (.imul, 1) := by decide +kernel
theorem d_MM_measure_159 : decode b_MM_measure 159 = .ok (.iload_n 1, 1) := by decide +kernel
theorem d_MM_measure_160 : decode b_MM_measure 160 = .ok (.iadd, 1) := by decide +kernel
theorem d_MM_measure_161 : decode b_MM_measure 161 = .ok (.iaload, 1) := by decide +kernel
theorem d_MM_measure_162 : decode b_MM_measure 162 = .ok (.ldc 216, 2) := by decide +kernel
theorem d_MM_measure_164 : decode b_MM_measure 164 = .ok (.if_icmp .ge 81, 3) := by decide +kernel
theorem d_MM_measure_167 : decode b_MM_measure 167 = .ok (.aload_n 0, 1) := by decide +kernel
theorem d_MM_measure_168 : decode b_MM_measure 168 = .ok (.getfield 111, 3) := by decide +kernel
theorem d_MM_measure_171 : decode b_MM_measure 171 = .ok (.bipush 48, 2) := by decide +kernel
theorem d_MM_measure_173 : decode b_MM_measure 173 = .ok (.iload_n 1, 1) := by decide +kernel
theorem d_MM_measure_174 : decode b_MM_measure 174 = .ok (.imul, 1) := by decide +kernel
theorem d_MM_measure_175 : decode b_MM_measure 175 = .ok (.iload_n 3, 1) := by decide +kernel
theorem d_MM_measure_176 : decode b_MM_measure 176 = .ok (.iadd, 1) := by decide +kernel
theorem d_MM_measure_177 : decode b_MM_measure 177 = .ok (.iaload, 1) := by decide +kernel
theorem d_MM_measure_178 : decode b_MM_measure 178 = .ok (.ldc 216, 2) := by decide +kernel
theorem d_MM_measure_180 : decode b_MM_measure 180 = .ok (.if_icmp .ge 59, 3) := by decide +kernel
theorem d_MM_measure_183 : decode b_MM_measure 183 = .ok (.aload_n 0, 1) := by decide +kernel
theorem d_MM_measure_184 : decode b_MM_measure 184 = .ok (.bipush 48, 2) := by decide +kernel
theorem d_MM_measure_186 : decode b_MM_measure 186 = .ok (.iload_n 2, 1) := by decide +kernel
theorem d_MM_measure_187 : decode b_MM_measure 187 = .ok (.imul, 1) := by decide +kernel
theorem d_MM_measure_188 : decode b_MM_measure 188 = .ok (.iload_n 3, 1) := by decide +kernel
theorem d_MM_measure_189 : decode b_MM_measure 189 = .ok (.iadd, 1) := by decide +kernel
theorem d_MM_measure_190 : decode b_MM_measure 190 = .ok (.aload_n 0, 1) := by decide +kernel
theorem d_MM_measure_191 : decode b_MM_measure 191 = .ok (.getfield 111, 3) := by decide +kernel
theorem d_MM_measure_194 : decode b_MM_measure 194 = .ok (.bipush 48, 2) := by decide +kernel
theorem d_MM_measure_196 : decode b_MM_measure 196 = .ok (.iload_n 2, 1) := by decide +kernel
theorem d_MM_measure_197 : decode b_MM_measure 197 = .ok (.imul, 1) := by decide +kernel
theorem d_MM_measure_198 : decode b_MM_measure 198 = .ok (.iload_n 1, 1) := by decide +kernel
theorem d_MM_measure_199 : decode b_MM_measure 199 = .ok (.iadd, 1) := by decide +kernel
theorem d_MM_measure_200 : decode b_MM_measure 200 = .ok (.iaload, 1) := by decide +kernel
theorem d_MM_measure_201 : decode b_MM_measure 201 = .ok (.aload_n 0, 1) := by decide +kernel
theorem d_MM_measure_202 : decode b_MM_measure 202 = .ok (.getfield 111, 3) := by decide +kernel
theorem d_MM_measure_205 : decode b_MM_measure 205 = .ok (.bipush 48, 2) := by decide +kernel
theorem d_MM_measure_207 : decode b_MM_measure 207 = .ok (.iload_n 1, 1) := by decide +kernel
theorem d_MM_measure_208 : decode b_MM_measure 208 = .ok (.imul, 1) := by decide +kernel
theorem d_MM_measure_209 : decode b_MM_measure 209 = .ok (.iload_n 3, 1) := by decide +kernel
theorem d_MM_measure_210 : decode b_MM_measure 210 = .ok (.iadd, 1) := by decide +kernel
theorem d_MM_measure_211 : decode b_MM_measure 211 = .ok (.iaload, 1) := by decide +kernel
theorem d_MM_measure_212 : decode b_MM_measure 212 = .ok (.iadd, 1) := by decide +kernel
theorem d_MM_measure_213 : decode b_MM_measure 213 = .ok (.aload_n 0, 1) := by decide +kernel
theorem d_MM_measure_214 : decode b_MM_measure 214 = .ok (.getfield 114, 3) := by decide +kernel
theorem d_MM_measure_217 : decode b_MM_measure 217 = .ok (.bipush 48, 2) := by decide +kernel
theorem d_MM_measure_219 : decode b_MM_measure 219 = .ok (.iload_n 2, 1) := by decide +kernel
theorem d_MM_measure_220 : decode b_MM_measure 220 = .ok (.imul, 1) := by decide +kernel
theorem d_MM_measure_221 : decode b_MM_measure 221 = .ok (.iload_n 1, 1) := by decide +kernel
theorem d_MM_measure_222 : decode b_MM_measure 222 = .ok (.iadd, 1) := by decide +kernel
theorem d_MM_measure_223 : decode b_MM_measure 223 = .ok (.iaload, 1) := by decide +kernel
theorem d_MM_measure_224 : decode b_MM_measure 224 = .ok (.aload_n 0, 1) := by decide +kernel
theorem d_MM_measure_225 : decode b_MM_measure 225 = .ok (.getfield 114, 3) := by decide +kernel
theorem d_MM_measure_228 : decode b_MM_measure 228 = .ok (.bipush 48, 2) := by decide +kernel
theorem d_MM_measure_230 : decode b_MM_measure 230 = .ok (.iload_n 1, 1) := by decide +kernel
theorem d_MM_measure_231 : decode b_MM_measure 231 = .ok (.imul, 1) := by decide +kernel
theorem d_MM_measure_232 : decode b_MM_measure 232 = .ok (.iload_n 3, 1) := by decide +kernel
theorem d_MM_measure_233 : decode b_MM_measure 233 = .ok (.iadd, 1) := by decide +kernel
theorem d_MM_measure_234 : decode b_MM_measure 234 = .ok (.iaload, 1) := by decide +kernel
theorem d_MM_measure_235 : decode b_MM_measure 235 = .ok (.iadd, 1) := by decide +kernel
theorem d_MM_measure_236 : decode b_MM_measure 236 = .ok (.invokevirtual 233, 3) := by decide +kernel
theorem d_MM_measure_239 : decode b_MM_measure 239 = .ok (.iinc 3 1, 3) := by decide +kernel
theorem d_MM_measure_242 : decode b_MM_measure 242 = .ok (.goto (-99), 3) := by decide +kernel
theorem d_MM_measure_245 : decode b_MM_measure 245 = .ok (.iinc 2 1, 3) := by decide +kernel
theorem d_MM_measure_248 : decode b_MM_measure 248 = .ok (.goto (-124), 3) := by decide +kernel
theorem d_MM_measure_251 : decode b_MM_measure 251 = .ok (.iinc 1 1, 3) := by decide +kernel
theorem d_MM_measure_254 : decode b_MM_measure 254 = .ok (.goto (-140), 3) := by decide +kernel
theorem d_MM_measure_257 : decode b_MM_measure 257 = .ok (.aload_n 0, 1) := by decide +kernel
theorem d_MM_measure_258 : decode b_MM_measure 258 = .ok (.iconst 0, 1) := by decide +kernel
theorem d_MM_measure_259 : decode b_MM_measure 259 = .ok (.putfield 237, 3) := by decide +kernel
theorem d_MM_measure_262 : decode b_MM_measure 262 = .ok (.iconst 0, 1) := by decide +kernel
theorem d_MM_measure_263 : decode b_MM_measure 263 = .ok (.istore_n 1, 1) := by decide +kernel
theorem d_MM_measure_264 : decode b_MM_measure 264 = .ok (.iload_n 1, 1) := by decide +kernel
theorem d_MM_measure_265 : decode b_MM_measure 265 = .ok (.sipush 2304, 3) := by decide +kernel
theorem d_MM_measure_268 : decode b_MM_measure 268 = .ok (.if_icmp .ge 78, 3) := by decide +kernel
theorem d_MM_measure_271 : decode b_MM_measure 271 = .ok (.aload_n 0, 1) := by decide +kernel
theorem d_MM_measure_272 : decode b_MM_measure 272 = .ok (.getfield 83, 3) := by decide +kernel
theorem d_MM_measure_275 : decode b_MM_measure 275 = .ok (.iload_n 1, 1) := by decide +kernel
theorem d_MM_measure_276 : decode b_MM_measure 276 = .ok (.bipush 48, 2) := by decide +kernel
theorem d_MM_measure_278 : decode b_MM_measure 278 = .ok (.idiv, 1) := by decide +kernel
theorem d_MM_measure_279 : decode b_MM_measure 279 = .ok (.baload, 1) := by decide +kernel
theorem d_MM_measure_280 : decode b_MM_measure 280 = .ok (.ifCond .eq 60, 3) := by decide +kernel
theorem d_MM_measure_283 : decode b_MM_measure 283 = .ok (.aload_n 0, 1) := by decide +kernel
theorem d_MM_measure_284 : decode b_MM_measure 284 = .ok (.getfield 83, 3) := by decide +kernel
theorem d_MM_measure_287 : decode b_MM_measure 287 = .ok (.iload_n 1, 1) := by decide +kernel
theorem d_MM_measure_288 : decode b_MM_measure 288 = .ok (.bipush 48, 2) := by decide +kernel
theorem d_MM_measure_290 : decode b_MM_measure 290 = .ok (.irem, 1) := by decide +kernel
theorem d_MM_measure_291 : decode b_MM_measure 291 = .ok (.baload, 1) := by decide +kernel
theorem d_MM_measure_292 : decode b_MM_measure 292 = .ok (.ifCond .eq 48, 3) := by decide +kernel
theorem d_MM_measure_295 : decode b_MM_measure 295 = .ok (.aload_n 0, 1) := by decide +kernel
theorem d_MM_measure_296 : decode b_MM_measure 296 = .ok (.getfield 111, 3) := by decide +kernel
theorem d_MM_measure_299 : decode b_MM_measure 299 = .ok (.iload_n 1, 1) := by decide +kernel
theorem d_MM_measure_300 : decode b_MM_measure 300 = .ok (.iaload, 1) := by decide +kernel
theorem d_MM_measure_301 : decode b_MM_measure 301 = .ok (.ifCond .ne 39, 3) := by decide +kernel
theorem d_MM_measure_304 : decode b_MM_measure 304 = .ok (.aload_n 0, 1) := by decide +kernel
theorem d_MM_measure_305 : decode b_MM_measure 305 = .ok (.getfield 114, 3) := by decide +kernel
theorem d_MM_measure_308 : decode b_MM_measure 308 = .ok (.iload_n 1, 1) := by decide +kernel
theorem d_MM_measure_309 : decode b_MM_measure 309 = .ok (.iaload, 1) := by decide +kernel
theorem d_MM_measure_310 : decode b_MM_measure 310 = .ok (.aload_n 0, 1) := by decide +kernel
theorem d_MM_measure_311 : decode b_MM_measure 311 = .ok (.iload_n 1, 1) := by decide +kernel
theorem d_MM_measure_312 : decode b_MM_measure 312 = .ok (.bipush 48, 2) := by decide +kernel
theorem d_MM_measure_314 : decode b_MM_measure 314 = .ok (.irem, 1) := by decide +kernel
theorem d_MM_measure_315 : decode b_MM_measure 315 = .ok (.invokevirtual 230, 3) := by decide +kernel
theorem d_MM_measure_318 : decode b_MM_measure 318 = .ok (.iadd, 1) := by decide +kernel
theorem d_MM_measure_319 : decode b_MM_measure 319 = .ok (.istore_n 2, 1) := by decide +kernel
theorem d_MM_measure_320 : decode b_MM_measure 320 = .ok (.aload_n 0, 1) := by decide +kernel
theorem d_MM_measure_321 : decode b_MM_measure 321 = .ok (.iload_n 2, 1) := by decide +kernel
theorem d_MM_measure_322 : decode b_MM_measure 322 = .ok (.aload_n 0, 1) := by decide +kernel
theorem d_MM_measure_323 : decode b_MM_measure 323 = .ok (.getfield 237, 3) := by decide +kernel
theorem d_MM_measure_326 : decode b_MM_measure 326 = .ok (.if_icmp .le 7, 3) := by decide +kernel
theorem d_MM_measure_329 : decode b_MM_measure 329 = .ok (.iload_n 2, 1) := by decide +kernel
theorem d_MM_measure_330 : decode b_MM_measure 330 = .ok (.goto 7, 3) := by decide +kernel
theorem d_MM_measure_333 : decode b_MM_measure 333 = .ok (.aload_n 0, 1) := by decide +kernel
theorem d_MM_measure_334 : decode b_MM_measure 334 = .ok (.getfield 237, 3) := by decide +kernel
theorem d_MM_measure_337 : decode b_MM_measure 337 = .ok (.putfield 237, 3) := by decide +kernel
theorem d_MM_measure_340 : decode b_MM_measure 340 = .ok (.iinc 1 1, 3) := by decide +kernel
theorem d_MM_measure_343 : decode b_MM_measure 343 = .ok (.goto (-79), 3) := by decide +kernel
theorem d_MM_measure_346 : decode b_MM_measure 346 = .ok (.return_, 1) := by decide +kernel
def bk_MM_measure_337 (Q : zS → Prop) (J264 : Int → zS → Prop) (v1 : Int) (z0 : Int) (σ : zS) : Prop :=
  ∀ σ26, σ26 = zup σ 144 0 z0 →
  J264 (v1 + 1) σ26
def lp_MM_measure_264 (Q : zS → Prop) : Nat → Int → zS → Prop
  | 0 => fun _ _ => False
  | n + 1 => fun v1 σ =>
    zc v1 ∧ ((2304 ≤ v1 →
      Q σ) ∧
     (¬ 2304 ≤ v1 →
      0 ≤ v1 ∧ 
      0 ≤ v1 / 48 ∧ v1 / 48 < 48 ∧ 
      zc (σ 131 (v1 / 48)) ∧ ((σ 131 (v1 / 48) = 0 →
        lp_MM_measure_264 Q n (v1 + 1) σ) ∧
       (¬ σ 131 (v1 / 48) = 0 →
        0 ≤ v1 ∧ 
        0 ≤ v1 % 48 ∧ v1 % 48 < 48 ∧ 
        zc (σ 131 (v1 % 48)) ∧ ((σ 131 (v1 % 48) = 0 →
          lp_MM_measure_264 Q n (v1 + 1) σ) ∧
         (¬ σ 131 (v1 % 48) = 0 →
          0 ≤ v1 ∧ v1 < 2304 ∧ 
          zc (σ 141 v1) ∧ ((σ 141 v1 = 0 →
            0 ≤ v1 ∧ 
            wp_MM_delay (fun r22 σ21 =>
              ∀ y23, y23 = (σ 142 v1) + r22 →
              zc y23 ∧ zc (σ21 144 0) ∧ ((y23 ≤ σ21 144 0 →
                bk_MM_measure_337 Q (lp_MM_measure_264 Q n) v1 (σ21 144 0) σ21) ∧
               (¬ y23 ≤ σ21 144 0 →
                bk_MM_measure_337 Q (lp_MM_measure_264 Q n) v1 y23 σ21))) (v1 % 48) σ) ∧
           (¬ σ 141 v1 = 0 →
            lp_MM_measure_264 Q n (v1 + 1) σ))))))))
def lp_MM_measure_143 (Q : zS → Prop) (J114 : Int → zS → Prop) (J124 : Int → Int → zS → Prop) : Nat → Int → Int → Int → zS → Prop
  | 0 => fun _ _ _ _ => False
  | n + 1 => fun v1 v2 v3 σ =>
    zc v3 ∧ zc (σ 113 0) ∧ ((σ 113 0 ≤ v3 →
      J124 v1 (v2 + 1) σ) ∧
     (¬ σ 113 0 ≤ v3 →
      0 ≤ (48 * v2) + v1 ∧ (48 * v2) + v1 < 2304 ∧ 
      zc (σ 141 ((48 * v2) + v1)) ∧ ((1000000 ≤ σ 141 ((48 * v2) + v1) →
        J124 v1 (v2 + 1) σ) ∧
       (¬ 1000000 ≤ σ 141 ((48 * v2) + v1) →
        0 ≤ (48 * v1) + v3 ∧ (48 * v1) + v3 < 2304 ∧ 
        zc (σ 141 ((48 * v1) + v3)) ∧ ((1000000 ≤ σ 141 ((48 * v1) + v3) →
          lp_MM_measure_143 Q J114 J124 n v1 v2 (v3 + 1) σ) ∧
         (¬ 1000000 ≤ σ 141 ((48 * v1) + v3) →
          wp_MM_shorter (fun σ49 =>
            lp_MM_measure_143 Q J114 J124 n v1 v2 (v3 + 1) σ49) ((48 * v2) + v3) ((σ 141 ((48 * v2) + v1)) + (σ 141 ((48 * v1) + v3))) ((σ 142 ((48 * v2) + v1)) + (σ 142 ((48 * v1) + v3))) σ))))))
def lp_MM_measure_124 (Q : zS → Prop) (J114 : Int → zS → Prop) : Nat → Int → Int → zS → Prop
  | 0 => fun _ _ _ => False
  | n + 1 => fun v1 v2 σ =>
    zc v2 ∧ zc (σ 113 0) ∧ ((σ 113 0 ≤ v2 →
      J114 (v1 + 1) σ) ∧
     (¬ σ 113 0 ≤ v2 →
      0 ≤ v1 ∧ v1 < 48 ∧ 
      zc (σ 131 v1) ∧ ((σ 131 v1 = 0 →
        J114 (v1 + 1) σ) ∧
       (¬ σ 131 v1 = 0 →
        ∃ u143, lp_MM_measure_143 Q J114 (lp_MM_measure_124 Q J114 n) u143 v1 v2 0 σ))))
def lp_MM_measure_114 (Q : zS → Prop) : Nat → Int → zS → Prop
  | 0 => fun _ _ => False
  | n + 1 => fun v1 σ =>
    zc v1 ∧ zc (σ 113 0) ∧ ((σ 113 0 ≤ v1 →
      ∀ σ5, σ5 = zup σ 144 0 0 →
      ∃ u264, lp_MM_measure_264 Q u264 0 σ5) ∧
     (¬ σ 113 0 ≤ v1 →
      ∃ u124, lp_MM_measure_124 Q (lp_MM_measure_114 Q n) u124 v1 0 σ))
def lp_MM_measure_47 (Q : zS → Prop) : Nat → Int → zS → Prop
  | 0 => fun _ _ => False
  | n + 1 => fun v1 σ =>
    zc v1 ∧ ((192 ≤ v1 →
      ∃ u114, lp_MM_measure_114 Q u114 0 σ) ∧
     (¬ 192 ≤ v1 →
      0 ≤ v1 ∧ v1 < 196 ∧ 
      ∀ y56, y56 = σ 135 v1 →
      zc y56 ∧ ((y56 < 0 →
        lp_MM_measure_47 Q n (v1 + 1) σ) ∧
       (¬ y56 < 0 →
        0 ≤ y56 ∧ y56 < 48 ∧ 
        zc (σ 131 y56) ∧ ((σ 131 y56 = 0 →
          lp_MM_measure_47 Q n (v1 + 1) σ) ∧
         (¬ σ 131 y56 = 0 →
          0 ≤ v1 ∧ 
          zc (v1 / 4) ∧ ((y56 = v1 / 4 →
            lp_MM_measure_47 Q n (v1 + 1) σ) ∧
           (¬ y56 = v1 / 4 →
            wp_MM_delay (fun r64 σ63 =>
              0 ≤ v1 ∧ 
              wp_MM_shorter (fun σ68 =>
                lp_MM_measure_47 Q n (v1 + 1) σ68) ((48 * y56) + (v1 / 4)) (σ63 136 v1) r64 σ63) y56 σ))))))))
def bk_MM_measure_31 (Q : zS → Prop) (J2 : Int → zS → Prop) (v1 : Int) (z0 : Int) (z1 : Int) (σ : zS) : Prop :=
  0 ≤ z1 ∧ z1 < 2304 ∧ ∀ σ77, σ77 = zup σ 141 z1 z0 →
  0 ≤ v1 ∧ v1 < 2304 ∧ ∀ σ80, σ80 = zup σ77 142 v1 0 →
  J2 (v1 + 1) σ80
def lp_MM_measure_2 (Q : zS → Prop) : Nat → Int → zS → Prop
  | 0 => fun _ _ => False
  | n + 1 => fun v1 σ =>
    zc v1 ∧ ((2304 ≤ v1 →
      ∃ u47, lp_MM_measure_47 Q u47 0 σ) ∧
     (¬ 2304 ≤ v1 →
      0 ≤ v1 ∧ 
      0 ≤ v1 ∧ 
      zc (v1 / 48) ∧ zc (v1 % 48) ∧ ((v1 / 48 = v1 % 48 →
        bk_MM_measure_31 Q (lp_MM_measure_2 Q n) v1 0 v1 σ) ∧
       (¬ v1 / 48 = v1 % 48 →
        bk_MM_measure_31 Q (lp_MM_measure_2 Q n) v1 1000000 v1 σ))))
def wp_MM_measure (Q : zS → Prop) (σ : zS) : Prop :=
  ∃ u2, lp_MM_measure_2 Q u2 0 σ
set_option maxHeartbeats 4000000 in
set_option maxRecDepth 100000 in
theorem wk_MM_measure_337 {E : zE} {D : va_G} {g : zG} {A : Nat → Prop} {ad : zA} {Q : zS → Prop} {J264 : Int → zS → Prop} (C : zX E b_MM_measure R_MM D g { frames := 1, cells := 0, slots := 0, locals := 23 } 4) (R : zRt E none (zQv D g ad Q A) 0 0 A) (hJ264 : ∀ (v1 : Int) (σ : zS), J264 v1 σ → zW E (zOK D A (zst E) g ad) 0 0 264 [(0, .ref (ad (0, 3))), (1, .int (zi v1))] [] σ) (v1 : Int) (z0 : Int) (σ : zS) (h : bk_MM_measure_337 Q J264 v1 z0 σ) : zW E (zOK D A (zst E) g ad) 0 0 337 [(0, .ref (ad (0, 3))), (1, .int (zi v1))] [.int (zi z0), .ref (ad (0, 3))] σ := by
  unfold bk_MM_measure_337 at h
  refine m_putI C 44 144 rfl (by decide) rfl wd_748 ⟨rfl, rfl⟩ (pc := 337) d_MM_measure_337 ?_
  refine zN h (fun σ26 eσ26 h => ?_)
  refine z_iinc (L' := [(1, .int (zi (v1 + 1))), (0, .ref (ad (0, 3)))]) C (pc := 340) d_MM_measure_340 1 rfl (by decide) rfl ?_
  refine z_goto (tgt := 264) C (pc := 343) d_MM_measure_343 (by decide) ?_
  refine z_sub [1, 0] rfl ?_
  exact hJ264 _ _ h
set_option maxHeartbeats 4000000 in
set_option maxRecDepth 100000 in
theorem wk_MM_measure_264 {E : zE} {D : va_G} {g : zG} {A : Nat → Prop} {ad : zA} {Q : zS → Prop} (C : zX E b_MM_measure R_MM D g { frames := 1, cells := 0, slots := 0, locals := 23 } 4) (R : zRt E none (zQv D g ad Q A) 0 0 A) : ∀ (n : Nat) (v1 : Int) (σ : zS), lp_MM_measure_264 Q n v1 σ → zW E (zOK D A (zst E) g ad) 0 0 264 [(0, .ref (ad (0, 3))), (1, .int (zi v1))] [] σ := by
  intro n
  induction n with
  | zero =>
    intro v1 σ h
    exact h.elim
  | succ n ih =>
    intro v1 σ h
    refine z_iload_n C (pc := 264) d_MM_measure_264 1 rfl ?_
    refine z_sipush C (pc := 265) d_MM_measure_265 (by decide) ?_
    obtain ⟨hc6, h⟩ := h
    refine z_icmp_ge (tgt := 346) C (pc := 268) d_MM_measure_268 (by decide) hc6 (by decide) h (fun h => ?_) (fun h => ?_)
    · exact z_vret C R (pc := 346) d_MM_measure_346 h
    · refine z_aload_n C (pc := 271) d_MM_measure_271 0 rfl ?_
      refine m_getA C 31 (by decide) rfl wd_735 (pc := 272) d_MM_measure_272 ?_
      refine z_iload_n C (pc := 275) d_MM_measure_275 1 rfl ?_
      refine z_bipush C (pc := 276) d_MM_measure_276 (by decide) ?_
      obtain ⟨hc7, h⟩ := h
      refine z_idiv C (pc := 278) d_MM_measure_278 hc6 hc7 (by decide) (by decide) ?_
      obtain ⟨hc8, hc9, h⟩ := h
      refine m_zald C 31 131 48 rfl rfl (by decide) hc8 hc9 (pc := 279) d_MM_measure_279 ?_
      obtain ⟨hc10, h⟩ := h
      refine z_if_eq (tgt := 340) C (pc := 280) d_MM_measure_280 (by decide) hc10 h (fun h => ?_) (fun h => ?_)
      · refine z_iinc (L' := [(1, .int (zi (v1 + 1))), (0, .ref (ad (0, 3)))]) C (pc := 340) d_MM_measure_340 1 rfl (by decide) rfl ?_
        refine z_goto (tgt := 264) C (pc := 343) d_MM_measure_343 (by decide) ?_
        refine z_sub [1, 0] rfl ?_
        exact ih _ _ h
      · refine z_aload_n C (pc := 283) d_MM_measure_283 0 rfl ?_
        refine m_getA C 31 (by decide) rfl wd_735 (pc := 284) d_MM_measure_284 ?_
        refine z_iload_n C (pc := 287) d_MM_measure_287 1 rfl ?_
        refine z_bipush C (pc := 288) d_MM_measure_288 (by decide) ?_
        obtain ⟨hc11, h⟩ := h
        refine z_irem C (pc := 290) d_MM_measure_290 hc6 hc11 (by decide) (by decide) ?_
        obtain ⟨hc12, hc13, h⟩ := h
        refine m_zald C 31 131 48 rfl rfl (by decide) hc12 hc13 (pc := 291) d_MM_measure_291 ?_
        obtain ⟨hc14, h⟩ := h
        refine z_if_eq (tgt := 340) C (pc := 292) d_MM_measure_292 (by decide) hc14 h (fun h => ?_) (fun h => ?_)
        · refine z_iinc (L' := [(1, .int (zi (v1 + 1))), (0, .ref (ad (0, 3)))]) C (pc := 340) d_MM_measure_340 1 rfl (by decide) rfl ?_
          refine z_goto (tgt := 264) C (pc := 343) d_MM_measure_343 (by decide) ?_
          refine z_sub [1, 0] rfl ?_
          exact ih _ _ h
        · refine z_aload_n C (pc := 295) d_MM_measure_295 0 rfl ?_
          refine m_getA C 41 (by decide) rfl wd_745 (pc := 296) d_MM_measure_296 ?_
          refine z_iload_n C (pc := 299) d_MM_measure_299 1 rfl ?_
          obtain ⟨hc15, hc16, h⟩ := h
          refine m_iald C 41 141 2304 rfl rfl (by decide) hc15 hc16 (pc := 300) d_MM_measure_300 ?_
          obtain ⟨hc17, h⟩ := h
          refine z_if_ne (tgt := 340) C (pc := 301) d_MM_measure_301 (by decide) hc17 h (fun h => ?_) (fun h => ?_)
          · refine z_iinc (L' := [(1, .int (zi (v1 + 1))), (0, .ref (ad (0, 3)))]) C (pc := 340) d_MM_measure_340 1 rfl (by decide) rfl ?_
            refine z_goto (tgt := 264) C (pc := 343) d_MM_measure_343 (by decide) ?_
            refine z_sub [1, 0] rfl ?_
            exact ih _ _ h
          · refine z_aload_n C (pc := 304) d_MM_measure_304 0 rfl ?_
            refine m_getA C 42 (by decide) rfl wd_746 (pc := 305) d_MM_measure_305 ?_
            refine z_iload_n C (pc := 308) d_MM_measure_308 1 rfl ?_
            refine m_iald C 42 142 2304 rfl rfl (by decide) hc15 hc16 (pc := 309) d_MM_measure_309 ?_
            refine z_aload_n C (pc := 310) d_MM_measure_310 0 rfl ?_
            refine z_iload_n C (pc := 311) d_MM_measure_311 1 rfl ?_
            refine z_bipush C (pc := 312) d_MM_measure_312 (by decide) ?_
            obtain ⟨hc20, h⟩ := h
            refine z_irem C (pc := 314) d_MM_measure_314 hc6 hc20 (by decide) (by decide) ?_
            refine m_calli (As := [.int (zi (v1 % 48))]) C fy_MM_delay rfl wd_998 (pc := 315) d_MM_measure_315 ⟨rfl, rfl, Nat.le_of_ble_eq_true rfl, Nat.le_of_ble_eq_true rfl⟩ rfl rfl (Nat.le_of_ble_eq_true rfl) h (c_MM_delay (zln E) D g ad _ _ _) (fun r22 σ21 h => ?_)
            refine z_iadd C (pc := 318) d_MM_measure_318 ?_
            refine zNi h (fun y23 ey23 h => ?_)
            refine z_istore_n (L' := [(2, .int (zi y23)), (0, .ref (ad (0, 3))), (1, .int (zi v1))]) C (pc := 319) d_MM_measure_319 (by decide) rfl ?_
            refine z_aload_n C (pc := 320) d_MM_measure_320 1 rfl ?_
            refine z_iload_n C (pc := 321) d_MM_measure_321 0 rfl ?_
            refine z_aload_n C (pc := 322) d_MM_measure_322 1 rfl ?_
            refine m_getI C 44 144 rfl (by decide) rfl wd_748 (pc := 323) d_MM_measure_323 ?_
            obtain ⟨hc24, hc25, h⟩ := h
            refine z_icmp_le (tgt := 333) C (pc := 326) d_MM_measure_326 (by decide) hc24 hc25 h (fun h => ?_) (fun h => ?_)
            · refine z_aload_n C (pc := 333) d_MM_measure_333 1 rfl ?_
              refine m_getI C 44 144 rfl (by decide) rfl wd_748 (pc := 334) d_MM_measure_334 ?_
              refine z_sub [1, 2] rfl ?_
              exact wk_MM_measure_337 C R ih _ _ _ h
            · refine z_iload_n C (pc := 329) d_MM_measure_329 0 rfl ?_
              refine z_goto (tgt := 337) C (pc := 330) d_MM_measure_330 (by decide) ?_
              refine z_sub [1, 2] rfl ?_
              exact wk_MM_measure_337 C R ih _ _ _ h
set_option maxHeartbeats 4000000 in
set_option maxRecDepth 100000 in
theorem wk_MM_measure_143 {E : zE} {D : va_G} {g : zG} {A : Nat → Prop} {ad : zA} {Q : zS → Prop} {J114 : Int → zS → Prop} {J124 : Int → Int → zS → Prop} (C : zX E b_MM_measure R_MM D g { frames := 1, cells := 0, slots := 0, locals := 23 } 4) (R : zRt E none (zQv D g ad Q A) 0 0 A) (hJ114 : ∀ (v1 : Int) (σ : zS), J114 v1 σ → zW E (zOK D A (zst E) g ad) 0 0 114 [(0, .ref (ad (0, 3))), (1, .int (zi v1))] [] σ) (hJ124 : ∀ (v1 : Int) (v2 : Int) (σ : zS), J124 v1 v2 σ → zW E (zOK D A (zst E) g ad) 0 0 124 [(0, .ref (ad (0, 3))), (1, .int (zi v1)), (2, .int (zi v2))] [] σ) : ∀ (n : Nat) (v1 : Int) (v2 : Int) (v3 : Int) (σ : zS), lp_MM_measure_143 Q J114 J124 n v1 v2 v3 σ → zW E (zOK D A (zst E) g ad) 0 0 143 [(0, .ref (ad (0, 3))), (1, .int (zi v1)), (2, .int (zi v2)), (3, .int (zi v3))] [] σ := by
  intro n
  induction n with
  | zero =>
    intro v1 v2 v3 σ h
    exact h.elim
  | succ n ih =>
    intro v1 v2 v3 σ h
    refine z_iload_n C (pc := 143) d_MM_measure_143 3 rfl ?_
    refine z_aload_n C (pc := 144) d_MM_measure_144 0 rfl ?_
    refine m_getI C 13 113 rfl (by decide) rfl wd_717 (pc := 145) d_MM_measure_145 ?_
    obtain ⟨hc33, hc34, h⟩ := h
    refine z_icmp_ge (tgt := 245) C (pc := 148) d_MM_measure_148 (by decide) hc33 hc34 h (fun h => ?_) (fun h => ?_)
    · refine z_iinc (L' := [(2, .int (zi (v2 + 1))), (0, .ref (ad (0, 3))), (1, .int (zi v1)), (3, .int (zi v3))]) C (pc := 245) d_MM_measure_245 2 rfl (by decide) rfl ?_
      refine z_goto (tgt := 124) C (pc := 248) d_MM_measure_248 (by decide) ?_
      refine z_sub [1, 2, 0] rfl ?_
      exact hJ124 _ _ _ h
    · refine z_aload_n C (pc := 151) d_MM_measure_151 0 rfl ?_
      refine m_getA C 41 (by decide) rfl wd_745 (pc := 152) d_MM_measure_152 ?_
      refine z_bipush C (pc := 155) d_MM_measure_155 (by decide) ?_
      refine z_iload_n C (pc := 157) d_MM_measure_157 2 rfl ?_
      refine z_imul C (pc := 158) d_MM_measure_158 ?_
      refine z_iload_n C (pc := 159) d_MM_measure_159 1 rfl ?_
      refine z_iadd C (pc := 160) d_MM_measure_160 ?_
      obtain ⟨hc35, hc36, h⟩ := h
      refine m_iald C 41 141 2304 rfl rfl (by decide) hc35 hc36 (pc := 161) d_MM_measure_161 ?_
      refine z_ldc (x := 1000000) C (pc := 162) d_MM_measure_162 wd_981 (by decide) ?_
      obtain ⟨hc37, h⟩ := h
      refine z_icmp_ge (tgt := 245) C (pc := 164) d_MM_measure_164 (by decide) hc37 (by decide) h (fun h => ?_) (fun h => ?_)
      · refine z_iinc (L' := [(2, .int (zi (v2 + 1))), (0, .ref (ad (0, 3))), (1, .int (zi v1)), (3, .int (zi v3))]) C (pc := 245) d_MM_measure_245 2 rfl (by decide) rfl ?_
        refine z_goto (tgt := 124) C (pc := 248) d_MM_measure_248 (by decide) ?_
        refine z_sub [1, 2, 0] rfl ?_
        exact hJ124 _ _ _ h
      · refine z_aload_n C (pc := 167) d_MM_measure_167 0 rfl ?_
        refine m_getA C 41 (by decide) rfl wd_745 (pc := 168) d_MM_measure_168 ?_
        refine z_bipush C (pc := 171) d_MM_measure_171 (by decide) ?_
        refine z_iload_n C (pc := 173) d_MM_measure_173 1 rfl ?_
        refine z_imul C (pc := 174) d_MM_measure_174 ?_
        refine z_iload_n C (pc := 175) d_MM_measure_175 3 rfl ?_
        refine z_iadd C (pc := 176) d_MM_measure_176 ?_
        obtain ⟨hc38, hc39, h⟩ := h
        refine m_iald C 41 141 2304 rfl rfl (by decide) hc38 hc39 (pc := 177) d_MM_measure_177 ?_
        refine z_ldc (x := 1000000) C (pc := 178) d_MM_measure_178 wd_981 (by decide) ?_
        obtain ⟨hc40, h⟩ := h
        refine z_icmp_ge (tgt := 239) C (pc := 180) d_MM_measure_180 (by decide) hc40 (by decide) h (fun h => ?_) (fun h => ?_)
        · refine z_iinc (L' := [(3, .int (zi (v3 + 1))), (0, .ref (ad (0, 3))), (1, .int (zi v1)), (2, .int (zi v2))]) C (pc := 239) d_MM_measure_239 3 rfl (by decide) rfl ?_
          refine z_goto (tgt := 143) C (pc := 242) d_MM_measure_242 (by decide) ?_
          refine z_sub [1, 2, 3, 0] rfl ?_
          exact ih _ _ _ _ h
        · refine z_aload_n C (pc := 183) d_MM_measure_183 0 rfl ?_
          refine z_bipush C (pc := 184) d_MM_measure_184 (by decide) ?_
          refine z_iload_n C (pc := 186) d_MM_measure_186 2 rfl ?_
          refine z_imul C (pc := 187) d_MM_measure_187 ?_
          refine z_iload_n C (pc := 188) d_MM_measure_188 3 rfl ?_
          refine z_iadd C (pc := 189) d_MM_measure_189 ?_
          refine z_aload_n C (pc := 190) d_MM_measure_190 0 rfl ?_
          refine m_getA C 41 (by decide) rfl wd_745 (pc := 191) d_MM_measure_191 ?_
          refine z_bipush C (pc := 194) d_MM_measure_194 (by decide) ?_
          refine z_iload_n C (pc := 196) d_MM_measure_196 2 rfl ?_
          refine z_imul C (pc := 197) d_MM_measure_197 ?_
          refine z_iload_n C (pc := 198) d_MM_measure_198 1 rfl ?_
          refine z_iadd C (pc := 199) d_MM_measure_199 ?_
          refine m_iald C 41 141 2304 rfl rfl (by decide) hc35 hc36 (pc := 200) d_MM_measure_200 ?_
          refine z_aload_n C (pc := 201) d_MM_measure_201 0 rfl ?_
          refine m_getA C 41 (by decide) rfl wd_745 (pc := 202) d_MM_measure_202 ?_
          refine z_bipush C (pc := 205) d_MM_measure_205 (by decide) ?_
          refine z_iload_n C (pc := 207) d_MM_measure_207 1 rfl ?_
          refine z_imul C (pc := 208) d_MM_measure_208 ?_
          refine z_iload_n C (pc := 209) d_MM_measure_209 3 rfl ?_
          refine z_iadd C (pc := 210) d_MM_measure_210 ?_
          refine m_iald C 41 141 2304 rfl rfl (by decide) hc38 hc39 (pc := 211) d_MM_measure_211 ?_
          refine z_iadd C (pc := 212) d_MM_measure_212 ?_
          refine z_aload_n C (pc := 213) d_MM_measure_213 0 rfl ?_
          refine m_getA C 42 (by decide) rfl wd_746 (pc := 214) d_MM_measure_214 ?_
          refine z_bipush C (pc := 217) d_MM_measure_217 (by decide) ?_
          refine z_iload_n C (pc := 219) d_MM_measure_219 2 rfl ?_
          refine z_imul C (pc := 220) d_MM_measure_220 ?_
          refine z_iload_n C (pc := 221) d_MM_measure_221 1 rfl ?_
          refine z_iadd C (pc := 222) d_MM_measure_222 ?_
          refine m_iald C 42 142 2304 rfl rfl (by decide) hc35 hc36 (pc := 223) d_MM_measure_223 ?_
          refine z_aload_n C (pc := 224) d_MM_measure_224 0 rfl ?_
          refine m_getA C 42 (by decide) rfl wd_746 (pc := 225) d_MM_measure_225 ?_
          refine z_bipush C (pc := 228) d_MM_measure_228 (by decide) ?_
          refine z_iload_n C (pc := 230) d_MM_measure_230 1 rfl ?_
          refine z_imul C (pc := 231) d_MM_measure_231 ?_
          refine z_iload_n C (pc := 232) d_MM_measure_232 3 rfl ?_
          refine z_iadd C (pc := 233) d_MM_measure_233 ?_
          refine m_iald C 42 142 2304 rfl rfl (by decide) hc38 hc39 (pc := 234) d_MM_measure_234 ?_
          refine z_iadd C (pc := 235) d_MM_measure_235 ?_
          refine m_callv (As := [.int (zi ((48 * v2) + v3)), .int (zi ((σ 141 ((48 * v2) + v1)) + (σ 141 ((48 * v1) + v3)))), .int (zi ((σ 142 ((48 * v2) + v1)) + (σ 142 ((48 * v1) + v3))))]) C fy_MM_shorter rfl wd_1002 (pc := 236) d_MM_measure_236 ⟨rfl, rfl, Nat.le_of_ble_eq_true rfl, Nat.le_of_ble_eq_true rfl⟩ rfl rfl (Nat.le_of_ble_eq_true rfl) h (c_MM_shorter (zln E) D g ad _ _ _ _ _) (fun σ49 h => ?_)
          refine z_iinc (L' := [(3, .int (zi (v3 + 1))), (0, .ref (ad (0, 3))), (1, .int (zi v1)), (2, .int (zi v2))]) C (pc := 239) d_MM_measure_239 3 rfl (by decide) rfl ?_
          refine z_goto (tgt := 143) C (pc := 242) d_MM_measure_242 (by decide) ?_
          refine z_sub [1, 2, 3, 0] rfl ?_
          exact ih _ _ _ _ h
set_option maxHeartbeats 4000000 in
set_option maxRecDepth 100000 in
theorem wk_MM_measure_124 {E : zE} {D : va_G} {g : zG} {A : Nat → Prop} {ad : zA} {Q : zS → Prop} {J114 : Int → zS → Prop} (C : zX E b_MM_measure R_MM D g { frames := 1, cells := 0, slots := 0, locals := 23 } 4) (R : zRt E none (zQv D g ad Q A) 0 0 A) (hJ114 : ∀ (v1 : Int) (σ : zS), J114 v1 σ → zW E (zOK D A (zst E) g ad) 0 0 114 [(0, .ref (ad (0, 3))), (1, .int (zi v1))] [] σ) : ∀ (n : Nat) (v1 : Int) (v2 : Int) (σ : zS), lp_MM_measure_124 Q J114 n v1 v2 σ → zW E (zOK D A (zst E) g ad) 0 0 124 [(0, .ref (ad (0, 3))), (1, .int (zi v1)), (2, .int (zi v2))] [] σ := by
  intro n
  induction n with
  | zero =>
    intro v1 v2 σ h
    exact h.elim
  | succ n ih =>
    intro v1 v2 σ h
    refine z_iload_n C (pc := 124) d_MM_measure_124 2 rfl ?_
    refine z_aload_n C (pc := 125) d_MM_measure_125 0 rfl ?_
    refine m_getI C 13 113 rfl (by decide) rfl wd_717 (pc := 126) d_MM_measure_126 ?_
    obtain ⟨hc28, hc29, h⟩ := h
    refine z_icmp_ge (tgt := 251) C (pc := 129) d_MM_measure_129 (by decide) hc28 hc29 h (fun h => ?_) (fun h => ?_)
    · refine z_iinc (L' := [(1, .int (zi (v1 + 1))), (0, .ref (ad (0, 3))), (2, .int (zi v2))]) C (pc := 251) d_MM_measure_251 1 rfl (by decide) rfl ?_
      refine z_goto (tgt := 114) C (pc := 254) d_MM_measure_254 (by decide) ?_
      refine z_sub [1, 0] rfl ?_
      exact hJ114 _ _ h
    · refine z_aload_n C (pc := 132) d_MM_measure_132 0 rfl ?_
      refine m_getA C 31 (by decide) rfl wd_735 (pc := 133) d_MM_measure_133 ?_
      refine z_iload_n C (pc := 136) d_MM_measure_136 1 rfl ?_
      obtain ⟨hc30, hc31, h⟩ := h
      refine m_zald C 31 131 48 rfl rfl (by decide) hc30 hc31 (pc := 137) d_MM_measure_137 ?_
      obtain ⟨hc32, h⟩ := h
      refine z_if_eq (tgt := 251) C (pc := 138) d_MM_measure_138 (by decide) hc32 h (fun h => ?_) (fun h => ?_)
      · refine z_iinc (L' := [(1, .int (zi (v1 + 1))), (0, .ref (ad (0, 3))), (2, .int (zi v2))]) C (pc := 251) d_MM_measure_251 1 rfl (by decide) rfl ?_
        refine z_goto (tgt := 114) C (pc := 254) d_MM_measure_254 (by decide) ?_
        refine z_sub [1, 0] rfl ?_
        exact hJ114 _ _ h
      · refine z_iconst C (pc := 141) d_MM_measure_141 ?_
        refine z_istore_n (L' := [(3, .int (zi 0)), (0, .ref (ad (0, 3))), (1, .int (zi v1)), (2, .int (zi v2))]) C (pc := 142) d_MM_measure_142 (by decide) rfl ?_
        refine z_sub [1, 2, 3, 0] rfl ?_
        obtain ⟨n51, h⟩ := h
        exact wk_MM_measure_143 C R hJ114 ih n51 _ _ _ _ h
set_option maxHeartbeats 4000000 in
set_option maxRecDepth 100000 in
theorem wk_MM_measure_114 {E : zE} {D : va_G} {g : zG} {A : Nat → Prop} {ad : zA} {Q : zS → Prop} (C : zX E b_MM_measure R_MM D g { frames := 1, cells := 0, slots := 0, locals := 23 } 4) (R : zRt E none (zQv D g ad Q A) 0 0 A) : ∀ (n : Nat) (v1 : Int) (σ : zS), lp_MM_measure_114 Q n v1 σ → zW E (zOK D A (zst E) g ad) 0 0 114 [(0, .ref (ad (0, 3))), (1, .int (zi v1))] [] σ := by
  intro n
  induction n with
  | zero =>
    intro v1 σ h
    exact h.elim
  | succ n ih =>
    intro v1 σ h
    refine z_iload_n C (pc := 114) d_MM_measure_114 1 rfl ?_
    refine z_aload_n C (pc := 115) d_MM_measure_115 0 rfl ?_
    refine m_getI C 13 113 rfl (by decide) rfl wd_717 (pc := 116) d_MM_measure_116 ?_
    obtain ⟨hc3, hc4, h⟩ := h
    refine z_icmp_ge (tgt := 257) C (pc := 119) d_MM_measure_119 (by decide) hc3 hc4 h (fun h => ?_) (fun h => ?_)
    · refine z_aload_n C (pc := 257) d_MM_measure_257 0 rfl ?_
      refine z_iconst C (pc := 258) d_MM_measure_258 ?_
      refine m_putI C 44 144 rfl (by decide) rfl wd_748 ⟨rfl, rfl⟩ (pc := 259) d_MM_measure_259 ?_
      refine zN h (fun σ5 eσ5 h => ?_)
      refine z_iconst C (pc := 262) d_MM_measure_262 ?_
      refine z_istore_n (L' := [(1, .int (zi 0)), (0, .ref (ad (0, 3)))]) C (pc := 263) d_MM_measure_263 (by decide) rfl ?_
      refine z_sub [1, 0] rfl ?_
      obtain ⟨n27, h⟩ := h
      exact wk_MM_measure_264 C R n27 _ _ h
    · refine z_iconst C (pc := 122) d_MM_measure_122 ?_
      refine z_istore_n (L' := [(2, .int (zi 0)), (0, .ref (ad (0, 3))), (1, .int (zi v1))]) C (pc := 123) d_MM_measure_123 (by decide) rfl ?_
      refine z_sub [1, 2, 0] rfl ?_
      obtain ⟨n52, h⟩ := h
      exact wk_MM_measure_124 C R ih n52 _ _ _ h
set_option maxHeartbeats 4000000 in
set_option maxRecDepth 100000 in
theorem wk_MM_measure_47 {E : zE} {D : va_G} {g : zG} {A : Nat → Prop} {ad : zA} {Q : zS → Prop} (C : zX E b_MM_measure R_MM D g { frames := 1, cells := 0, slots := 0, locals := 23 } 4) (R : zRt E none (zQv D g ad Q A) 0 0 A) : ∀ (n : Nat) (v1 : Int) (σ : zS), lp_MM_measure_47 Q n v1 σ → zW E (zOK D A (zst E) g ad) 0 0 47 [(0, .ref (ad (0, 3))), (1, .int (zi v1))] [] σ := by
  intro n
  induction n with
  | zero =>
    intro v1 σ h
    exact h.elim
  | succ n ih =>
    intro v1 σ h
    refine z_iload_n C (pc := 47) d_MM_measure_47 1 rfl ?_
    refine z_sipush C (pc := 48) d_MM_measure_48 (by decide) ?_
    obtain ⟨hc2, h⟩ := h
    refine z_icmp_ge (tgt := 112) C (pc := 51) d_MM_measure_51 (by decide) hc2 (by decide) h (fun h => ?_) (fun h => ?_)
    · refine z_iconst C (pc := 112) d_MM_measure_112 ?_
      refine z_istore_n (L' := [(1, .int (zi 0)), (0, .ref (ad (0, 3)))]) C (pc := 113) d_MM_measure_113 (by decide) rfl ?_
      refine z_sub [1, 0] rfl ?_
      obtain ⟨n53, h⟩ := h
      exact wk_MM_measure_114 C R n53 _ _ h
    · refine z_aload_n C (pc := 54) d_MM_measure_54 0 rfl ?_
      refine m_getA C 35 (by decide) rfl wd_739 (pc := 55) d_MM_measure_55 ?_
      refine z_iload_n C (pc := 58) d_MM_measure_58 1 rfl ?_
      obtain ⟨hc54, hc55, h⟩ := h
      refine m_iald C 35 135 196 rfl rfl (by decide) hc54 hc55 (pc := 59) d_MM_measure_59 ?_
      refine zNi h (fun y56 ey56 h => ?_)
      refine z_istore_n (L' := [(2, .int (zi y56)), (0, .ref (ad (0, 3))), (1, .int (zi v1))]) C (pc := 60) d_MM_measure_60 (by decide) rfl ?_
      refine z_iload_n C (pc := 61) d_MM_measure_61 0 rfl ?_
      obtain ⟨hc57, h⟩ := h
      refine z_if_lt (tgt := 106) C (pc := 62) d_MM_measure_62 (by decide) hc57 h (fun h => ?_) (fun h => ?_)
      · refine z_iinc (L' := [(1, .int (zi (v1 + 1))), (2, .int (zi y56)), (0, .ref (ad (0, 3)))]) C (pc := 106) d_MM_measure_106 2 rfl (by decide) rfl ?_
        refine z_goto (tgt := 47) C (pc := 109) d_MM_measure_109 (by decide) ?_
        refine z_sub [2, 0] rfl ?_
        exact ih _ _ h
      · refine z_aload_n C (pc := 65) d_MM_measure_65 1 rfl ?_
        refine m_getA C 31 (by decide) rfl wd_735 (pc := 66) d_MM_measure_66 ?_
        refine z_iload_n C (pc := 69) d_MM_measure_69 0 rfl ?_
        obtain ⟨hc58, hc59, h⟩ := h
        refine m_zald C 31 131 48 rfl rfl (by decide) hc58 hc59 (pc := 70) d_MM_measure_70 ?_
        obtain ⟨hc60, h⟩ := h
        refine z_if_eq (tgt := 106) C (pc := 71) d_MM_measure_71 (by decide) hc60 h (fun h => ?_) (fun h => ?_)
        · refine z_iinc (L' := [(1, .int (zi (v1 + 1))), (2, .int (zi y56)), (0, .ref (ad (0, 3)))]) C (pc := 106) d_MM_measure_106 2 rfl (by decide) rfl ?_
          refine z_goto (tgt := 47) C (pc := 109) d_MM_measure_109 (by decide) ?_
          refine z_sub [2, 0] rfl ?_
          exact ih _ _ h
        · refine z_iload_n C (pc := 74) d_MM_measure_74 0 rfl ?_
          refine z_iload_n C (pc := 75) d_MM_measure_75 2 rfl ?_
          refine z_iconst C (pc := 76) d_MM_measure_76 ?_
          obtain ⟨hc61, h⟩ := h
          refine z_idiv C (pc := 77) d_MM_measure_77 hc2 hc61 (by decide) (by decide) ?_
          obtain ⟨hc62, h⟩ := h
          refine z_icmp_eq (tgt := 106) C (pc := 78) d_MM_measure_78 (by decide) hc57 hc62 h (fun h => ?_) (fun h => ?_)
          · refine z_iinc (L' := [(1, .int (zi (v1 + 1))), (2, .int (zi y56)), (0, .ref (ad (0, 3)))]) C (pc := 106) d_MM_measure_106 2 rfl (by decide) rfl ?_
            refine z_goto (tgt := 47) C (pc := 109) d_MM_measure_109 (by decide) ?_
            refine z_sub [2, 0] rfl ?_
            exact ih _ _ h
          · refine z_aload_n C (pc := 81) d_MM_measure_81 1 rfl ?_
            refine z_iload_n C (pc := 82) d_MM_measure_82 0 rfl ?_
            refine m_calli (As := [.int (zi y56)]) C fy_MM_delay rfl wd_998 (pc := 83) d_MM_measure_83 ⟨rfl, rfl, Nat.le_of_ble_eq_true rfl, Nat.le_of_ble_eq_true rfl⟩ rfl rfl (Nat.le_of_ble_eq_true rfl) h (c_MM_delay (zln E) D g ad _ _ _) (fun r64 σ63 h => ?_)
            refine z_istore_n (L' := [(3, .int (zi r64)), (2, .int (zi y56)), (0, .ref (ad (0, 3))), (1, .int (zi v1))]) C (pc := 86) d_MM_measure_86 (by decide) rfl ?_
            refine z_aload_n C (pc := 87) d_MM_measure_87 2 rfl ?_
            refine z_bipush C (pc := 88) d_MM_measure_88 (by decide) ?_
            refine z_iload_n C (pc := 90) d_MM_measure_90 1 rfl ?_
            refine z_imul C (pc := 91) d_MM_measure_91 ?_
            refine z_iload_n C (pc := 92) d_MM_measure_92 3 rfl ?_
            refine z_iconst C (pc := 93) d_MM_measure_93 ?_
            obtain ⟨hc65, h⟩ := h
            refine z_idiv C (pc := 94) d_MM_measure_94 hc2 hc65 (by decide) (by decide) ?_
            refine z_iadd C (pc := 95) d_MM_measure_95 ?_
            refine z_aload_n C (pc := 96) d_MM_measure_96 2 rfl ?_
            refine m_getA C 36 (by decide) rfl wd_740 (pc := 97) d_MM_measure_97 ?_
            refine z_iload_n C (pc := 100) d_MM_measure_100 3 rfl ?_
            refine m_iald C 36 136 196 rfl rfl (by decide) hc54 hc55 (pc := 101) d_MM_measure_101 ?_
            refine z_iload_n C (pc := 102) d_MM_measure_102 0 rfl ?_
            refine m_callv (As := [.int (zi ((48 * y56) + (v1 / 4))), .int (zi (σ63 136 v1)), .int (zi r64)]) C fy_MM_shorter rfl wd_1002 (pc := 103) d_MM_measure_103 ⟨rfl, rfl, Nat.le_of_ble_eq_true rfl, Nat.le_of_ble_eq_true rfl⟩ rfl rfl (Nat.le_of_ble_eq_true rfl) h (c_MM_shorter (zln E) D g ad _ _ _ _ _) (fun σ68 h => ?_)
            refine z_iinc (L' := [(1, .int (zi (v1 + 1))), (3, .int (zi r64)), (2, .int (zi y56)), (0, .ref (ad (0, 3)))]) C (pc := 106) d_MM_measure_106 3 rfl (by decide) rfl ?_
            refine z_goto (tgt := 47) C (pc := 109) d_MM_measure_109 (by decide) ?_
            refine z_sub [3, 0] rfl ?_
            exact ih _ _ h
set_option maxHeartbeats 4000000 in
set_option maxRecDepth 100000 in
theorem wk_MM_measure_31 {E : zE} {D : va_G} {g : zG} {A : Nat → Prop} {ad : zA} {Q : zS → Prop} {J2 : Int → zS → Prop} (C : zX E b_MM_measure R_MM D g { frames := 1, cells := 0, slots := 0, locals := 23 } 4) (R : zRt E none (zQv D g ad Q A) 0 0 A) (hJ2 : ∀ (v1 : Int) (σ : zS), J2 v1 σ → zW E (zOK D A (zst E) g ad) 0 0 2 [(0, .ref (ad (0, 3))), (1, .int (zi v1))] [] σ) (v1 : Int) (z0 : Int) (z1 : Int) (σ : zS) (h : bk_MM_measure_31 Q J2 v1 z0 z1 σ) : zW E (zOK D A (zst E) g ad) 0 0 31 [(0, .ref (ad (0, 3))), (1, .int (zi v1))] [.int (zi z0), .int (zi z1), .ref (ad (7, 41))] σ := by
  unfold bk_MM_measure_31 at h
  obtain ⟨hc75, hc76, h⟩ := h
  refine m_iast C 41 141 2304 rfl rfl (by decide) hc75 hc76 (pc := 31) d_MM_measure_31 ?_
  refine zN h (fun σ77 eσ77 h => ?_)
  refine z_aload_n C (pc := 32) d_MM_measure_32 0 rfl ?_
  refine m_getA C 42 (by decide) rfl wd_746 (pc := 33) d_MM_measure_33 ?_
  refine z_iload_n C (pc := 36) d_MM_measure_36 1 rfl ?_
  refine z_iconst C (pc := 37) d_MM_measure_37 ?_
  obtain ⟨hc78, hc79, h⟩ := h
  refine m_iast C 42 142 2304 rfl rfl (by decide) hc78 hc79 (pc := 38) d_MM_measure_38 ?_
  refine zN h (fun σ80 eσ80 h => ?_)
  refine z_iinc (L' := [(1, .int (zi (v1 + 1))), (0, .ref (ad (0, 3)))]) C (pc := 39) d_MM_measure_39 1 rfl (by decide) rfl ?_
  refine z_goto (tgt := 2) C (pc := 42) d_MM_measure_42 (by decide) ?_
  refine z_sub [1, 0] rfl ?_
  exact hJ2 _ _ h
set_option maxHeartbeats 4000000 in
set_option maxRecDepth 100000 in
theorem wk_MM_measure_2 {E : zE} {D : va_G} {g : zG} {A : Nat → Prop} {ad : zA} {Q : zS → Prop} (C : zX E b_MM_measure R_MM D g { frames := 1, cells := 0, slots := 0, locals := 23 } 4) (R : zRt E none (zQv D g ad Q A) 0 0 A) : ∀ (n : Nat) (v1 : Int) (σ : zS), lp_MM_measure_2 Q n v1 σ → zW E (zOK D A (zst E) g ad) 0 0 2 [(0, .ref (ad (0, 3))), (1, .int (zi v1))] [] σ := by
  intro n
  induction n with
  | zero =>
    intro v1 σ h
    exact h.elim
  | succ n ih =>
    intro v1 σ h
    refine z_iload_n C (pc := 2) d_MM_measure_2 1 rfl ?_
    refine z_sipush C (pc := 3) d_MM_measure_3 (by decide) ?_
    obtain ⟨hc1, h⟩ := h
    refine z_icmp_ge (tgt := 45) C (pc := 6) d_MM_measure_6 (by decide) hc1 (by decide) h (fun h => ?_) (fun h => ?_)
    · refine z_iconst C (pc := 45) d_MM_measure_45 ?_
      refine z_istore_n (L' := [(1, .int (zi 0)), (0, .ref (ad (0, 3)))]) C (pc := 46) d_MM_measure_46 (by decide) rfl ?_
      refine z_sub [1, 0] rfl ?_
      obtain ⟨n70, h⟩ := h
      exact wk_MM_measure_47 C R n70 _ _ h
    · refine z_aload_n C (pc := 9) d_MM_measure_9 0 rfl ?_
      refine m_getA C 41 (by decide) rfl wd_745 (pc := 10) d_MM_measure_10 ?_
      refine z_iload_n C (pc := 13) d_MM_measure_13 1 rfl ?_
      refine z_iload_n C (pc := 14) d_MM_measure_14 1 rfl ?_
      refine z_bipush C (pc := 15) d_MM_measure_15 (by decide) ?_
      obtain ⟨hc71, h⟩ := h
      refine z_idiv C (pc := 17) d_MM_measure_17 hc1 hc71 (by decide) (by decide) ?_
      refine z_iload_n C (pc := 18) d_MM_measure_18 1 rfl ?_
      refine z_bipush C (pc := 19) d_MM_measure_19 (by decide) ?_
      obtain ⟨hc72, h⟩ := h
      refine z_irem C (pc := 21) d_MM_measure_21 hc1 hc72 (by decide) (by decide) ?_
      obtain ⟨hc73, hc74, h⟩ := h
      refine z_icmp_ne (tgt := 29) C (pc := 22) d_MM_measure_22 (by decide) hc73 hc74 h (fun h => ?_) (fun h => ?_)
      · refine z_ldc (x := 1000000) C (pc := 29) d_MM_measure_29 wd_981 (by decide) ?_
        exact wk_MM_measure_31 C R ih _ _ _ _ h
      · refine z_iconst C (pc := 25) d_MM_measure_25 ?_
        refine z_goto (tgt := 31) C (pc := 26) d_MM_measure_26 (by decide) ?_
        exact wk_MM_measure_31 C R ih _ _ _ _ h
set_option maxHeartbeats 4000000 in
set_option maxRecDepth 100000 in
theorem c_MM_measure (l : Launch) (D : va_G) (g : zG) (ad : zA) (Q : zS → Prop) (σ : zS) (h : wp_MM_measure Q σ) : zMv l y_MM_measure b_MM_measure 4 none { frames := 1, cells := 0, slots := 0, locals := 23 } D g ad σ [.ref (ad (0, 3))] Q := by
  unfold wp_MM_measure at h
  refine zM_of (by decide) (Nat.le_of_ble_eq_true rfl) (fun E C R hl => ?_)
  have C : zX E b_MM_measure R_MM D g { frames := 1, cells := 0, slots := 0, locals := 23 } 4 := C
  refine z_sub (L' := [(0, .ref (ad (0, 3)))]) [0] rfl ?_
  refine z_iconst C (pc := 0) d_MM_measure_0 ?_
  refine z_istore_n (L' := [(1, .int (zi 0)), (0, .ref (ad (0, 3)))]) C (pc := 1) d_MM_measure_1 (by decide) rfl ?_
  refine z_sub [1, 0] rfl ?_
  obtain ⟨n81, h⟩ := h
  exact wk_MM_measure_2 C R n81 _ _ h
theorem d_MM_raise_0 : decode b_MM_raise 0 = .ok (.iconst 0, 1) := by decide +kernel
theorem d_MM_raise_1 : decode b_MM_raise 1 = .ok (.istore_n 2, 1) := by decide +kernel
theorem d_MM_raise_2 : decode b_MM_raise 2 = .ok (.iconst 0, 1) := by decide +kernel
theorem d_MM_raise_3 : decode b_MM_raise 3 = .ok (.istore_n 3, 1) := by decide +kernel
theorem d_MM_raise_4 : decode b_MM_raise 4 = .ok (.iload_n 3, 1) := by decide +kernel
theorem d_MM_raise_5 : decode b_MM_raise 5 = .ok (.aload_n 0, 1) := by decide +kernel
theorem d_MM_raise_6 : decode b_MM_raise 6 = .ok (.getfield 135, 3) := by decide +kernel
theorem d_MM_raise_9 : decode b_MM_raise 9 = .ok (.if_icmp .ge 129, 3) := by decide +kernel
theorem d_MM_raise_12 : decode b_MM_raise 12 = .ok (.iconst 0, 1) := by decide +kernel
theorem d_MM_raise_13 : decode b_MM_raise 13 = .ok (.istore 4, 2) := by decide +kernel
theorem d_MM_raise_15 : decode b_MM_raise 15 = .ok (.iload 4, 2) := by decide +kernel
theorem d_MM_raise_17 : decode b_MM_raise 17 = .ok (.aload_n 0, 1) := by decide +kernel
theorem d_MM_raise_18 : decode b_MM_raise 18 = .ok (.getfield 135, 3) := by decide +kernel
theorem d_MM_raise_21 : decode b_MM_raise 21 = .ok (.if_icmp .ge 111, 3) := by decide +kernel
theorem d_MM_raise_24 : decode b_MM_raise 24 = .ok (.aload_n 0, 1) := by decide +kernel
theorem d_MM_raise_25 : decode b_MM_raise 25 = .ok (.getfield 83, 3) := by decide +kernel
theorem d_MM_raise_28 : decode b_MM_raise 28 = .ok (.iload_n 3, 1) := by decide +kernel
theorem d_MM_raise_29 : decode b_MM_raise 29 = .ok (.baload, 1) := by decide +kernel
theorem d_MM_raise_30 : decode b_MM_raise 30 = .ok (.ifCond .eq 102, 3) := by decide +kernel
theorem d_MM_raise_33 : decode b_MM_raise 33 = .ok (.bipush 48, 2) := by decide +kernel
theorem d_MM_raise_35 : decode b_MM_raise 35 = .ok (.iload_n 3, 1) := by decide +kernel
theorem d_MM_raise_36 : decode b_MM_raise 36 = .ok (.imul, 1) := by decide +kernel
theorem d_MM_raise_37 : decode b_MM_raise 37 = .ok (.iload 4, 2) := by decide +kernel
theorem d_MM_raise_39 : decode b_MM_raise 39 = .ok (.iadd, 1) := by decide +kernel
theorem d_MM_raise_40 : decode b_MM_raise 40 = .ok (.istore 5, 2) := by decide +kernel
theorem d_MM_raise_42 : decode b_MM_raise 42 = .ok (.aload_n 0, 1) := by decide +kernel
theorem d_MM_raise_43 : decode b_MM_raise 43 = .ok (.getfield 83, 3) := by decide +kernel
theorem d_MM_raise_46 : decode b_MM_raise 46 = .ok (.iload 4, 2) := by decide +kernel
theorem d_MM_raise_48 : decode b_MM_raise 48 = .ok (.baload, 1) := by decide +kernel
theorem d_MM_raise_49 : decode b_MM_raise 49 = .ok (.ifCond .eq 77, 3) := by decide +kernel
theorem d_MM_raise_52 : decode b_MM_raise 52 = .ok (.aload_n 0, 1) := by decide +kernel
theorem d_MM_raise_53 : decode b_MM_raise 53 = .ok (.getfield 111, 3) := by decide +kernel
theorem d_MM_raise_56 : decode b_MM_raise 56 = .ok (.iload 5, 2) := by decide +kernel
theorem d_MM_raise_58 : decode b_MM_raise 58 = .ok (.iaload, 1) := by decide +kernel
theorem d_MM_raise_59 : decode b_MM_raise 59 = .ok (.ldc 216, 2) := by decide +kernel
theorem d_MM_raise_61 : decode b_MM_raise 61 = .ok (.if_icmp .ge 65, 3) := by decide +kernel
theorem d_MM_raise_64 : decode b_MM_raise 64 = .ok (.aload_n 0, 1) := by decide +kernel
theorem d_MM_raise_65 : decode b_MM_raise 65 = .ok (.getfield 117, 3) := by decide +kernel
theorem d_MM_raise_68 : decode b_MM_raise 68 = .ok (.iload 4, 2) := by decide +kernel
theorem d_MM_raise_70 : decode b_MM_raise 70 = .ok (.iaload, 1) := by decide +kernel
theorem d_MM_raise_71 : decode b_MM_raise 71 = .ok (.aload_n 0, 1) := by decide +kernel
theorem d_MM_raise_72 : decode b_MM_raise 72 = .ok (.getfield 111, 3) := by decide +kernel
theorem d_MM_raise_75 : decode b_MM_raise 75 = .ok (.iload 5, 2) := by decide +kernel
theorem d_MM_raise_77 : decode b_MM_raise 77 = .ok (.iaload, 1) := by decide +kernel
theorem d_MM_raise_78 : decode b_MM_raise 78 = .ok (.isub, 1) := by decide +kernel
theorem d_MM_raise_79 : decode b_MM_raise 79 = .ok (.aload_n 0, 1) := by decide +kernel
theorem d_MM_raise_80 : decode b_MM_raise 80 = .ok (.getfield 114, 3) := by decide +kernel
theorem d_MM_raise_83 : decode b_MM_raise 83 = .ok (.iload 5, 2) := by decide +kernel
theorem d_MM_raise_85 : decode b_MM_raise 85 = .ok (.iaload, 1) := by decide +kernel
theorem d_MM_raise_86 : decode b_MM_raise 86 = .ok (.aload_n 0, 1) := by decide +kernel
theorem d_MM_raise_87 : decode b_MM_raise 87 = .ok (.iload 4, 2) := by decide +kernel
theorem d_MM_raise_89 : decode b_MM_raise 89 = .ok (.invokevirtual 230, 3) := by decide +kernel
theorem d_MM_raise_92 : decode b_MM_raise 92 = .ok (.iadd, 1) := by decide +kernel
theorem d_MM_raise_93 : decode b_MM_raise 93 = .ok (.iload_n 1, 1) := by decide +kernel
theorem d_MM_raise_94 : decode b_MM_raise 94 = .ok (.if_icmp .le 7, 3) := by decide +kernel
theorem d_MM_raise_97 : decode b_MM_raise 97 = .ok (.iconst 1, 1) := by decide +kernel
theorem d_MM_raise_98 : decode b_MM_raise 98 = .ok (.goto 4, 3) := by decide +kernel
theorem d_MM_raise_101 : decode b_MM_raise 101 = .ok (.iconst 0, 1) := by decide +kernel
theorem d_MM_raise_102 : decode b_MM_raise 102 = .ok (.iadd, 1) := by decide +kernel
theorem d_MM_raise_103 : decode b_MM_raise 103 = .ok (.istore 6, 2) := by decide +kernel
theorem d_MM_raise_105 : decode b_MM_raise 105 = .ok (.iload 6, 2) := by decide +kernel
theorem d_MM_raise_107 : decode b_MM_raise 107 = .ok (.aload_n 0, 1) := by decide +kernel
theorem d_MM_raise_108 : decode b_MM_raise 108 = .ok (.getfield 117, 3) := by decide +kernel
theorem d_MM_raise_111 : decode b_MM_raise 111 = .ok (.iload_n 3, 1) := by decide +kernel
theorem d_MM_raise_112 : decode b_MM_raise 112 = .ok (.iaload, 1) := by decide +kernel
theorem d_MM_raise_113 : decode b_MM_raise 113 = .ok (.if_icmp .le 13, 3) := by decide +kernel
theorem d_MM_raise_116 : decode b_MM_raise 116 = .ok (.aload_n 0, 1) := by decide +kernel
theorem d_MM_raise_117 : decode b_MM_raise 117 = .ok (.getfield 117, 3) := by decide +kernel
theorem d_MM_raise_120 : decode b_MM_raise 120 = .ok (.iload_n 3, 1) := by decide +kernel
theorem d_MM_raise_121 : decode b_MM_raise 121 = .ok (.iload 6, 2) := by decide +kernel
theorem d_MM_raise_123 : decode b_MM_raise 123 = .ok (.iastore, 1) := by decide +kernel
theorem d_MM_raise_124 : decode b_MM_raise 124 = .ok (.iconst 1, 1) := by decide +kernel
theorem d_MM_raise_125 : decode b_MM_raise 125 = .ok (.istore_n 2, 1) := by decide +kernel
theorem d_MM_raise_126 : decode b_MM_raise 126 = .ok (.iinc 4 1, 3) := by decide +kernel
theorem d_MM_raise_129 : decode b_MM_raise 129 = .ok (.goto (-114), 3) := by decide +kernel
theorem d_MM_raise_132 : decode b_MM_raise 132 = .ok (.iinc 3 1, 3) := by decide +kernel
theorem d_MM_raise_135 : decode b_MM_raise 135 = .ok (.goto (-131), 3) := by decide +kernel
theorem d_MM_raise_138 : decode b_MM_raise 138 = .ok (.iload_n 2, 1) := by decide +kernel
theorem d_MM_raise_139 : decode b_MM_raise 139 = .ok (.ireturn, 1) := by decide +kernel
def bk_MM_raise_102 (Q : Int → zS → Prop) (J4 : Int → Int → Int → zS → Prop) (J15 : Int → Int → Int → Int → zS → Prop) (v1 : Int) (v2 : Int) (v3 : Int) (v4 : Int) (z0 : Int) (z1 : Int) (σ : zS) : Prop :=
  ∀ y25, y25 = z1 + z0 →
  0 ≤ v3 ∧ v3 < 48 ∧ 
  zc y25 ∧ zc (σ 143 v3) ∧ ((y25 ≤ σ 143 v3 →
    J15 v1 v2 v3 (v4 + 1) σ) ∧
   (¬ y25 ≤ σ 143 v3 →
    ∀ σ32, σ32 = zup σ 143 v3 y25 →
    J15 v1 1 v3 (v4 + 1) σ32))
def lp_MM_raise_15 (Q : Int → zS → Prop) (J4 : Int → Int → Int → zS → Prop) : Nat → Int → Int → Int → Int → zS → Prop
  | 0 => fun _ _ _ _ _ => False
  | n + 1 => fun v1 v2 v3 v4 σ =>
    zc v4 ∧ zc (σ 113 0) ∧ ((σ 113 0 ≤ v4 →
      J4 v1 v2 (v3 + 1) σ) ∧
     (¬ σ 113 0 ≤ v4 →
      0 ≤ v3 ∧ v3 < 48 ∧ 
      zc (σ 131 v3) ∧ ((σ 131 v3 = 0 →
        J4 v1 v2 (v3 + 1) σ) ∧
       (¬ σ 131 v3 = 0 →
        ∀ y8, y8 = (48 * v3) + v4 →
        0 ≤ v4 ∧ v4 < 48 ∧ 
        zc (σ 131 v4) ∧ ((σ 131 v4 = 0 →
          lp_MM_raise_15 Q J4 n v1 v2 v3 (v4 + 1) σ) ∧
         (¬ σ 131 v4 = 0 →
          0 ≤ y8 ∧ y8 < 2304 ∧ 
          zc (σ 141 y8) ∧ ((1000000 ≤ σ 141 y8 →
            lp_MM_raise_15 Q J4 n v1 v2 v3 (v4 + 1) σ) ∧
           (¬ 1000000 ≤ σ 141 y8 →
            wp_MM_delay (fun r22 σ21 =>
              zc ((σ 142 y8) + r22) ∧ zc v1 ∧ (((σ 142 y8) + r22 ≤ v1 →
                bk_MM_raise_102 Q J4 (lp_MM_raise_15 Q J4 n) v1 v2 v3 v4 0 ((σ 143 v4) - (σ 141 y8)) σ21) ∧
               (¬ (σ 142 y8) + r22 ≤ v1 →
                bk_MM_raise_102 Q J4 (lp_MM_raise_15 Q J4 n) v1 v2 v3 v4 1 ((σ 143 v4) - (σ 141 y8)) σ21))) v4 σ))))))))
def lp_MM_raise_4 (Q : Int → zS → Prop) : Nat → Int → Int → Int → zS → Prop
  | 0 => fun _ _ _ _ => False
  | n + 1 => fun v1 v2 v3 σ =>
    zc v3 ∧ zc (σ 113 0) ∧ ((σ 113 0 ≤ v3 →
      (v2 = 0 ∨ v2 = 1) ∧ Q v2 σ) ∧
     (¬ σ 113 0 ≤ v3 →
      ∃ u15, lp_MM_raise_15 Q (lp_MM_raise_4 Q n) u15 v1 v2 v3 0 σ))
def wp_MM_raise (Q : Int → zS → Prop) (v1 : Int) (σ : zS) : Prop :=
  ∃ u4, lp_MM_raise_4 Q u4 v1 0 0 σ
set_option maxHeartbeats 4000000 in
set_option maxRecDepth 100000 in
theorem wk_MM_raise_102 {E : zE} {D : va_G} {g : zG} {A : Nat → Prop} {ad : zA} {Q : Int → zS → Prop} {J4 : Int → Int → Int → zS → Prop} {J15 : Int → Int → Int → Int → zS → Prop} (C : zX E b_MM_raise R_MM D g { frames := 1, cells := 0, slots := 0, locals := 21 } 7) (R : zRt E (some .boolean) (zQi D g ad Q A) 0 0 A) (hJ4 : ∀ (v1 : Int) (v2 : Int) (v3 : Int) (σ : zS), J4 v1 v2 v3 σ → zW E (zOK D A (zst E) g ad) 0 0 4 [(0, .ref (ad (0, 3))), (1, .int (zi v1)), (2, .int (zi v2)), (3, .int (zi v3))] [] σ) (hJ15 : ∀ (v1 : Int) (v2 : Int) (v3 : Int) (v4 : Int) (σ : zS), J15 v1 v2 v3 v4 σ → zW E (zOK D A (zst E) g ad) 0 0 15 [(0, .ref (ad (0, 3))), (1, .int (zi v1)), (2, .int (zi v2)), (3, .int (zi v3)), (4, .int (zi v4))] [] σ) (v1 : Int) (v2 : Int) (v3 : Int) (v4 : Int) (z0 : Int) (z1 : Int) (σ : zS) (h : bk_MM_raise_102 Q J4 J15 v1 v2 v3 v4 z0 z1 σ) : zW E (zOK D A (zst E) g ad) 0 0 102 [(0, .ref (ad (0, 3))), (1, .int (zi v1)), (2, .int (zi v2)), (3, .int (zi v3)), (4, .int (zi v4))] [.int (zi z0), .int (zi z1)] σ := by
  unfold bk_MM_raise_102 at h
  refine z_iadd C (pc := 102) d_MM_raise_102 ?_
  refine zNi h (fun y25 ey25 h => ?_)
  refine z_istore (L' := [(6, .int (zi y25)), (0, .ref (ad (0, 3))), (1, .int (zi v1)), (2, .int (zi v2)), (3, .int (zi v3)), (4, .int (zi v4))]) C (pc := 103) d_MM_raise_103 (by decide) rfl ?_
  refine z_iload C (pc := 105) d_MM_raise_105 0 rfl ?_
  refine z_aload_n C (pc := 107) d_MM_raise_107 1 rfl ?_
  refine m_getA C 43 (by decide) rfl wd_747 (pc := 108) d_MM_raise_108 ?_
  refine z_iload_n C (pc := 111) d_MM_raise_111 4 rfl ?_
  obtain ⟨hc26, hc27, h⟩ := h
  refine m_iald C 43 143 48 rfl rfl (by decide) hc26 hc27 (pc := 112) d_MM_raise_112 ?_
  obtain ⟨hc28, hc29, h⟩ := h
  refine z_icmp_le (tgt := 126) C (pc := 113) d_MM_raise_113 (by decide) hc28 hc29 h (fun h => ?_) (fun h => ?_)
  · refine z_iinc (L' := [(4, .int (zi (v4 + 1))), (6, .int (zi y25)), (0, .ref (ad (0, 3))), (1, .int (zi v1)), (2, .int (zi v2)), (3, .int (zi v3))]) C (pc := 126) d_MM_raise_126 5 rfl (by decide) rfl ?_
    refine z_goto (tgt := 15) C (pc := 129) d_MM_raise_129 (by decide) ?_
    refine z_sub [2, 3, 4, 5, 0] rfl ?_
    exact hJ15 _ _ _ _ _ h
  · refine z_aload_n C (pc := 116) d_MM_raise_116 1 rfl ?_
    refine m_getA C 43 (by decide) rfl wd_747 (pc := 117) d_MM_raise_117 ?_
    refine z_iload_n C (pc := 120) d_MM_raise_120 4 rfl ?_
    refine z_iload C (pc := 121) d_MM_raise_121 0 rfl ?_
    refine m_iast C 43 143 48 rfl rfl (by decide) hc26 hc27 (pc := 123) d_MM_raise_123 ?_
    refine zN h (fun σ32 eσ32 h => ?_)
    refine z_iconst C (pc := 124) d_MM_raise_124 ?_
    refine z_istore_n (L' := [(2, .int (zi 1)), (6, .int (zi y25)), (0, .ref (ad (0, 3))), (1, .int (zi v1)), (3, .int (zi v3)), (4, .int (zi v4))]) C (pc := 125) d_MM_raise_125 (by decide) rfl ?_
    refine z_iinc (L' := [(4, .int (zi (v4 + 1))), (2, .int (zi 1)), (6, .int (zi y25)), (0, .ref (ad (0, 3))), (1, .int (zi v1)), (3, .int (zi v3))]) C (pc := 126) d_MM_raise_126 5 rfl (by decide) rfl ?_
    refine z_goto (tgt := 15) C (pc := 129) d_MM_raise_129 (by decide) ?_
    refine z_sub [3, 4, 1, 5, 0] rfl ?_
    exact hJ15 _ _ _ _ _ h
set_option maxHeartbeats 4000000 in
set_option maxRecDepth 100000 in
theorem wk_MM_raise_15 {E : zE} {D : va_G} {g : zG} {A : Nat → Prop} {ad : zA} {Q : Int → zS → Prop} {J4 : Int → Int → Int → zS → Prop} (C : zX E b_MM_raise R_MM D g { frames := 1, cells := 0, slots := 0, locals := 21 } 7) (R : zRt E (some .boolean) (zQi D g ad Q A) 0 0 A) (hJ4 : ∀ (v1 : Int) (v2 : Int) (v3 : Int) (σ : zS), J4 v1 v2 v3 σ → zW E (zOK D A (zst E) g ad) 0 0 4 [(0, .ref (ad (0, 3))), (1, .int (zi v1)), (2, .int (zi v2)), (3, .int (zi v3))] [] σ) : ∀ (n : Nat) (v1 : Int) (v2 : Int) (v3 : Int) (v4 : Int) (σ : zS), lp_MM_raise_15 Q J4 n v1 v2 v3 v4 σ → zW E (zOK D A (zst E) g ad) 0 0 15 [(0, .ref (ad (0, 3))), (1, .int (zi v1)), (2, .int (zi v2)), (3, .int (zi v3)), (4, .int (zi v4))] [] σ := by
  intro n
  induction n with
  | zero =>
    intro v1 v2 v3 v4 σ h
    exact h.elim
  | succ n ih =>
    intro v1 v2 v3 v4 σ h
    refine z_iload C (pc := 15) d_MM_raise_15 4 rfl ?_
    refine z_aload_n C (pc := 17) d_MM_raise_17 0 rfl ?_
    refine m_getI C 13 113 rfl (by decide) rfl wd_717 (pc := 18) d_MM_raise_18 ?_
    obtain ⟨hc3, hc4, h⟩ := h
    refine z_icmp_ge (tgt := 132) C (pc := 21) d_MM_raise_21 (by decide) hc3 hc4 h (fun h => ?_) (fun h => ?_)
    · refine z_iinc (L' := [(3, .int (zi (v3 + 1))), (0, .ref (ad (0, 3))), (1, .int (zi v1)), (2, .int (zi v2)), (4, .int (zi v4))]) C (pc := 132) d_MM_raise_132 3 rfl (by decide) rfl ?_
      refine z_goto (tgt := 4) C (pc := 135) d_MM_raise_135 (by decide) ?_
      refine z_sub [1, 2, 3, 0] rfl ?_
      exact hJ4 _ _ _ _ h
    · refine z_aload_n C (pc := 24) d_MM_raise_24 0 rfl ?_
      refine m_getA C 31 (by decide) rfl wd_735 (pc := 25) d_MM_raise_25 ?_
      refine z_iload_n C (pc := 28) d_MM_raise_28 3 rfl ?_
      obtain ⟨hc5, hc6, h⟩ := h
      refine m_zald C 31 131 48 rfl rfl (by decide) hc5 hc6 (pc := 29) d_MM_raise_29 ?_
      obtain ⟨hc7, h⟩ := h
      refine z_if_eq (tgt := 132) C (pc := 30) d_MM_raise_30 (by decide) hc7 h (fun h => ?_) (fun h => ?_)
      · refine z_iinc (L' := [(3, .int (zi (v3 + 1))), (0, .ref (ad (0, 3))), (1, .int (zi v1)), (2, .int (zi v2)), (4, .int (zi v4))]) C (pc := 132) d_MM_raise_132 3 rfl (by decide) rfl ?_
        refine z_goto (tgt := 4) C (pc := 135) d_MM_raise_135 (by decide) ?_
        refine z_sub [1, 2, 3, 0] rfl ?_
        exact hJ4 _ _ _ _ h
      · refine z_bipush C (pc := 33) d_MM_raise_33 (by decide) ?_
        refine z_iload_n C (pc := 35) d_MM_raise_35 3 rfl ?_
        refine z_imul C (pc := 36) d_MM_raise_36 ?_
        refine z_iload C (pc := 37) d_MM_raise_37 4 rfl ?_
        refine z_iadd C (pc := 39) d_MM_raise_39 ?_
        refine zNi h (fun y8 ey8 h => ?_)
        refine z_istore (L' := [(5, .int (zi y8)), (0, .ref (ad (0, 3))), (1, .int (zi v1)), (2, .int (zi v2)), (3, .int (zi v3)), (4, .int (zi v4))]) C (pc := 40) d_MM_raise_40 (by decide) rfl ?_
        refine z_aload_n C (pc := 42) d_MM_raise_42 1 rfl ?_
        refine m_getA C 31 (by decide) rfl wd_735 (pc := 43) d_MM_raise_43 ?_
        refine z_iload C (pc := 46) d_MM_raise_46 5 rfl ?_
        obtain ⟨hc9, hc10, h⟩ := h
        refine m_zald C 31 131 48 rfl rfl (by decide) hc9 hc10 (pc := 48) d_MM_raise_48 ?_
        obtain ⟨hc11, h⟩ := h
        refine z_if_eq (tgt := 126) C (pc := 49) d_MM_raise_49 (by decide) hc11 h (fun h => ?_) (fun h => ?_)
        · refine z_iinc (L' := [(4, .int (zi (v4 + 1))), (5, .int (zi y8)), (0, .ref (ad (0, 3))), (1, .int (zi v1)), (2, .int (zi v2)), (3, .int (zi v3))]) C (pc := 126) d_MM_raise_126 5 rfl (by decide) rfl ?_
          refine z_goto (tgt := 15) C (pc := 129) d_MM_raise_129 (by decide) ?_
          refine z_sub [2, 3, 4, 5, 0] rfl ?_
          exact ih _ _ _ _ _ h
        · refine z_aload_n C (pc := 52) d_MM_raise_52 1 rfl ?_
          refine m_getA C 41 (by decide) rfl wd_745 (pc := 53) d_MM_raise_53 ?_
          refine z_iload C (pc := 56) d_MM_raise_56 0 rfl ?_
          obtain ⟨hc12, hc13, h⟩ := h
          refine m_iald C 41 141 2304 rfl rfl (by decide) hc12 hc13 (pc := 58) d_MM_raise_58 ?_
          refine z_ldc (x := 1000000) C (pc := 59) d_MM_raise_59 wd_981 (by decide) ?_
          obtain ⟨hc14, h⟩ := h
          refine z_icmp_ge (tgt := 126) C (pc := 61) d_MM_raise_61 (by decide) hc14 (by decide) h (fun h => ?_) (fun h => ?_)
          · refine z_iinc (L' := [(4, .int (zi (v4 + 1))), (5, .int (zi y8)), (0, .ref (ad (0, 3))), (1, .int (zi v1)), (2, .int (zi v2)), (3, .int (zi v3))]) C (pc := 126) d_MM_raise_126 5 rfl (by decide) rfl ?_
            refine z_goto (tgt := 15) C (pc := 129) d_MM_raise_129 (by decide) ?_
            refine z_sub [2, 3, 4, 5, 0] rfl ?_
            exact ih _ _ _ _ _ h
          · refine z_aload_n C (pc := 64) d_MM_raise_64 1 rfl ?_
            refine m_getA C 43 (by decide) rfl wd_747 (pc := 65) d_MM_raise_65 ?_
            refine z_iload C (pc := 68) d_MM_raise_68 5 rfl ?_
            refine m_iald C 43 143 48 rfl rfl (by decide) hc9 hc10 (pc := 70) d_MM_raise_70 ?_
            refine z_aload_n C (pc := 71) d_MM_raise_71 1 rfl ?_
            refine m_getA C 41 (by decide) rfl wd_745 (pc := 72) d_MM_raise_72 ?_
            refine z_iload C (pc := 75) d_MM_raise_75 0 rfl ?_
            refine m_iald C 41 141 2304 rfl rfl (by decide) hc12 hc13 (pc := 77) d_MM_raise_77 ?_
            refine z_isub C (pc := 78) d_MM_raise_78 ?_
            refine z_aload_n C (pc := 79) d_MM_raise_79 1 rfl ?_
            refine m_getA C 42 (by decide) rfl wd_746 (pc := 80) d_MM_raise_80 ?_
            refine z_iload C (pc := 83) d_MM_raise_83 0 rfl ?_
            refine m_iald C 42 142 2304 rfl rfl (by decide) hc12 hc13 (pc := 85) d_MM_raise_85 ?_
            refine z_aload_n C (pc := 86) d_MM_raise_86 1 rfl ?_
            refine z_iload C (pc := 87) d_MM_raise_87 5 rfl ?_
            refine m_calli (As := [.int (zi v4)]) C fy_MM_delay rfl wd_998 (pc := 89) d_MM_raise_89 ⟨rfl, rfl, Nat.le_of_ble_eq_true rfl, Nat.le_of_ble_eq_true rfl⟩ rfl rfl (Nat.le_of_ble_eq_true rfl) h (c_MM_delay (zln E) D g ad _ _ _) (fun r22 σ21 h => ?_)
            refine z_iadd C (pc := 92) d_MM_raise_92 ?_
            refine z_iload_n C (pc := 93) d_MM_raise_93 2 rfl ?_
            obtain ⟨hc23, hc24, h⟩ := h
            refine z_icmp_le (tgt := 101) C (pc := 94) d_MM_raise_94 (by decide) hc23 hc24 h (fun h => ?_) (fun h => ?_)
            · refine z_iconst C (pc := 101) d_MM_raise_101 ?_
              refine z_sub [1, 2, 3, 4, 5] rfl ?_
              exact wk_MM_raise_102 C R hJ4 ih _ _ _ _ _ _ _ h
            · refine z_iconst C (pc := 97) d_MM_raise_97 ?_
              refine z_goto (tgt := 102) C (pc := 98) d_MM_raise_98 (by decide) ?_
              refine z_sub [1, 2, 3, 4, 5] rfl ?_
              exact wk_MM_raise_102 C R hJ4 ih _ _ _ _ _ _ _ h
set_option maxHeartbeats 4000000 in
set_option maxRecDepth 100000 in
theorem wk_MM_raise_4 {E : zE} {D : va_G} {g : zG} {A : Nat → Prop} {ad : zA} {Q : Int → zS → Prop} (C : zX E b_MM_raise R_MM D g { frames := 1, cells := 0, slots := 0, locals := 21 } 7) (R : zRt E (some .boolean) (zQi D g ad Q A) 0 0 A) : ∀ (n : Nat) (v1 : Int) (v2 : Int) (v3 : Int) (σ : zS), lp_MM_raise_4 Q n v1 v2 v3 σ → zW E (zOK D A (zst E) g ad) 0 0 4 [(0, .ref (ad (0, 3))), (1, .int (zi v1)), (2, .int (zi v2)), (3, .int (zi v3))] [] σ := by
  intro n
  induction n with
  | zero =>
    intro v1 v2 v3 σ h
    exact h.elim
  | succ n ih =>
    intro v1 v2 v3 σ h
    refine z_iload_n C (pc := 4) d_MM_raise_4 3 rfl ?_
    refine z_aload_n C (pc := 5) d_MM_raise_5 0 rfl ?_
    refine m_getI C 13 113 rfl (by decide) rfl wd_717 (pc := 6) d_MM_raise_6 ?_
    obtain ⟨hc1, hc2, h⟩ := h
    refine z_icmp_ge (tgt := 138) C (pc := 9) d_MM_raise_9 (by decide) hc1 hc2 h (fun h => ?_) (fun h => ?_)
    · refine z_iload_n C (pc := 138) d_MM_raise_138 2 rfl ?_
      exact z_zret C R (pc := 139) d_MM_raise_139 h.1 h.2
    · refine z_iconst C (pc := 12) d_MM_raise_12 ?_
      refine z_istore (L' := [(4, .int (zi 0)), (0, .ref (ad (0, 3))), (1, .int (zi v1)), (2, .int (zi v2)), (3, .int (zi v3))]) C (pc := 13) d_MM_raise_13 (by decide) rfl ?_
      refine z_sub [1, 2, 3, 4, 0] rfl ?_
      obtain ⟨n33, h⟩ := h
      exact wk_MM_raise_15 C R ih n33 _ _ _ _ _ h
set_option maxHeartbeats 4000000 in
set_option maxRecDepth 100000 in
theorem c_MM_raise (l : Launch) (D : va_G) (g : zG) (ad : zA) (v1 : Int) (Q : Int → zS → Prop) (σ : zS) (h : wp_MM_raise Q v1 σ) : zMi l y_MM_raise b_MM_raise 7 (some .boolean) { frames := 1, cells := 0, slots := 0, locals := 21 } D g ad σ [.ref (ad (0, 3)), .int (zi v1)] Q := by
  unfold wp_MM_raise at h
  refine zM_of (by decide) (Nat.le_of_ble_eq_true rfl) (fun E C R hl => ?_)
  have C : zX E b_MM_raise R_MM D g { frames := 1, cells := 0, slots := 0, locals := 21 } 7 := C
  refine z_sub (L' := [(0, .ref (ad (0, 3))), (1, .int (zi v1))]) [0, 1] rfl ?_
  refine z_iconst C (pc := 0) d_MM_raise_0 ?_
  refine z_istore_n (L' := [(2, .int (zi 0)), (0, .ref (ad (0, 3))), (1, .int (zi v1))]) C (pc := 1) d_MM_raise_1 (by decide) rfl ?_
  refine z_iconst C (pc := 2) d_MM_raise_2 ?_
  refine z_istore_n (L' := [(3, .int (zi 0)), (2, .int (zi 0)), (0, .ref (ad (0, 3))), (1, .int (zi v1))]) C (pc := 3) d_MM_raise_3 (by decide) rfl ?_
  refine z_sub [2, 3, 1, 0] rfl ?_
  obtain ⟨n34, h⟩ := h
  exact wk_MM_raise_4 C R n34 _ _ _ _ h
theorem d_MM_reachable_0 : decode b_MM_reachable 0 = .ok (.iconst 0, 1) := by decide +kernel
theorem d_MM_reachable_1 : decode b_MM_reachable 1 = .ok (.istore_n 2, 1) := by decide +kernel
theorem d_MM_reachable_2 : decode b_MM_reachable 2 = .ok (.iload_n 2, 1) := by decide +kernel
theorem d_MM_reachable_3 : decode b_MM_reachable 3 = .ok (.bipush 48, 2) := by decide +kernel
theorem d_MM_reachable_5 : decode b_MM_reachable 5 = .ok (.if_icmp .ge 16, 3) := by decide +kernel
theorem d_MM_reachable_8 : decode b_MM_reachable 8 = .ok (.aload_n 0, 1) := by decide +kernel
theorem d_MM_reachable_9 : decode b_MM_reachable 9 = .ok (.getfield 117, 3) := by decide +kernel
theorem d_MM_reachable_12 : decode b_MM_reachable 12 = .ok (.iload_n 2, 1) := by decide +kernel
theorem d_MM_reachable_13 : decode b_MM_reachable 13 = .ok (.iconst 0, 1) := by decide +kernel
theorem d_MM_reachable_14 : decode b_MM_reachable 14 = .ok (.iastore, 1) := by decide +kernel
theorem d_MM_reachable_15 : decode b_MM_reachable 15 = .ok (.iinc 2 1, 3) := by decide +kernel
theorem d_MM_reachable_18 : decode b_MM_reachable 18 = .ok (.goto (-16), 3) := by decide +kernel
theorem d_MM_reachable_21 : decode b_MM_reachable 21 = .ok (.iconst 1, 1) := by decide +kernel
theorem d_MM_reachable_22 : decode b_MM_reachable 22 = .ok (.istore_n 2, 1) := by decide +kernel
theorem d_MM_reachable_23 : decode b_MM_reachable 23 = .ok (.iconst 0, 1) := by decide +kernel
theorem d_MM_reachable_24 : decode b_MM_reachable 24 = .ok (.istore_n 3, 1) := by decide +kernel
theorem d_MM_reachable_25 : decode b_MM_reachable 25 = .ok (.iload_n 3, 1) := by decide +kernel
theorem d_MM_reachable_26 : decode b_MM_reachable 26 = .ok (.bipush 50, 2) := by decide +kernel
theorem d_MM_reachable_28 : decode b_MM_reachable 28 = .ok (.if_icmp .ge 19, 3) := by decide +kernel
theorem d_MM_reachable_31 : decode b_MM_reachable 31 = .ok (.iload_n 2, 1) := by decide +kernel
theorem d_MM_reachable_32 : decode b_MM_reachable 32 = .ok (.ifCond .eq 15, 3) := by decide +kernel
theorem d_MM_reachable_35 : decode b_MM_reachable 35 = .ok (.aload_n 0, 1) := by decide +kernel
theorem d_MM_reachable_36 : decode b_MM_reachable 36 = .ok (.iload_n 1, 1) := by decide +kernel
theorem d_MM_reachable_37 : decode b_MM_reachable 37 = .ok (.invokevirtual 240, 3) := by decide +kernel
theorem d_MM_reachable_40 : decode b_MM_reachable 40 = .ok (.istore_n 2, 1) := by decide +kernel
theorem d_MM_reachable_41 : decode b_MM_reachable 41 = .ok (.iinc 3 1, 3) := by decide +kernel
theorem d_MM_reachable_44 : decode b_MM_reachable 44 = .ok (.goto (-19), 3) := by decide +kernel
theorem d_MM_reachable_47 : decode b_MM_reachable 47 = .ok (.iconst 0, 1) := by decide +kernel
theorem d_MM_reachable_48 : decode b_MM_reachable 48 = .ok (.istore_n 3, 1) := by decide +kernel
theorem d_MM_reachable_49 : decode b_MM_reachable 49 = .ok (.iload_n 3, 1) := by decide +kernel
theorem d_MM_reachable_50 : decode b_MM_reachable 50 = .ok (.sipush 192, 3) := by decide +kernel
theorem d_MM_reachable_53 : decode b_MM_reachable 53 = .ok (.if_icmp .ge 59, 3) := by decide +kernel
theorem d_MM_reachable_56 : decode b_MM_reachable 56 = .ok (.iload_n 2, 1) := by decide +kernel
theorem d_MM_reachable_57 : decode b_MM_reachable 57 = .ok (.ifCond .ne 55, 3) := by decide +kernel
theorem d_MM_reachable_60 : decode b_MM_reachable 60 = .ok (.aload_n 0, 1) := by decide +kernel
theorem d_MM_reachable_61 : decode b_MM_reachable 61 = .ok (.getfield 92, 3) := by decide +kernel
theorem d_MM_reachable_64 : decode b_MM_reachable 64 = .ok (.iload_n 3, 1) := by decide +kernel
theorem d_MM_reachable_65 : decode b_MM_reachable 65 = .ok (.iaload, 1) := by decide +kernel
theorem d_MM_reachable_66 : decode b_MM_reachable 66 = .ok (.ifCond .lt 38, 3) := by decide +kernel
theorem d_MM_reachable_69 : decode b_MM_reachable 69 = .ok (.aload_n 0, 1) := by decide +kernel
theorem d_MM_reachable_70 : decode b_MM_reachable 70 = .ok (.getfield 83, 3) := by decide +kernel
theorem d_MM_reachable_73 : decode b_MM_reachable 73 = .ok (.aload_n 0, 1) := by decide +kernel
theorem d_MM_reachable_74 : decode b_MM_reachable 74 = .ok (.getfield 92, 3) := by decide +kernel
theorem d_MM_reachable_77 : decode b_MM_reachable 77 = .ok (.iload_n 3, 1) := by decide +kernel
theorem d_MM_reachable_78 : decode b_MM_reachable 78 = .ok (.iaload, 1) := by decide +kernel
theorem d_MM_reachable_79 : decode b_MM_reachable 79 = .ok (.baload, 1) := by decide +kernel
theorem d_MM_reachable_80 : decode b_MM_reachable 80 = .ok (.ifCond .ne 24, 3) := by decide +kernel
theorem d_MM_reachable_83 : decode b_MM_reachable 83 = .ok (.aload_n 0, 1) := by decide +kernel
theorem d_MM_reachable_84 : decode b_MM_reachable 84 = .ok (.getfield 117, 3) := by decide +kernel
theorem d_MM_reachable_87 : decode b_MM_reachable 87 = .ok (.iload_n 3, 1) := by decide +kernel
theorem d_MM_reachable_88 : decode b_MM_reachable 88 = .ok (.iconst 4, 1) := by decide +kernel
theorem d_MM_reachable_89 : decode b_MM_reachable 89 = .ok (.idiv, 1) := by decide +kernel
theorem d_MM_reachable_90 : decode b_MM_reachable 90 = .ok (.iaload, 1) := by decide +kernel
theorem d_MM_reachable_91 : decode b_MM_reachable 91 = .ok (.aload_n 0, 1) := by decide +kernel
theorem d_MM_reachable_92 : decode b_MM_reachable 92 = .ok (.getfield 95, 3) := by decide +kernel
theorem d_MM_reachable_95 : decode b_MM_reachable 95 = .ok (.iload_n 3, 1) := by decide +kernel
theorem d_MM_reachable_96 : decode b_MM_reachable 96 = .ok (.iaload, 1) := by decide +kernel
theorem d_MM_reachable_97 : decode b_MM_reachable 97 = .ok (.if_icmp .le 7, 3) := by decide +kernel
theorem d_MM_reachable_100 : decode b_MM_reachable 100 = .ok (.iconst 1, 1) := by decide +kernel
theorem d_MM_reachable_101 : decode b_MM_reachable 101 = .ok (.goto 4, 3) := by decide +kernel
theorem d_MM_reachable_104 : decode b_MM_reachable 104 = .ok (.iconst 0, 1) := by decide +kernel
theorem d_MM_reachable_105 : decode b_MM_reachable 105 = .ok (.istore_n 2, 1) := by decide +kernel
theorem d_MM_reachable_106 : decode b_MM_reachable 106 = .ok (.iinc 3 1, 3) := by decide +kernel
theorem d_MM_reachable_109 : decode b_MM_reachable 109 = .ok (.goto (-60), 3) := by decide +kernel
theorem d_MM_reachable_112 : decode b_MM_reachable 112 = .ok (.iload_n 2, 1) := by decide +kernel
theorem d_MM_reachable_113 : decode b_MM_reachable 113 = .ok (.ifCond .ne 7, 3) := by decide +kernel
theorem d_MM_reachable_116 : decode b_MM_reachable 116 = .ok (.iconst 1, 1) := by decide +kernel
theorem d_MM_reachable_117 : decode b_MM_reachable 117 = .ok (.goto 4, 3) := by decide +kernel
theorem d_MM_reachable_120 : decode b_MM_reachable 120 = .ok (.iconst 0, 1) := by decide +kernel
theorem d_MM_reachable_121 : decode b_MM_reachable 121 = .ok (.ireturn, 1) := by decide +kernel
def bk_MM_reachable_112 (Q : Int → zS → Prop) (v2 : Int) (σ : zS) : Prop :=
  zc v2 ∧ ((v2 = 0 →
    Q 1 σ) ∧
   (¬ v2 = 0 →
    Q 0 σ))
def bk_MM_reachable_105 (Q : Int → zS → Prop) (J49 : Int → Int → zS → Prop) (v3 : Int) (z0 : Int) (σ : zS) : Prop :=
  J49 z0 (v3 + 1) σ
def bk_MM_reachable_104 (Q : Int → zS → Prop) (J49 : Int → Int → zS → Prop) (v3 : Int) (σ : zS) : Prop :=
  bk_MM_reachable_105 Q J49 v3 0 σ
def lp_MM_reachable_49 (Q : Int → zS → Prop) : Nat → Int → Int → zS → Prop
  | 0 => fun _ _ _ => False
  | n + 1 => fun v2 v3 σ =>
    zc v3 ∧ ((192 ≤ v3 →
      bk_MM_reachable_112 Q v2 σ) ∧
     (¬ 192 ≤ v3 →
      zc v2 ∧ ((v2 = 0 →
        0 ≤ v3 ∧ v3 < 196 ∧ 
        zc (σ 135 v3) ∧ ((σ 135 v3 < 0 →
          bk_MM_reachable_104 Q (lp_MM_reachable_49 Q n) v3 σ) ∧
         (¬ σ 135 v3 < 0 →
          0 ≤ σ 135 v3 ∧ σ 135 v3 < 48 ∧ 
          zc (σ 131 (σ 135 v3)) ∧ ((σ 131 (σ 135 v3) = 0 →
            0 ≤ v3 ∧ 
            0 ≤ v3 / 4 ∧ v3 / 4 < 48 ∧ 
            zc (σ 143 (v3 / 4)) ∧ zc (σ 136 v3) ∧ ((σ 143 (v3 / 4) ≤ σ 136 v3 →
              bk_MM_reachable_104 Q (lp_MM_reachable_49 Q n) v3 σ) ∧
             (¬ σ 143 (v3 / 4) ≤ σ 136 v3 →
              bk_MM_reachable_105 Q (lp_MM_reachable_49 Q n) v3 1 σ))) ∧
           (¬ σ 131 (σ 135 v3) = 0 →
            bk_MM_reachable_104 Q (lp_MM_reachable_49 Q n) v3 σ))))) ∧
       (¬ v2 = 0 →
        bk_MM_reachable_112 Q v2 σ))))
def lp_MM_reachable_25 (Q : Int → zS → Prop) : Nat → Int → Int → Int → zS → Prop
  | 0 => fun _ _ _ _ => False
  | n + 1 => fun v1 v2 v3 σ =>
    zc v3 ∧ ((50 ≤ v3 →
      ∃ u49, lp_MM_reachable_49 Q u49 v2 0 σ) ∧
     (¬ 50 ≤ v3 →
      zc v2 ∧ ((v2 = 0 →
        ∃ u49, lp_MM_reachable_49 Q u49 v2 0 σ) ∧
       (¬ v2 = 0 →
        wp_MM_raise (fun r25 σ24 =>
          lp_MM_reachable_25 Q n v1 r25 (v3 + 1) σ24) v1 σ))))
def lp_MM_reachable_2 (Q : Int → zS → Prop) : Nat → Int → Int → zS → Prop
  | 0 => fun _ _ _ => False
  | n + 1 => fun v1 v2 σ =>
    zc v2 ∧ ((48 ≤ v2 →
      ∃ u25, lp_MM_reachable_25 Q u25 v1 1 0 σ) ∧
     (¬ 48 ≤ v2 →
      0 ≤ v2 ∧ v2 < 48 ∧ ∀ σ29, σ29 = zup σ 143 v2 0 →
      lp_MM_reachable_2 Q n v1 (v2 + 1) σ29))
def wp_MM_reachable (Q : Int → zS → Prop) (v1 : Int) (σ : zS) : Prop :=
  ∃ u2, lp_MM_reachable_2 Q u2 v1 0 σ
set_option maxHeartbeats 4000000 in
set_option maxRecDepth 100000 in
theorem wk_MM_reachable_112 {E : zE} {D : va_G} {g : zG} {A : Nat → Prop} {ad : zA} {Q : Int → zS → Prop} (C : zX E b_MM_reachable R_MM D g { frames := 2, cells := 0, slots := 0, locals := 47 } 4) (R : zRt E (some .boolean) (zQi D g ad Q A) 0 0 A) (v2 : Int) (σ : zS) (h : bk_MM_reachable_112 Q v2 σ) : zW E (zOK D A (zst E) g ad) 0 0 112 [(2, .int (zi v2))] [] σ := by
  unfold bk_MM_reachable_112 at h
  refine z_iload_n C (pc := 112) d_MM_reachable_112 0 rfl ?_
  obtain ⟨hc4, h⟩ := h
  refine z_if_ne (tgt := 120) C (pc := 113) d_MM_reachable_113 (by decide) hc4 h (fun h => ?_) (fun h => ?_)
  · refine z_iconst C (pc := 120) d_MM_reachable_120 ?_
    exact z_zret C R (pc := 121) d_MM_reachable_121 (by decide) h
  · refine z_iconst C (pc := 116) d_MM_reachable_116 ?_
    refine z_goto (tgt := 121) C (pc := 117) d_MM_reachable_117 (by decide) ?_
    exact z_zret C R (pc := 121) d_MM_reachable_121 (by decide) h
set_option maxHeartbeats 4000000 in
set_option maxRecDepth 100000 in
theorem wk_MM_reachable_105 {E : zE} {D : va_G} {g : zG} {A : Nat → Prop} {ad : zA} {Q : Int → zS → Prop} {J49 : Int → Int → zS → Prop} (C : zX E b_MM_reachable R_MM D g { frames := 2, cells := 0, slots := 0, locals := 47 } 4) (R : zRt E (some .boolean) (zQi D g ad Q A) 0 0 A) (hJ49 : ∀ (v2 : Int) (v3 : Int) (σ : zS), J49 v2 v3 σ → zW E (zOK D A (zst E) g ad) 0 0 49 [(0, .ref (ad (0, 3))), (2, .int (zi v2)), (3, .int (zi v3))] [] σ) (v3 : Int) (z0 : Int) (σ : zS) (h : bk_MM_reachable_105 Q J49 v3 z0 σ) : zW E (zOK D A (zst E) g ad) 0 0 105 [(0, .ref (ad (0, 3))), (3, .int (zi v3))] [.int (zi z0)] σ := by
  unfold bk_MM_reachable_105 at h
  refine z_istore_n (L' := [(2, .int (zi z0)), (0, .ref (ad (0, 3))), (3, .int (zi v3))]) C (pc := 105) d_MM_reachable_105 (by decide) rfl ?_
  refine z_iinc (L' := [(3, .int (zi (v3 + 1))), (2, .int (zi z0)), (0, .ref (ad (0, 3)))]) C (pc := 106) d_MM_reachable_106 2 rfl (by decide) rfl ?_
  refine z_goto (tgt := 49) C (pc := 109) d_MM_reachable_109 (by decide) ?_
  refine z_sub [2, 1, 0] rfl ?_
  exact hJ49 _ _ _ h
set_option maxHeartbeats 4000000 in
set_option maxRecDepth 100000 in
theorem wk_MM_reachable_104 {E : zE} {D : va_G} {g : zG} {A : Nat → Prop} {ad : zA} {Q : Int → zS → Prop} {J49 : Int → Int → zS → Prop} (C : zX E b_MM_reachable R_MM D g { frames := 2, cells := 0, slots := 0, locals := 47 } 4) (R : zRt E (some .boolean) (zQi D g ad Q A) 0 0 A) (hJ49 : ∀ (v2 : Int) (v3 : Int) (σ : zS), J49 v2 v3 σ → zW E (zOK D A (zst E) g ad) 0 0 49 [(0, .ref (ad (0, 3))), (2, .int (zi v2)), (3, .int (zi v3))] [] σ) (v3 : Int) (σ : zS) (h : bk_MM_reachable_104 Q J49 v3 σ) : zW E (zOK D A (zst E) g ad) 0 0 104 [(0, .ref (ad (0, 3))), (3, .int (zi v3))] [] σ := by
  unfold bk_MM_reachable_104 at h
  refine z_iconst C (pc := 104) d_MM_reachable_104 ?_
  exact wk_MM_reachable_105 C R hJ49 _ _ _ h
set_option maxHeartbeats 4000000 in
set_option maxRecDepth 100000 in
theorem wk_MM_reachable_49 {E : zE} {D : va_G} {g : zG} {A : Nat → Prop} {ad : zA} {Q : Int → zS → Prop} (C : zX E b_MM_reachable R_MM D g { frames := 2, cells := 0, slots := 0, locals := 47 } 4) (R : zRt E (some .boolean) (zQi D g ad Q A) 0 0 A) : ∀ (n : Nat) (v2 : Int) (v3 : Int) (σ : zS), lp_MM_reachable_49 Q n v2 v3 σ → zW E (zOK D A (zst E) g ad) 0 0 49 [(0, .ref (ad (0, 3))), (2, .int (zi v2)), (3, .int (zi v3))] [] σ := by
  intro n
  induction n with
  | zero =>
    intro v2 v3 σ h
    exact h.elim
  | succ n ih =>
    intro v2 v3 σ h
    refine z_iload_n C (pc := 49) d_MM_reachable_49 2 rfl ?_
    refine z_sipush C (pc := 50) d_MM_reachable_50 (by decide) ?_
    obtain ⟨hc3, h⟩ := h
    refine z_icmp_ge (tgt := 112) C (pc := 53) d_MM_reachable_53 (by decide) hc3 (by decide) h (fun h => ?_) (fun h => ?_)
    · refine z_sub [1] rfl ?_
      exact wk_MM_reachable_112 C R _ _ h
    · refine z_iload_n C (pc := 56) d_MM_reachable_56 1 rfl ?_
      obtain ⟨hc5, h⟩ := h
      refine z_if_ne (tgt := 112) C (pc := 57) d_MM_reachable_57 (by decide) hc5 h (fun h => ?_) (fun h => ?_)
      · refine z_sub [1] rfl ?_
        exact wk_MM_reachable_112 C R _ _ h
      · refine z_aload_n C (pc := 60) d_MM_reachable_60 0 rfl ?_
        refine m_getA C 35 (by decide) rfl wd_739 (pc := 61) d_MM_reachable_61 ?_
        refine z_iload_n C (pc := 64) d_MM_reachable_64 2 rfl ?_
        obtain ⟨hc6, hc7, h⟩ := h
        refine m_iald C 35 135 196 rfl rfl (by decide) hc6 hc7 (pc := 65) d_MM_reachable_65 ?_
        obtain ⟨hc8, h⟩ := h
        refine z_if_lt (tgt := 104) C (pc := 66) d_MM_reachable_66 (by decide) hc8 h (fun h => ?_) (fun h => ?_)
        · refine z_sub [0, 2] rfl ?_
          exact wk_MM_reachable_104 C R ih _ _ h
        · refine z_aload_n C (pc := 69) d_MM_reachable_69 0 rfl ?_
          refine m_getA C 31 (by decide) rfl wd_735 (pc := 70) d_MM_reachable_70 ?_
          refine z_aload_n C (pc := 73) d_MM_reachable_73 0 rfl ?_
          refine m_getA C 35 (by decide) rfl wd_739 (pc := 74) d_MM_reachable_74 ?_
          refine z_iload_n C (pc := 77) d_MM_reachable_77 2 rfl ?_
          refine m_iald C 35 135 196 rfl rfl (by decide) hc6 hc7 (pc := 78) d_MM_reachable_78 ?_
          obtain ⟨hc11, hc12, h⟩ := h
          refine m_zald C 31 131 48 rfl rfl (by decide) hc11 hc12 (pc := 79) d_MM_reachable_79 ?_
          obtain ⟨hc13, h⟩ := h
          refine z_if_ne (tgt := 104) C (pc := 80) d_MM_reachable_80 (by decide) hc13 h (fun h => ?_) (fun h => ?_)
          · refine z_sub [0, 2] rfl ?_
            exact wk_MM_reachable_104 C R ih _ _ h
          · refine z_aload_n C (pc := 83) d_MM_reachable_83 0 rfl ?_
            refine m_getA C 43 (by decide) rfl wd_747 (pc := 84) d_MM_reachable_84 ?_
            refine z_iload_n C (pc := 87) d_MM_reachable_87 2 rfl ?_
            refine z_iconst C (pc := 88) d_MM_reachable_88 ?_
            obtain ⟨hc14, h⟩ := h
            refine z_idiv C (pc := 89) d_MM_reachable_89 hc3 hc14 (by decide) (by decide) ?_
            obtain ⟨hc15, hc16, h⟩ := h
            refine m_iald C 43 143 48 rfl rfl (by decide) hc15 hc16 (pc := 90) d_MM_reachable_90 ?_
            refine z_aload_n C (pc := 91) d_MM_reachable_91 0 rfl ?_
            refine m_getA C 36 (by decide) rfl wd_740 (pc := 92) d_MM_reachable_92 ?_
            refine z_iload_n C (pc := 95) d_MM_reachable_95 2 rfl ?_
            refine m_iald C 36 136 196 rfl rfl (by decide) hc6 hc7 (pc := 96) d_MM_reachable_96 ?_
            obtain ⟨hc19, hc20, h⟩ := h
            refine z_icmp_le (tgt := 104) C (pc := 97) d_MM_reachable_97 (by decide) hc19 hc20 h (fun h => ?_) (fun h => ?_)
            · refine z_sub [0, 2] rfl ?_
              exact wk_MM_reachable_104 C R ih _ _ h
            · refine z_iconst C (pc := 100) d_MM_reachable_100 ?_
              refine z_goto (tgt := 105) C (pc := 101) d_MM_reachable_101 (by decide) ?_
              refine z_sub [0, 2] rfl ?_
              exact wk_MM_reachable_105 C R ih _ _ _ h
set_option maxHeartbeats 4000000 in
set_option maxRecDepth 100000 in
theorem wk_MM_reachable_25 {E : zE} {D : va_G} {g : zG} {A : Nat → Prop} {ad : zA} {Q : Int → zS → Prop} (C : zX E b_MM_reachable R_MM D g { frames := 2, cells := 0, slots := 0, locals := 47 } 4) (R : zRt E (some .boolean) (zQi D g ad Q A) 0 0 A) : ∀ (n : Nat) (v1 : Int) (v2 : Int) (v3 : Int) (σ : zS), lp_MM_reachable_25 Q n v1 v2 v3 σ → zW E (zOK D A (zst E) g ad) 0 0 25 [(0, .ref (ad (0, 3))), (1, .int (zi v1)), (2, .int (zi v2)), (3, .int (zi v3))] [] σ := by
  intro n
  induction n with
  | zero =>
    intro v1 v2 v3 σ h
    exact h.elim
  | succ n ih =>
    intro v1 v2 v3 σ h
    refine z_iload_n C (pc := 25) d_MM_reachable_25 3 rfl ?_
    refine z_bipush C (pc := 26) d_MM_reachable_26 (by decide) ?_
    obtain ⟨hc2, h⟩ := h
    refine z_icmp_ge (tgt := 47) C (pc := 28) d_MM_reachable_28 (by decide) hc2 (by decide) h (fun h => ?_) (fun h => ?_)
    · refine z_iconst C (pc := 47) d_MM_reachable_47 ?_
      refine z_istore_n (L' := [(3, .int (zi 0)), (0, .ref (ad (0, 3))), (1, .int (zi v1)), (2, .int (zi v2))]) C (pc := 48) d_MM_reachable_48 (by decide) rfl ?_
      refine z_sub [1, 3, 0] rfl ?_
      obtain ⟨n21, h⟩ := h
      exact wk_MM_reachable_49 C R n21 _ _ _ h
    · refine z_iload_n C (pc := 31) d_MM_reachable_31 2 rfl ?_
      obtain ⟨hc22, h⟩ := h
      refine z_if_eq (tgt := 47) C (pc := 32) d_MM_reachable_32 (by decide) hc22 h (fun h => ?_) (fun h => ?_)
      · refine z_iconst C (pc := 47) d_MM_reachable_47 ?_
        refine z_istore_n (L' := [(3, .int (zi 0)), (0, .ref (ad (0, 3))), (1, .int (zi v1)), (2, .int (zi v2))]) C (pc := 48) d_MM_reachable_48 (by decide) rfl ?_
        refine z_sub [1, 3, 0] rfl ?_
        obtain ⟨n23, h⟩ := h
        exact wk_MM_reachable_49 C R n23 _ _ _ h
      · refine z_aload_n C (pc := 35) d_MM_reachable_35 0 rfl ?_
        refine z_iload_n C (pc := 36) d_MM_reachable_36 1 rfl ?_
        refine m_calli (As := [.int (zi v1)]) C fy_MM_raise rfl wd_1014 (pc := 37) d_MM_reachable_37 ⟨rfl, rfl, Nat.le_of_ble_eq_true rfl, Nat.le_of_ble_eq_true rfl⟩ rfl rfl (Nat.le_of_ble_eq_true rfl) h (c_MM_raise (zln E) D g ad _ _ _) (fun r25 σ24 h => ?_)
        refine z_istore_n (L' := [(2, .int (zi r25)), (0, .ref (ad (0, 3))), (1, .int (zi v1)), (3, .int (zi v3))]) C (pc := 40) d_MM_reachable_40 (by decide) rfl ?_
        refine z_iinc (L' := [(3, .int (zi (v3 + 1))), (2, .int (zi r25)), (0, .ref (ad (0, 3))), (1, .int (zi v1))]) C (pc := 41) d_MM_reachable_41 3 rfl (by decide) rfl ?_
        refine z_goto (tgt := 25) C (pc := 44) d_MM_reachable_44 (by decide) ?_
        refine z_sub [2, 3, 1, 0] rfl ?_
        exact ih _ _ _ _ h
set_option maxHeartbeats 4000000 in
set_option maxRecDepth 100000 in
theorem wk_MM_reachable_2 {E : zE} {D : va_G} {g : zG} {A : Nat → Prop} {ad : zA} {Q : Int → zS → Prop} (C : zX E b_MM_reachable R_MM D g { frames := 2, cells := 0, slots := 0, locals := 47 } 4) (R : zRt E (some .boolean) (zQi D g ad Q A) 0 0 A) : ∀ (n : Nat) (v1 : Int) (v2 : Int) (σ : zS), lp_MM_reachable_2 Q n v1 v2 σ → zW E (zOK D A (zst E) g ad) 0 0 2 [(0, .ref (ad (0, 3))), (1, .int (zi v1)), (2, .int (zi v2))] [] σ := by
  intro n
  induction n with
  | zero =>
    intro v1 v2 σ h
    exact h.elim
  | succ n ih =>
    intro v1 v2 σ h
    refine z_iload_n C (pc := 2) d_MM_reachable_2 2 rfl ?_
    refine z_bipush C (pc := 3) d_MM_reachable_3 (by decide) ?_
    obtain ⟨hc1, h⟩ := h
    refine z_icmp_ge (tgt := 21) C (pc := 5) d_MM_reachable_5 (by decide) hc1 (by decide) h (fun h => ?_) (fun h => ?_)
    · refine z_iconst C (pc := 21) d_MM_reachable_21 ?_
      refine z_istore_n (L' := [(2, .int (zi 1)), (0, .ref (ad (0, 3))), (1, .int (zi v1))]) C (pc := 22) d_MM_reachable_22 (by decide) rfl ?_
      refine z_iconst C (pc := 23) d_MM_reachable_23 ?_
      refine z_istore_n (L' := [(3, .int (zi 0)), (2, .int (zi 1)), (0, .ref (ad (0, 3))), (1, .int (zi v1))]) C (pc := 24) d_MM_reachable_24 (by decide) rfl ?_
      refine z_sub [2, 3, 1, 0] rfl ?_
      obtain ⟨n26, h⟩ := h
      exact wk_MM_reachable_25 C R n26 _ _ _ _ h
    · refine z_aload_n C (pc := 8) d_MM_reachable_8 0 rfl ?_
      refine m_getA C 43 (by decide) rfl wd_747 (pc := 9) d_MM_reachable_9 ?_
      refine z_iload_n C (pc := 12) d_MM_reachable_12 2 rfl ?_
      refine z_iconst C (pc := 13) d_MM_reachable_13 ?_
      obtain ⟨hc27, hc28, h⟩ := h
      refine m_iast C 43 143 48 rfl rfl (by decide) hc27 hc28 (pc := 14) d_MM_reachable_14 ?_
      refine zN h (fun σ29 eσ29 h => ?_)
      refine z_iinc (L' := [(2, .int (zi (v2 + 1))), (0, .ref (ad (0, 3))), (1, .int (zi v1))]) C (pc := 15) d_MM_reachable_15 2 rfl (by decide) rfl ?_
      refine z_goto (tgt := 2) C (pc := 18) d_MM_reachable_18 (by decide) ?_
      refine z_sub [1, 2, 0] rfl ?_
      exact ih _ _ _ h
set_option maxHeartbeats 4000000 in
set_option maxRecDepth 100000 in
theorem c_MM_reachable (l : Launch) (D : va_G) (g : zG) (ad : zA) (v1 : Int) (Q : Int → zS → Prop) (σ : zS) (h : wp_MM_reachable Q v1 σ) : zMi l y_MM_reachable b_MM_reachable 4 (some .boolean) { frames := 2, cells := 0, slots := 0, locals := 47 } D g ad σ [.ref (ad (0, 3)), .int (zi v1)] Q := by
  unfold wp_MM_reachable at h
  refine zM_of (by decide) (Nat.le_of_ble_eq_true rfl) (fun E C R hl => ?_)
  have C : zX E b_MM_reachable R_MM D g { frames := 2, cells := 0, slots := 0, locals := 47 } 4 := C
  refine z_sub (L' := [(0, .ref (ad (0, 3))), (1, .int (zi v1))]) [0, 1] rfl ?_
  refine z_iconst C (pc := 0) d_MM_reachable_0 ?_
  refine z_istore_n (L' := [(2, .int (zi 0)), (0, .ref (ad (0, 3))), (1, .int (zi v1))]) C (pc := 1) d_MM_reachable_1 (by decide) rfl ?_
  refine z_sub [1, 2, 0] rfl ?_
  obtain ⟨n30, h⟩ := h
  exact wk_MM_reachable_2 C R n30 _ _ _ h
theorem d_MM_shorten_0 : decode b_MM_shorten 0 = .ok (.iconst 0, 1) := by decide +kernel
theorem d_MM_shorten_1 : decode b_MM_shorten 1 = .ok (.istore_n 1, 1) := by decide +kernel
theorem d_MM_shorten_2 : decode b_MM_shorten 2 = .ok (.aload_n 0, 1) := by decide +kernel
theorem d_MM_shorten_3 : decode b_MM_shorten 3 = .ok (.getfield 237, 3) := by decide +kernel
theorem d_MM_shorten_6 : decode b_MM_shorten 6 = .ok (.istore_n 2, 1) := by decide +kernel
theorem d_MM_shorten_7 : decode b_MM_shorten 7 = .ok (.iload_n 1, 1) := by decide +kernel
theorem d_MM_shorten_8 : decode b_MM_shorten 8 = .ok (.iload_n 2, 1) := by decide +kernel
theorem d_MM_shorten_9 : decode b_MM_shorten 9 = .ok (.if_icmp .ge 29, 3) := by decide +kernel
theorem d_MM_shorten_12 : decode b_MM_shorten 12 = .ok (.iload_n 1, 1) := by decide +kernel
theorem d_MM_shorten_13 : decode b_MM_shorten 13 = .ok (.iload_n 2, 1) := by decide +kernel
theorem d_MM_shorten_14 : decode b_MM_shorten 14 = .ok (.iadd, 1) := by decide +kernel
theorem d_MM_shorten_15 : decode b_MM_shorten 15 = .ok (.iconst 2, 1) := by decide +kernel
theorem d_MM_shorten_16 : decode b_MM_shorten 16 = .ok (.idiv, 1) := by decide +kernel
theorem d_MM_shorten_17 : decode b_MM_shorten 17 = .ok (.istore_n 3, 1) := by decide +kernel
theorem d_MM_shorten_18 : decode b_MM_shorten 18 = .ok (.aload_n 0, 1) := by decide +kernel
theorem d_MM_shorten_19 : decode b_MM_shorten 19 = .ok (.iload_n 3, 1) := by decide +kernel
theorem d_MM_shorten_20 : decode b_MM_shorten 20 = .ok (.invokevirtual 243, 3) := by decide +kernel
theorem d_MM_shorten_23 : decode b_MM_shorten 23 = .ok (.ifCond .eq 8, 3) := by decide +kernel
theorem d_MM_shorten_26 : decode b_MM_shorten 26 = .ok (.iload_n 3, 1) := by decide +kernel
theorem d_MM_shorten_27 : decode b_MM_shorten 27 = .ok (.istore_n 2, 1) := by decide +kernel
theorem d_MM_shorten_28 : decode b_MM_shorten 28 = .ok (.goto 7, 3) := by decide +kernel
theorem d_MM_shorten_31 : decode b_MM_shorten 31 = .ok (.iload_n 3, 1) := by decide +kernel
theorem d_MM_shorten_32 : decode b_MM_shorten 32 = .ok (.iconst 1, 1) := by decide +kernel
theorem d_MM_shorten_33 : decode b_MM_shorten 33 = .ok (.iadd, 1) := by decide +kernel
theorem d_MM_shorten_34 : decode b_MM_shorten 34 = .ok (.istore_n 1, 1) := by decide +kernel
theorem d_MM_shorten_35 : decode b_MM_shorten 35 = .ok (.goto (-28), 3) := by decide +kernel
theorem d_MM_shorten_38 : decode b_MM_shorten 38 = .ok (.aload_n 0, 1) := by decide +kernel
theorem d_MM_shorten_39 : decode b_MM_shorten 39 = .ok (.iload_n 1, 1) := by decide +kernel
theorem d_MM_shorten_40 : decode b_MM_shorten 40 = .ok (.putfield 246, 3) := by decide +kernel
theorem d_MM_shorten_43 : decode b_MM_shorten 43 = .ok (.aload_n 0, 1) := by decide +kernel
theorem d_MM_shorten_44 : decode b_MM_shorten 44 = .ok (.iload_n 1, 1) := by decide +kernel
theorem d_MM_shorten_45 : decode b_MM_shorten 45 = .ok (.invokevirtual 243, 3) := by decide +kernel
theorem d_MM_shorten_48 : decode b_MM_shorten 48 = .ok (.istore_n 3, 1) := by decide +kernel
theorem d_MM_shorten_49 : decode b_MM_shorten 49 = .ok (.aload_n 0, 1) := by decide +kernel
theorem d_MM_shorten_50 : decode b_MM_shorten 50 = .ok (.iload_n 3, 1) := by decide +kernel
theorem d_MM_shorten_51 : decode b_MM_shorten 51 = .ok (.putfield 171, 3) := by decide +kernel
theorem d_MM_shorten_54 : decode b_MM_shorten 54 = .ok (.return_, 1) := by decide +kernel
def lp_MM_shorten_7 (Q : zS → Prop) : Nat → Int → Int → zS → Prop
  | 0 => fun _ _ _ => False
  | n + 1 => fun v1 v2 σ =>
    zc v1 ∧ zc v2 ∧ ((v2 ≤ v1 →
      ∀ σ4, σ4 = zup σ 145 0 v1 →
      wp_MM_reachable (fun r6 σ5 =>
        (r6 = 0 ∨ r6 = 1) ∧ ∀ σ8, σ8 = zup σ5 124 0 r6 →
        Q σ8) v1 σ4) ∧
     (¬ v2 ≤ v1 →
      zc (v1 + v2) ∧ 0 ≤ v1 + v2 ∧ 
      ∀ y11, y11 = (v1 + v2) / 2 →
      wp_MM_reachable (fun r13 σ12 =>
        zc r13 ∧ ((r13 = 0 →
          ∀ y15, y15 = y11 + 1 →
          lp_MM_shorten_7 Q n y15 v2 σ12) ∧
         (¬ r13 = 0 →
          lp_MM_shorten_7 Q n v1 y11 σ12))) y11 σ))
def wp_MM_shorten (Q : zS → Prop) (σ : zS) : Prop :=
  ∀ y1, y1 = σ 144 0 →
  ∃ u7, lp_MM_shorten_7 Q u7 0 y1 σ
set_option maxHeartbeats 4000000 in
set_option maxRecDepth 100000 in
theorem wk_MM_shorten_7 {E : zE} {D : va_G} {g : zG} {A : Nat → Prop} {ad : zA} {Q : zS → Prop} (C : zX E b_MM_shorten R_MM D g { frames := 3, cells := 0, slots := 0, locals := 70 } 4) (R : zRt E none (zQv D g ad Q A) 0 0 A) : ∀ (n : Nat) (v1 : Int) (v2 : Int) (σ : zS), lp_MM_shorten_7 Q n v1 v2 σ → zW E (zOK D A (zst E) g ad) 0 0 7 [(0, .ref (ad (0, 3))), (1, .int (zi v1)), (2, .int (zi v2))] [] σ := by
  intro n
  induction n with
  | zero =>
    intro v1 v2 σ h
    exact h.elim
  | succ n ih =>
    intro v1 v2 σ h
    refine z_iload_n C (pc := 7) d_MM_shorten_7 1 rfl ?_
    refine z_iload_n C (pc := 8) d_MM_shorten_8 2 rfl ?_
    obtain ⟨hc2, hc3, h⟩ := h
    refine z_icmp_ge (tgt := 38) C (pc := 9) d_MM_shorten_9 (by decide) hc2 hc3 h (fun h => ?_) (fun h => ?_)
    · refine z_aload_n C (pc := 38) d_MM_shorten_38 0 rfl ?_
      refine z_iload_n C (pc := 39) d_MM_shorten_39 1 rfl ?_
      refine m_putI C 45 145 rfl (by decide) rfl wd_749 ⟨rfl, rfl⟩ (pc := 40) d_MM_shorten_40 ?_
      refine zN h (fun σ4 eσ4 h => ?_)
      refine z_aload_n C (pc := 43) d_MM_shorten_43 0 rfl ?_
      refine z_iload_n C (pc := 44) d_MM_shorten_44 1 rfl ?_
      refine m_calli (As := [.int (zi v1)]) C fy_MM_reachable rfl wd_1010 (pc := 45) d_MM_shorten_45 ⟨rfl, rfl, Nat.le_of_ble_eq_true rfl, Nat.le_of_ble_eq_true rfl⟩ rfl rfl (Nat.le_of_ble_eq_true rfl) h (c_MM_reachable (zln E) D g ad _ _ _) (fun r6 σ5 h => ?_)
      refine z_istore_n (L' := [(3, .int (zi r6)), (0, .ref (ad (0, 3))), (1, .int (zi v1)), (2, .int (zi v2))]) C (pc := 48) d_MM_shorten_48 (by decide) rfl ?_
      refine z_aload_n C (pc := 49) d_MM_shorten_49 1 rfl ?_
      refine z_iload_n C (pc := 50) d_MM_shorten_50 0 rfl ?_
      obtain ⟨hc7, h⟩ := h
      refine m_putI C 24 124 rfl (by decide) rfl wd_728 (z_bool rfl hc7) (pc := 51) d_MM_shorten_51 ?_
      refine zN h (fun σ8 eσ8 h => ?_)
      exact z_vret C R (pc := 54) d_MM_shorten_54 h
    · refine z_iload_n C (pc := 12) d_MM_shorten_12 1 rfl ?_
      refine z_iload_n C (pc := 13) d_MM_shorten_13 2 rfl ?_
      refine z_iadd C (pc := 14) d_MM_shorten_14 ?_
      refine z_iconst C (pc := 15) d_MM_shorten_15 ?_
      obtain ⟨hc9, hc10, h⟩ := h
      refine z_idiv C (pc := 16) d_MM_shorten_16 hc9 hc10 (by decide) (by decide) ?_
      refine zNi h (fun y11 ey11 h => ?_)
      refine z_istore_n (L' := [(3, .int (zi y11)), (0, .ref (ad (0, 3))), (1, .int (zi v1)), (2, .int (zi v2))]) C (pc := 17) d_MM_shorten_17 (by decide) rfl ?_
      refine z_aload_n C (pc := 18) d_MM_shorten_18 1 rfl ?_
      refine z_iload_n C (pc := 19) d_MM_shorten_19 0 rfl ?_
      refine m_calli (As := [.int (zi y11)]) C fy_MM_reachable rfl wd_1010 (pc := 20) d_MM_shorten_20 ⟨rfl, rfl, Nat.le_of_ble_eq_true rfl, Nat.le_of_ble_eq_true rfl⟩ rfl rfl (Nat.le_of_ble_eq_true rfl) h (c_MM_reachable (zln E) D g ad _ _ _) (fun r13 σ12 h => ?_)
      obtain ⟨hc14, h⟩ := h
      refine z_if_eq (tgt := 31) C (pc := 23) d_MM_shorten_23 (by decide) hc14 h (fun h => ?_) (fun h => ?_)
      · refine z_iload_n C (pc := 31) d_MM_shorten_31 0 rfl ?_
        refine z_iconst C (pc := 32) d_MM_shorten_32 ?_
        refine z_iadd C (pc := 33) d_MM_shorten_33 ?_
        refine zNi h (fun y15 ey15 h => ?_)
        refine z_istore_n (L' := [(1, .int (zi y15)), (3, .int (zi y11)), (0, .ref (ad (0, 3))), (2, .int (zi v2))]) C (pc := 34) d_MM_shorten_34 (by decide) rfl ?_
        refine z_goto (tgt := 7) C (pc := 35) d_MM_shorten_35 (by decide) ?_
        refine z_sub [2, 0, 3] rfl ?_
        exact ih _ _ _ h
      · refine z_iload_n C (pc := 26) d_MM_shorten_26 0 rfl ?_
        refine z_istore_n (L' := [(2, .int (zi y11)), (3, .int (zi y11)), (0, .ref (ad (0, 3))), (1, .int (zi v1))]) C (pc := 27) d_MM_shorten_27 (by decide) rfl ?_
        refine z_goto (tgt := 35) C (pc := 28) d_MM_shorten_28 (by decide) ?_
        refine z_goto (tgt := 7) C (pc := 35) d_MM_shorten_35 (by decide) ?_
        refine z_sub [2, 3, 0] rfl ?_
        exact ih _ _ _ h
set_option maxHeartbeats 4000000 in
set_option maxRecDepth 100000 in
theorem c_MM_shorten (l : Launch) (D : va_G) (g : zG) (ad : zA) (Q : zS → Prop) (σ : zS) (h : wp_MM_shorten Q σ) : zMv l y_MM_shorten b_MM_shorten 4 none { frames := 3, cells := 0, slots := 0, locals := 70 } D g ad σ [.ref (ad (0, 3))] Q := by
  unfold wp_MM_shorten at h
  refine zM_of (by decide) (Nat.le_of_ble_eq_true rfl) (fun E C R hl => ?_)
  have C : zX E b_MM_shorten R_MM D g { frames := 3, cells := 0, slots := 0, locals := 70 } 4 := C
  refine z_sub (L' := [(0, .ref (ad (0, 3)))]) [0] rfl ?_
  refine z_iconst C (pc := 0) d_MM_shorten_0 ?_
  refine z_istore_n (L' := [(1, .int (zi 0)), (0, .ref (ad (0, 3)))]) C (pc := 1) d_MM_shorten_1 (by decide) rfl ?_
  refine z_aload_n C (pc := 2) d_MM_shorten_2 1 rfl ?_
  refine m_getI C 44 144 rfl (by decide) rfl wd_748 (pc := 3) d_MM_shorten_3 ?_
  refine zNi h (fun y1 ey1 h => ?_)
  refine z_istore_n (L' := [(2, .int (zi y1)), (1, .int (zi 0)), (0, .ref (ad (0, 3)))]) C (pc := 6) d_MM_shorten_6 (by decide) rfl ?_
  refine z_sub [2, 1, 0] rfl ?_
  obtain ⟨n16, h⟩ := h
  exact wk_MM_shorten_7 C R n16 _ _ _ h
theorem d_MM_comes_0 : decode b_MM_comes 0 = .ok (.aload_n 0, 1) := by decide +kernel
theorem d_MM_comes_1 : decode b_MM_comes 1 = .ok (.getfield 95, 3) := by decide +kernel
theorem d_MM_comes_4 : decode b_MM_comes 4 = .ok (.iload_n 1, 1) := by decide +kernel
theorem d_MM_comes_5 : decode b_MM_comes 5 = .ok (.iaload, 1) := by decide +kernel
theorem d_MM_comes_6 : decode b_MM_comes 6 = .ok (.istore_n 3, 1) := by decide +kernel
theorem d_MM_comes_7 : decode b_MM_comes 7 = .ok (.iload_n 2, 1) := by decide +kernel
theorem d_MM_comes_8 : decode b_MM_comes 8 = .ok (.iload_n 3, 1) := by decide +kernel
theorem d_MM_comes_9 : decode b_MM_comes 9 = .ok (.if_icmp .ge 21, 3) := by decide +kernel
theorem d_MM_comes_12 : decode b_MM_comes 12 = .ok (.aload_n 0, 1) := by decide +kernel
theorem d_MM_comes_13 : decode b_MM_comes 13 = .ok (.getfield 98, 3) := by decide +kernel
theorem d_MM_comes_16 : decode b_MM_comes 16 = .ok (.iload_n 1, 1) := by decide +kernel
theorem d_MM_comes_17 : decode b_MM_comes 17 = .ok (.laload, 1) := by decide +kernel
theorem d_MM_comes_18 : decode b_MM_comes 18 = .ok (.iload_n 3, 1) := by decide +kernel
theorem d_MM_comes_19 : decode b_MM_comes 19 = .ok (.iconst 1, 1) := by decide +kernel
theorem d_MM_comes_20 : decode b_MM_comes 20 = .ok (.isub, 1) := by decide +kernel
theorem d_MM_comes_21 : decode b_MM_comes 21 = .ok (.iload_n 2, 1) := by decide +kernel
theorem d_MM_comes_22 : decode b_MM_comes 22 = .ok (.isub, 1) := by decide +kernel
theorem d_MM_comes_23 : decode b_MM_comes 23 = .ok (.lshr, 1) := by decide +kernel
theorem d_MM_comes_24 : decode b_MM_comes 24 = .ok (.lconst 1, 1) := by decide +kernel
theorem d_MM_comes_25 : decode b_MM_comes 25 = .ok (.land, 1) := by decide +kernel
theorem d_MM_comes_26 : decode b_MM_comes 26 = .ok (.l2i, 1) := by decide +kernel
theorem d_MM_comes_27 : decode b_MM_comes 27 = .ok (.goto 21, 3) := by decide +kernel
theorem d_MM_comes_30 : decode b_MM_comes 30 = .ok (.aload_n 0, 1) := by decide +kernel
theorem d_MM_comes_31 : decode b_MM_comes 31 = .ok (.getfield 120, 3) := by decide +kernel
theorem d_MM_comes_34 : decode b_MM_comes 34 = .ok (.bipush 48, 2) := by decide +kernel
theorem d_MM_comes_36 : decode b_MM_comes 36 = .ok (.aload_n 0, 1) := by decide +kernel
theorem d_MM_comes_37 : decode b_MM_comes 37 = .ok (.getfield 92, 3) := by decide +kernel
theorem d_MM_comes_40 : decode b_MM_comes 40 = .ok (.iload_n 1, 1) := by decide +kernel
theorem d_MM_comes_41 : decode b_MM_comes 41 = .ok (.iaload, 1) := by decide +kernel
theorem d_MM_comes_42 : decode b_MM_comes 42 = .ok (.imul, 1) := by decide +kernel
theorem d_MM_comes_43 : decode b_MM_comes 43 = .ok (.iload_n 2, 1) := by decide +kernel
theorem d_MM_comes_44 : decode b_MM_comes 44 = .ok (.iadd, 1) := by decide +kernel
theorem d_MM_comes_45 : decode b_MM_comes 45 = .ok (.iload_n 3, 1) := by decide +kernel
theorem d_MM_comes_46 : decode b_MM_comes 46 = .ok (.isub, 1) := by decide +kernel
theorem d_MM_comes_47 : decode b_MM_comes 47 = .ok (.iaload, 1) := by decide +kernel
theorem d_MM_comes_48 : decode b_MM_comes 48 = .ok (.ireturn, 1) := by decide +kernel
def wp_MM_comes (Q : Int → zS → Prop) (v1 : Int) (v2 : Int) (σ : zS) : Prop :=
  0 ≤ v1 ∧ v1 < 196 ∧ 
  ∀ y3, y3 = σ 136 v1 →
  zc v2 ∧ zc y3 ∧ ((y3 ≤ v2 →
    0 ≤ ((48 * (σ 135 v1)) + v2) - y3 ∧ ((48 * (σ 135 v1)) + v2) - y3 < 2304 ∧ 
    Q (σ 146 (((48 * (σ 135 v1)) + v2) - y3)) σ) ∧
   (¬ y3 ≤ v2 →
    Q (zland (zlshr (σ 137 v1) ((y3 - 1) - v2)) 1) σ))
set_option maxHeartbeats 4000000 in
set_option maxRecDepth 100000 in
theorem c_MM_comes (l : Launch) (D : va_G) (g : zG) (ad : zA) (v1 : Int) (v2 : Int) (Q : Int → zS → Prop) (σ : zS) (h : wp_MM_comes Q v1 v2 σ) : zMi l y_MM_comes b_MM_comes 4 (some .int) { frames := 0, cells := 0, slots := 0, locals := 0 } D g ad σ [.ref (ad (0, 3)), .int (zi v1), .int (zi v2)] Q := by
  unfold wp_MM_comes at h
  refine zM_of (by decide) (Nat.le_of_ble_eq_true rfl) (fun E C R hl => ?_)
  have C : zX E b_MM_comes R_MM D g { frames := 0, cells := 0, slots := 0, locals := 0 } 4 := C
  refine z_sub (L' := [(0, .ref (ad (0, 3))), (1, .int (zi v1)), (2, .int (zi v2))]) [0, 1, 2] rfl ?_
  refine z_aload_n C (pc := 0) d_MM_comes_0 0 rfl ?_
  refine m_getA C 36 (by decide) rfl wd_740 (pc := 1) d_MM_comes_1 ?_
  refine z_iload_n C (pc := 4) d_MM_comes_4 1 rfl ?_
  obtain ⟨hc1, hc2, h⟩ := h
  refine m_iald C 36 136 196 rfl rfl (by decide) hc1 hc2 (pc := 5) d_MM_comes_5 ?_
  refine zNi h (fun y3 ey3 h => ?_)
  refine z_istore_n (L' := [(3, .int (zi y3)), (0, .ref (ad (0, 3))), (1, .int (zi v1)), (2, .int (zi v2))]) C (pc := 6) d_MM_comes_6 (by decide) rfl ?_
  refine z_iload_n C (pc := 7) d_MM_comes_7 3 rfl ?_
  refine z_iload_n C (pc := 8) d_MM_comes_8 0 rfl ?_
  obtain ⟨hc4, hc5, h⟩ := h
  refine z_icmp_ge (tgt := 30) C (pc := 9) d_MM_comes_9 (by decide) hc4 hc5 h (fun h => ?_) (fun h => ?_)
  · refine z_aload_n C (pc := 30) d_MM_comes_30 1 rfl ?_
    refine m_getA C 46 (by decide) rfl wd_750 (pc := 31) d_MM_comes_31 ?_
    refine z_bipush C (pc := 34) d_MM_comes_34 (by decide) ?_
    refine z_aload_n C (pc := 36) d_MM_comes_36 1 rfl ?_
    refine m_getA C 35 (by decide) rfl wd_739 (pc := 37) d_MM_comes_37 ?_
    refine z_iload_n C (pc := 40) d_MM_comes_40 2 rfl ?_
    refine m_iald C 35 135 196 rfl rfl (by decide) hc1 hc2 (pc := 41) d_MM_comes_41 ?_
    refine z_imul C (pc := 42) d_MM_comes_42 ?_
    refine z_iload_n C (pc := 43) d_MM_comes_43 3 rfl ?_
    refine z_iadd C (pc := 44) d_MM_comes_44 ?_
    refine z_iload_n C (pc := 45) d_MM_comes_45 0 rfl ?_
    refine z_isub C (pc := 46) d_MM_comes_46 ?_
    obtain ⟨hc8, hc9, h⟩ := h
    refine m_iald C 46 146 2304 rfl rfl (by decide) hc8 hc9 (pc := 47) d_MM_comes_47 ?_
    exact z_iret C R (pc := 48) d_MM_comes_48 h
  · refine z_aload_n C (pc := 12) d_MM_comes_12 1 rfl ?_
    refine m_getA C 37 (by decide) rfl wd_741 (pc := 13) d_MM_comes_13 ?_
    refine z_iload_n C (pc := 16) d_MM_comes_16 2 rfl ?_
    refine m_lald C 37 137 196 rfl rfl (by decide) hc1 hc2 (pc := 17) d_MM_comes_17 ?_
    refine z_iload_n C (pc := 18) d_MM_comes_18 0 rfl ?_
    refine z_iconst C (pc := 19) d_MM_comes_19 ?_
    refine z_isub C (pc := 20) d_MM_comes_20 ?_
    refine z_iload_n C (pc := 21) d_MM_comes_21 3 rfl ?_
    refine z_isub C (pc := 22) d_MM_comes_22 ?_
    refine z_lshr C (pc := 23) d_MM_comes_23 ?_
    refine z_lconst (y := 1) C (pc := 24) d_MM_comes_24 (by decide) ?_
    refine z_land C (pc := 25) d_MM_comes_25 ?_
    refine z_l2i C (pc := 26) d_MM_comes_26 ?_
    refine z_goto (tgt := 48) C (pc := 27) d_MM_comes_27 (by decide) ?_
    exact z_iret C R (pc := 48) d_MM_comes_48 h
theorem d_MM_told_0 : decode b_MM_told 0 = .ok (.iload_n 2, 1) := by decide +kernel
theorem d_MM_told_1 : decode b_MM_told 1 = .ok (.aload_n 0, 1) := by decide +kernel
theorem d_MM_told_2 : decode b_MM_told 2 = .ok (.getfield 95, 3) := by decide +kernel
theorem d_MM_told_5 : decode b_MM_told 5 = .ok (.iload_n 1, 1) := by decide +kernel
theorem d_MM_told_6 : decode b_MM_told 6 = .ok (.iaload, 1) := by decide +kernel
theorem d_MM_told_7 : decode b_MM_told 7 = .ok (.if_icmp .lt 39, 3) := by decide +kernel
theorem d_MM_told_10 : decode b_MM_told 10 = .ok (.aload_n 0, 1) := by decide +kernel
theorem d_MM_told_11 : decode b_MM_told 11 = .ok (.getfield 83, 3) := by decide +kernel
theorem d_MM_told_14 : decode b_MM_told 14 = .ok (.aload_n 0, 1) := by decide +kernel
theorem d_MM_told_15 : decode b_MM_told 15 = .ok (.getfield 92, 3) := by decide +kernel
theorem d_MM_told_18 : decode b_MM_told 18 = .ok (.iload_n 1, 1) := by decide +kernel
theorem d_MM_told_19 : decode b_MM_told 19 = .ok (.iaload, 1) := by decide +kernel
theorem d_MM_told_20 : decode b_MM_told 20 = .ok (.baload, 1) := by decide +kernel
theorem d_MM_told_21 : decode b_MM_told 21 = .ok (.ifCond .eq 29, 3) := by decide +kernel
theorem d_MM_told_24 : decode b_MM_told 24 = .ok (.iload_n 2, 1) := by decide +kernel
theorem d_MM_told_25 : decode b_MM_told 25 = .ok (.aload_n 0, 1) := by decide +kernel
theorem d_MM_told_26 : decode b_MM_told 26 = .ok (.getfield 95, 3) := by decide +kernel
theorem d_MM_told_29 : decode b_MM_told 29 = .ok (.iload_n 1, 1) := by decide +kernel
theorem d_MM_told_30 : decode b_MM_told 30 = .ok (.iaload, 1) := by decide +kernel
theorem d_MM_told_31 : decode b_MM_told 31 = .ok (.isub, 1) := by decide +kernel
theorem d_MM_told_32 : decode b_MM_told 32 = .ok (.aload_n 0, 1) := by decide +kernel
theorem d_MM_told_33 : decode b_MM_told 33 = .ok (.getfield 123, 3) := by decide +kernel
theorem d_MM_told_36 : decode b_MM_told 36 = .ok (.aload_n 0, 1) := by decide +kernel
theorem d_MM_told_37 : decode b_MM_told 37 = .ok (.getfield 92, 3) := by decide +kernel
theorem d_MM_told_40 : decode b_MM_told 40 = .ok (.iload_n 1, 1) := by decide +kernel
theorem d_MM_told_41 : decode b_MM_told 41 = .ok (.iaload, 1) := by decide +kernel
theorem d_MM_told_42 : decode b_MM_told 42 = .ok (.iaload, 1) := by decide +kernel
theorem d_MM_told_43 : decode b_MM_told 43 = .ok (.if_icmp .ge 7, 3) := by decide +kernel
theorem d_MM_told_46 : decode b_MM_told 46 = .ok (.iconst 1, 1) := by decide +kernel
theorem d_MM_told_47 : decode b_MM_told 47 = .ok (.goto 4, 3) := by decide +kernel
theorem d_MM_told_50 : decode b_MM_told 50 = .ok (.iconst 0, 1) := by decide +kernel
theorem d_MM_told_51 : decode b_MM_told 51 = .ok (.ireturn, 1) := by decide +kernel
def wp_MM_told (Q : Int → zS → Prop) (v1 : Int) (v2 : Int) (σ : zS) : Prop :=
  0 ≤ v1 ∧ v1 < 196 ∧ 
  zc v2 ∧ zc (σ 136 v1) ∧ ((v2 < σ 136 v1 →
    Q 1 σ) ∧
   (¬ v2 < σ 136 v1 →
    0 ≤ σ 135 v1 ∧ σ 135 v1 < 48 ∧ 
    zc (σ 131 (σ 135 v1)) ∧ ((σ 131 (σ 135 v1) = 0 →
      Q 0 σ) ∧
     (¬ σ 131 (σ 135 v1) = 0 →
      zc (v2 - (σ 136 v1)) ∧ zc (σ 147 (σ 135 v1)) ∧ ((σ 147 (σ 135 v1) ≤ v2 - (σ 136 v1) →
        Q 0 σ) ∧
       (¬ σ 147 (σ 135 v1) ≤ v2 - (σ 136 v1) →
        Q 1 σ))))))
set_option maxHeartbeats 4000000 in
set_option maxRecDepth 100000 in
theorem c_MM_told (l : Launch) (D : va_G) (g : zG) (ad : zA) (v1 : Int) (v2 : Int) (Q : Int → zS → Prop) (σ : zS) (h : wp_MM_told Q v1 v2 σ) : zMi l y_MM_told b_MM_told 3 (some .boolean) { frames := 0, cells := 0, slots := 0, locals := 0 } D g ad σ [.ref (ad (0, 3)), .int (zi v1), .int (zi v2)] Q := by
  unfold wp_MM_told at h
  refine zM_of (by decide) (Nat.le_of_ble_eq_true rfl) (fun E C R hl => ?_)
  have C : zX E b_MM_told R_MM D g { frames := 0, cells := 0, slots := 0, locals := 0 } 3 := C
  refine z_sub (L' := [(0, .ref (ad (0, 3))), (1, .int (zi v1)), (2, .int (zi v2))]) [0, 1, 2] rfl ?_
  refine z_iload_n C (pc := 0) d_MM_told_0 2 rfl ?_
  refine z_aload_n C (pc := 1) d_MM_told_1 0 rfl ?_
  refine m_getA C 36 (by decide) rfl wd_740 (pc := 2) d_MM_told_2 ?_
  refine z_iload_n C (pc := 5) d_MM_told_5 1 rfl ?_
  obtain ⟨hc1, hc2, h⟩ := h
  refine m_iald C 36 136 196 rfl rfl (by decide) hc1 hc2 (pc := 6) d_MM_told_6 ?_
  obtain ⟨hc3, hc4, h⟩ := h
  refine z_icmp_lt (tgt := 46) C (pc := 7) d_MM_told_7 (by decide) hc3 hc4 h (fun h => ?_) (fun h => ?_)
  · refine z_iconst C (pc := 46) d_MM_told_46 ?_
    refine z_goto (tgt := 51) C (pc := 47) d_MM_told_47 (by decide) ?_
    exact z_zret C R (pc := 51) d_MM_told_51 (by decide) h
  · refine z_aload_n C (pc := 10) d_MM_told_10 0 rfl ?_
    refine m_getA C 31 (by decide) rfl wd_735 (pc := 11) d_MM_told_11 ?_
    refine z_aload_n C (pc := 14) d_MM_told_14 0 rfl ?_
    refine m_getA C 35 (by decide) rfl wd_739 (pc := 15) d_MM_told_15 ?_
    refine z_iload_n C (pc := 18) d_MM_told_18 1 rfl ?_
    refine m_iald C 35 135 196 rfl rfl (by decide) hc1 hc2 (pc := 19) d_MM_told_19 ?_
    obtain ⟨hc7, hc8, h⟩ := h
    refine m_zald C 31 131 48 rfl rfl (by decide) hc7 hc8 (pc := 20) d_MM_told_20 ?_
    obtain ⟨hc9, h⟩ := h
    refine z_if_eq (tgt := 50) C (pc := 21) d_MM_told_21 (by decide) hc9 h (fun h => ?_) (fun h => ?_)
    · refine z_iconst C (pc := 50) d_MM_told_50 ?_
      exact z_zret C R (pc := 51) d_MM_told_51 (by decide) h
    · refine z_iload_n C (pc := 24) d_MM_told_24 2 rfl ?_
      refine z_aload_n C (pc := 25) d_MM_told_25 0 rfl ?_
      refine m_getA C 36 (by decide) rfl wd_740 (pc := 26) d_MM_told_26 ?_
      refine z_iload_n C (pc := 29) d_MM_told_29 1 rfl ?_
      refine m_iald C 36 136 196 rfl rfl (by decide) hc1 hc2 (pc := 30) d_MM_told_30 ?_
      refine z_isub C (pc := 31) d_MM_told_31 ?_
      refine z_aload_n C (pc := 32) d_MM_told_32 0 rfl ?_
      refine m_getA C 47 (by decide) rfl wd_751 (pc := 33) d_MM_told_33 ?_
      refine z_aload_n C (pc := 36) d_MM_told_36 0 rfl ?_
      refine m_getA C 35 (by decide) rfl wd_739 (pc := 37) d_MM_told_37 ?_
      refine z_iload_n C (pc := 40) d_MM_told_40 1 rfl ?_
      refine m_iald C 35 135 196 rfl rfl (by decide) hc1 hc2 (pc := 41) d_MM_told_41 ?_
      refine m_iald C 47 147 48 rfl rfl (by decide) hc7 hc8 (pc := 42) d_MM_told_42 ?_
      obtain ⟨hc16, hc17, h⟩ := h
      refine z_icmp_ge (tgt := 50) C (pc := 43) d_MM_told_43 (by decide) hc16 hc17 h (fun h => ?_) (fun h => ?_)
      · refine z_iconst C (pc := 50) d_MM_told_50 ?_
        exact z_zret C R (pc := 51) d_MM_told_51 (by decide) h
      · refine z_iconst C (pc := 46) d_MM_told_46 ?_
        refine z_goto (tgt := 51) C (pc := 47) d_MM_told_47 (by decide) ?_
        exact z_zret C R (pc := 51) d_MM_told_51 (by decide) h
theorem d_MM_pinsOf_0 : decode b_MM_pinsOf 0 = .ok (.iconst 0, 1) := by decide +kernel
theorem d_MM_pinsOf_1 : decode b_MM_pinsOf 1 = .ok (.istore_n 2, 1) := by decide +kernel
theorem d_MM_pinsOf_2 : decode b_MM_pinsOf 2 = .ok (.aload_n 0, 1) := by decide +kernel
theorem d_MM_pinsOf_3 : decode b_MM_pinsOf 3 = .ok (.getfield 55, 3) := by decide +kernel
theorem d_MM_pinsOf_6 : decode b_MM_pinsOf 6 = .ok (.iload_n 1, 1) := by decide +kernel
theorem d_MM_pinsOf_7 : decode b_MM_pinsOf 7 = .ok (.iaload, 1) := by decide +kernel
theorem d_MM_pinsOf_8 : decode b_MM_pinsOf 8 = .ok (.istore_n 3, 1) := by decide +kernel
theorem d_MM_pinsOf_9 : decode b_MM_pinsOf 9 = .ok (.iload_n 3, 1) := by decide +kernel
theorem d_MM_pinsOf_10 : decode b_MM_pinsOf 10 = .ok (.ifCond .eq 25, 3) := by decide +kernel
theorem d_MM_pinsOf_13 : decode b_MM_pinsOf 13 = .ok (.iload_n 3, 1) := by decide +kernel
theorem d_MM_pinsOf_14 : decode b_MM_pinsOf 14 = .ok (.iconst 3, 1) := by decide +kernel
theorem d_MM_pinsOf_15 : decode b_MM_pinsOf 15 = .ok (.iand, 1) := by decide +kernel
theorem d_MM_pinsOf_16 : decode b_MM_pinsOf 16 = .ok (.iconst 1, 1) := by decide +kernel
theorem d_MM_pinsOf_17 : decode b_MM_pinsOf 17 = .ok (.if_icmp .ne 9, 3) := by decide +kernel
theorem d_MM_pinsOf_20 : decode b_MM_pinsOf 20 = .ok (.iload_n 2, 1) := by decide +kernel
theorem d_MM_pinsOf_21 : decode b_MM_pinsOf 21 = .ok (.iconst 1, 1) := by decide +kernel
theorem d_MM_pinsOf_22 : decode b_MM_pinsOf 22 = .ok (.iadd, 1) := by decide +kernel
theorem d_MM_pinsOf_23 : decode b_MM_pinsOf 23 = .ok (.goto 4, 3) := by decide +kernel
theorem d_MM_pinsOf_26 : decode b_MM_pinsOf 26 = .ok (.iload_n 2, 1) := by decide +kernel
theorem d_MM_pinsOf_27 : decode b_MM_pinsOf 27 = .ok (.istore_n 2, 1) := by decide +kernel
theorem d_MM_pinsOf_28 : decode b_MM_pinsOf 28 = .ok (.iload_n 3, 1) := by decide +kernel
theorem d_MM_pinsOf_29 : decode b_MM_pinsOf 29 = .ok (.iconst 2, 1) := by decide +kernel
theorem d_MM_pinsOf_30 : decode b_MM_pinsOf 30 = .ok (.ishr, 1) := by decide +kernel
theorem d_MM_pinsOf_31 : decode b_MM_pinsOf 31 = .ok (.istore_n 3, 1) := by decide +kernel
theorem d_MM_pinsOf_32 : decode b_MM_pinsOf 32 = .ok (.goto (-23), 3) := by decide +kernel
theorem d_MM_pinsOf_35 : decode b_MM_pinsOf 35 = .ok (.iload_n 2, 1) := by decide +kernel
theorem d_MM_pinsOf_36 : decode b_MM_pinsOf 36 = .ok (.ireturn, 1) := by decide +kernel
def bk_MM_pinsOf_27 (Q : Int → zS → Prop) (J9 : Int → Int → zS → Prop) (v3 : Int) (z0 : Int) (σ : zS) : Prop :=
  ∀ y5, y5 = zshr v3 2 →
  J9 z0 y5 σ
def lp_MM_pinsOf_9 (Q : Int → zS → Prop) : Nat → Int → Int → zS → Prop
  | 0 => fun _ _ _ => False
  | n + 1 => fun v2 v3 σ =>
    zc v3 ∧ ((v3 = 0 →
      Q v2 σ) ∧
     (¬ v3 = 0 →
      ((zand v3 3 = 1 →
        bk_MM_pinsOf_27 Q (lp_MM_pinsOf_9 Q n) v3 (v2 + 1) σ) ∧
       (¬ zand v3 3 = 1 →
        bk_MM_pinsOf_27 Q (lp_MM_pinsOf_9 Q n) v3 v2 σ))))
def wp_MM_pinsOf (Q : Int → zS → Prop) (v1 : Int) (σ : zS) : Prop :=
  0 ≤ v1 ∧ v1 < 8 ∧ 
  ∀ y3, y3 = σ 121 v1 →
  ∃ u9, lp_MM_pinsOf_9 Q u9 0 y3 σ
set_option maxHeartbeats 4000000 in
set_option maxRecDepth 100000 in
theorem wk_MM_pinsOf_27 {E : zE} {D : va_G} {g : zG} {A : Nat → Prop} {ad : zA} {Q : Int → zS → Prop} {J9 : Int → Int → zS → Prop} (C : zX E b_MM_pinsOf R_MM D g { frames := 0, cells := 0, slots := 0, locals := 0 } 4) (R : zRt E (some .int) (zQi D g ad Q A) 0 0 A) (hJ9 : ∀ (v2 : Int) (v3 : Int) (σ : zS), J9 v2 v3 σ → zW E (zOK D A (zst E) g ad) 0 0 9 [(2, .int (zi v2)), (3, .int (zi v3))] [] σ) (v3 : Int) (z0 : Int) (σ : zS) (h : bk_MM_pinsOf_27 Q J9 v3 z0 σ) : zW E (zOK D A (zst E) g ad) 0 0 27 [(3, .int (zi v3))] [.int (zi z0)] σ := by
  unfold bk_MM_pinsOf_27 at h
  refine z_istore_n (L' := [(2, .int (zi z0)), (3, .int (zi v3))]) C (pc := 27) d_MM_pinsOf_27 (by decide) rfl ?_
  refine z_iload_n C (pc := 28) d_MM_pinsOf_28 1 rfl ?_
  refine z_iconst C (pc := 29) d_MM_pinsOf_29 ?_
  refine z_ishr C (pc := 30) d_MM_pinsOf_30 ?_
  refine zNi h (fun y5 ey5 h => ?_)
  refine z_istore_n (L' := [(3, .int (zi y5)), (2, .int (zi z0))]) C (pc := 31) d_MM_pinsOf_31 (by decide) rfl ?_
  refine z_goto (tgt := 9) C (pc := 32) d_MM_pinsOf_32 (by decide) ?_
  refine z_sub [1, 0] rfl ?_
  exact hJ9 _ _ _ h
set_option maxHeartbeats 4000000 in
set_option maxRecDepth 100000 in
theorem wk_MM_pinsOf_9 {E : zE} {D : va_G} {g : zG} {A : Nat → Prop} {ad : zA} {Q : Int → zS → Prop} (C : zX E b_MM_pinsOf R_MM D g { frames := 0, cells := 0, slots := 0, locals := 0 } 4) (R : zRt E (some .int) (zQi D g ad Q A) 0 0 A) : ∀ (n : Nat) (v2 : Int) (v3 : Int) (σ : zS), lp_MM_pinsOf_9 Q n v2 v3 σ → zW E (zOK D A (zst E) g ad) 0 0 9 [(2, .int (zi v2)), (3, .int (zi v3))] [] σ := by
  intro n
  induction n with
  | zero =>
    intro v2 v3 σ h
    exact h.elim
  | succ n ih =>
    intro v2 v3 σ h
    refine z_iload_n C (pc := 9) d_MM_pinsOf_9 1 rfl ?_
    obtain ⟨hc4, h⟩ := h
    refine z_if_eq (tgt := 35) C (pc := 10) d_MM_pinsOf_10 (by decide) hc4 h (fun h => ?_) (fun h => ?_)
    · refine z_iload_n C (pc := 35) d_MM_pinsOf_35 0 rfl ?_
      exact z_iret C R (pc := 36) d_MM_pinsOf_36 h
    · refine z_iload_n C (pc := 13) d_MM_pinsOf_13 1 rfl ?_
      refine z_iconst C (pc := 14) d_MM_pinsOf_14 ?_
      refine z_iand C (pc := 15) d_MM_pinsOf_15 ?_
      refine z_iconst C (pc := 16) d_MM_pinsOf_16 ?_
      refine z_icmp_ne (tgt := 26) C (pc := 17) d_MM_pinsOf_17 (by decide) (zc_and _ _) (by decide) h (fun h => ?_) (fun h => ?_)
      · refine z_iload_n C (pc := 26) d_MM_pinsOf_26 0 rfl ?_
        refine z_sub [1] rfl ?_
        exact wk_MM_pinsOf_27 C R ih _ _ _ h
      · refine z_iload_n C (pc := 20) d_MM_pinsOf_20 0 rfl ?_
        refine z_iconst C (pc := 21) d_MM_pinsOf_21 ?_
        refine z_iadd C (pc := 22) d_MM_pinsOf_22 ?_
        refine z_goto (tgt := 27) C (pc := 23) d_MM_pinsOf_23 (by decide) ?_
        refine z_sub [1] rfl ?_
        exact wk_MM_pinsOf_27 C R ih _ _ _ h
set_option maxHeartbeats 4000000 in
set_option maxRecDepth 100000 in
theorem c_MM_pinsOf (l : Launch) (D : va_G) (g : zG) (ad : zA) (v1 : Int) (Q : Int → zS → Prop) (σ : zS) (h : wp_MM_pinsOf Q v1 σ) : zMi l y_MM_pinsOf b_MM_pinsOf 4 (some .int) { frames := 0, cells := 0, slots := 0, locals := 0 } D g ad σ [.ref (ad (0, 3)), .int (zi v1)] Q := by
  unfold wp_MM_pinsOf at h
  refine zM_of (by decide) (Nat.le_of_ble_eq_true rfl) (fun E C R hl => ?_)
  have C : zX E b_MM_pinsOf R_MM D g { frames := 0, cells := 0, slots := 0, locals := 0 } 4 := C
  refine z_sub (L' := [(0, .ref (ad (0, 3))), (1, .int (zi v1))]) [0, 1] rfl ?_
  refine z_iconst C (pc := 0) d_MM_pinsOf_0 ?_
  refine z_istore_n (L' := [(2, .int (zi 0)), (0, .ref (ad (0, 3))), (1, .int (zi v1))]) C (pc := 1) d_MM_pinsOf_1 (by decide) rfl ?_
  refine z_aload_n C (pc := 2) d_MM_pinsOf_2 1 rfl ?_
  refine m_getA C 21 (by decide) rfl wd_725 (pc := 3) d_MM_pinsOf_3 ?_
  refine z_iload_n C (pc := 6) d_MM_pinsOf_6 2 rfl ?_
  obtain ⟨hc1, hc2, h⟩ := h
  refine m_iald C 21 121 8 rfl rfl (by decide) hc1 hc2 (pc := 7) d_MM_pinsOf_7 ?_
  refine zNi h (fun y3 ey3 h => ?_)
  refine z_istore_n (L' := [(3, .int (zi y3)), (2, .int (zi 0)), (0, .ref (ad (0, 3))), (1, .int (zi v1))]) C (pc := 8) d_MM_pinsOf_8 (by decide) rfl ?_
  refine z_sub [1, 0] rfl ?_
  obtain ⟨n6, h⟩ := h
  exact wk_MM_pinsOf_9 C R n6 _ _ _ h
theorem d_MM_work_0 : decode b_MM_work 0 = .ok (.aload_n 0, 1) := by decide +kernel
theorem d_MM_work_1 : decode b_MM_work 1 = .ok (.iload_n 1, 1) := by decide +kernel
theorem d_MM_work_2 : decode b_MM_work 2 = .ok (.invokevirtual 249, 3) := by decide +kernel
theorem d_MM_work_5 : decode b_MM_work 5 = .ok (.istore_n 3, 1) := by decide +kernel
theorem d_MM_work_6 : decode b_MM_work 6 = .ok (.iconst 0, 1) := by decide +kernel
theorem d_MM_work_7 : decode b_MM_work 7 = .ok (.istore 4, 2) := by decide +kernel
theorem d_MM_work_9 : decode b_MM_work 9 = .ok (.bipush 6, 2) := by decide +kernel
theorem d_MM_work_11 : decode b_MM_work 11 = .ok (.istore 5, 2) := by decide +kernel
theorem d_MM_work_13 : decode b_MM_work 13 = .ok (.iload 5, 2) := by decide +kernel
theorem d_MM_work_15 : decode b_MM_work 15 = .ok (.ifCond .lt 117, 3) := by decide +kernel
theorem d_MM_work_18 : decode b_MM_work 18 = .ok (.aload_n 0, 1) := by decide +kernel
theorem d_MM_work_19 : decode b_MM_work 19 = .ok (.getfield 55, 3) := by decide +kernel
theorem d_MM_work_22 : decode b_MM_work 22 = .ok (.iload_n 1, 1) := by decide +kernel
theorem d_MM_work_23 : decode b_MM_work 23 = .ok (.iaload, 1) := by decide +kernel
theorem d_MM_work_24 : decode b_MM_work 24 = .ok (.iconst 2, 1) := by decide +kernel
theorem d_MM_work_25 : decode b_MM_work 25 = .ok (.iload 5, 2) := by decide +kernel
theorem d_MM_work_27 : decode b_MM_work 27 = .ok (.imul, 1) := by decide +kernel
theorem d_MM_work_28 : decode b_MM_work 28 = .ok (.ishr, 1) := by decide +kernel
theorem d_MM_work_29 : decode b_MM_work 29 = .ok (.iconst 3, 1) := by decide +kernel
theorem d_MM_work_30 : decode b_MM_work 30 = .ok (.iand, 1) := by decide +kernel
theorem d_MM_work_31 : decode b_MM_work 31 = .ok (.istore 6, 2) := by decide +kernel
theorem d_MM_work_33 : decode b_MM_work 33 = .ok (.iload 6, 2) := by decide +kernel
theorem d_MM_work_35 : decode b_MM_work 35 = .ok (.iconst 1, 1) := by decide +kernel
theorem d_MM_work_36 : decode b_MM_work 36 = .ok (.if_icmp .ne 24, 3) := by decide +kernel
theorem d_MM_work_39 : decode b_MM_work 39 = .ok (.iinc 3 (-1), 3) := by decide +kernel
theorem d_MM_work_42 : decode b_MM_work 42 = .ok (.aload_n 0, 1) := by decide +kernel
theorem d_MM_work_43 : decode b_MM_work 43 = .ok (.getfield 132, 3) := by decide +kernel
theorem d_MM_work_46 : decode b_MM_work 46 = .ok (.iload 4, 2) := by decide +kernel
theorem d_MM_work_48 : decode b_MM_work 48 = .ok (.iload_n 2, 1) := by decide +kernel
theorem d_MM_work_49 : decode b_MM_work 49 = .ok (.iload_n 3, 1) := by decide +kernel
theorem d_MM_work_50 : decode b_MM_work 50 = .ok (.ishr, 1) := by decide +kernel
theorem d_MM_work_51 : decode b_MM_work 51 = .ok (.iconst 1, 1) := by decide +kernel
theorem d_MM_work_52 : decode b_MM_work 52 = .ok (.iand, 1) := by decide +kernel
theorem d_MM_work_53 : decode b_MM_work 53 = .ok (.iastore, 1) := by decide +kernel
theorem d_MM_work_54 : decode b_MM_work 54 = .ok (.iinc 4 1, 3) := by decide +kernel
theorem d_MM_work_57 : decode b_MM_work 57 = .ok (.goto 69, 3) := by decide +kernel
theorem d_MM_work_60 : decode b_MM_work 60 = .ok (.iload 6, 2) := by decide +kernel
theorem d_MM_work_62 : decode b_MM_work 62 = .ok (.iconst 2, 1) := by decide +kernel
theorem d_MM_work_63 : decode b_MM_work 63 = .ok (.if_icmp .ne 26, 3) := by decide +kernel
theorem d_MM_work_66 : decode b_MM_work 66 = .ok (.aload_n 0, 1) := by decide +kernel
theorem d_MM_work_67 : decode b_MM_work 67 = .ok (.getfield 132, 3) := by decide +kernel
theorem d_MM_work_70 : decode b_MM_work 70 = .ok (.iload 4, 2) := by decide +kernel
theorem d_MM_work_72 : decode b_MM_work 72 = .ok (.iconst 1, 1) := by decide +kernel
theorem d_MM_work_73 : decode b_MM_work 73 = .ok (.isub, 1) := by decide +kernel
theorem d_MM_work_74 : decode b_MM_work 74 = .ok (.iconst 1, 1) := by decide +kernel
theorem d_MM_work_75 : decode b_MM_work 75 = .ok (.aload_n 0, 1) := by decide +kernel
theorem d_MM_work_76 : decode b_MM_work 76 = .ok (.getfield 132, 3) := by decide +kernel
theorem d_MM_work_79 : decode b_MM_work 79 = .ok (.iload 4, 2) := by decide +kernel
theorem d_MM_work_81 : decode b_MM_work 81 = .ok (.iconst 1, 1) := by decide +kernel
theorem d_MM_work_82 : decode b_MM_work 82 = .ok (.isub, 1) := by decide +kernel
theorem d_MM_work_83 : decode b_MM_work 83 = .ok (.iaload, 1) := by decide +kernel
theorem d_MM_work_84 : decode b_MM_work 84 = .ok (.isub, 1) := by decide +kernel
theorem d_MM_work_85 : decode b_MM_work 85 = .ok (.iastore, 1) := by decide +kernel
theorem d_MM_work_86 : decode b_MM_work 86 = .ok (.goto 40, 3) := by decide +kernel
theorem d_MM_work_89 : decode b_MM_work 89 = .ok (.iload 6, 2) := by decide +kernel
theorem d_MM_work_91 : decode b_MM_work 91 = .ok (.iconst 3, 1) := by decide +kernel
theorem d_MM_work_92 : decode b_MM_work 92 = .ok (.if_icmp .ne 34, 3) := by decide +kernel
theorem d_MM_work_95 : decode b_MM_work 95 = .ok (.iinc 4 (-1), 3) := by decide +kernel
theorem d_MM_work_98 : decode b_MM_work 98 = .ok (.aload_n 0, 1) := by decide +kernel
theorem d_MM_work_99 : decode b_MM_work 99 = .ok (.getfield 132, 3) := by decide +kernel
theorem d_MM_work_102 : decode b_MM_work 102 = .ok (.iload 4, 2) := by decide +kernel
theorem d_MM_work_104 : decode b_MM_work 104 = .ok (.iconst 1, 1) := by decide +kernel
theorem d_MM_work_105 : decode b_MM_work 105 = .ok (.isub, 1) := by decide +kernel
theorem d_MM_work_106 : decode b_MM_work 106 = .ok (.iconst 1, 1) := by decide +kernel
theorem d_MM_work_107 : decode b_MM_work 107 = .ok (.aload_n 0, 1) := by decide +kernel
theorem d_MM_work_108 : decode b_MM_work 108 = .ok (.getfield 132, 3) := by decide +kernel
theorem d_MM_work_111 : decode b_MM_work 111 = .ok (.iload 4, 2) := by decide +kernel
theorem d_MM_work_113 : decode b_MM_work 113 = .ok (.iconst 1, 1) := by decide +kernel
theorem d_MM_work_114 : decode b_MM_work 114 = .ok (.isub, 1) := by decide +kernel
theorem d_MM_work_115 : decode b_MM_work 115 = .ok (.iaload, 1) := by decide +kernel
theorem d_MM_work_116 : decode b_MM_work 116 = .ok (.aload_n 0, 1) := by decide +kernel
theorem d_MM_work_117 : decode b_MM_work 117 = .ok (.getfield 132, 3) := by decide +kernel
theorem d_MM_work_120 : decode b_MM_work 120 = .ok (.iload 4, 2) := by decide +kernel
theorem d_MM_work_122 : decode b_MM_work 122 = .ok (.iaload, 1) := by decide +kernel
theorem d_MM_work_123 : decode b_MM_work 123 = .ok (.iand, 1) := by decide +kernel
theorem d_MM_work_124 : decode b_MM_work 124 = .ok (.isub, 1) := by decide +kernel
theorem d_MM_work_125 : decode b_MM_work 125 = .ok (.iastore, 1) := by decide +kernel
theorem d_MM_work_126 : decode b_MM_work 126 = .ok (.iinc 5 (-1), 3) := by decide +kernel
theorem d_MM_work_129 : decode b_MM_work 129 = .ok (.goto (-116), 3) := by decide +kernel
theorem d_MM_work_132 : decode b_MM_work 132 = .ok (.aload_n 0, 1) := by decide +kernel
theorem d_MM_work_133 : decode b_MM_work 133 = .ok (.getfield 132, 3) := by decide +kernel
theorem d_MM_work_136 : decode b_MM_work 136 = .ok (.iconst 0, 1) := by decide +kernel
theorem d_MM_work_137 : decode b_MM_work 137 = .ok (.iaload, 1) := by decide +kernel
theorem d_MM_work_138 : decode b_MM_work 138 = .ok (.ireturn, 1) := by decide +kernel
def lp_MM_work_13 (Q : Int → zS → Prop) : Nat → Int → Int → Int → Int → Int → zS → Prop
  | 0 => fun _ _ _ _ _ _ => False
  | n + 1 => fun v1 v2 v3 v4 v5 σ =>
    zc v5 ∧ ((v5 < 0 →
      Q (σ 150 0) σ) ∧
     (¬ v5 < 0 →
      0 ≤ v1 ∧ v1 < 8 ∧ 
      ∀ y8, y8 = zand (zshr (σ 121 v1) (2 * v5)) 3 →
      ((y8 = 1 →
        0 ≤ v4 ∧ v4 < 8 ∧ ∀ σ23, σ23 = zup σ 150 v4 (zand (zshr v2 (v3 + (-1))) 1) →
        lp_MM_work_13 Q n v1 v2 (v3 + (-1)) (v4 + 1) (v5 + (-1)) σ23) ∧
       (¬ y8 = 1 →
        ((y8 = 2 →
          0 ≤ v4 - 1 ∧ v4 - 1 < 8 ∧ 
          ∀ σ20, σ20 = zup σ 150 (v4 - 1) (1 - (σ 150 (v4 - 1))) →
          lp_MM_work_13 Q n v1 v2 v3 v4 (v5 + (-1)) σ20) ∧
         (¬ y8 = 2 →
          ((y8 = 3 →
            0 ≤ (v4 + (-1)) - 1 ∧ (v4 + (-1)) - 1 < 8 ∧ 
            0 ≤ v4 + (-1) ∧ v4 + (-1) < 8 ∧ 
            ∀ σ15, σ15 = zup σ 150 ((v4 + (-1)) - 1) (1 - (zand (σ 150 ((v4 + (-1)) - 1)) (σ 150 (v4 + (-1))))) →
            lp_MM_work_13 Q n v1 v2 v3 (v4 + (-1)) (v5 + (-1)) σ15) ∧
           (¬ y8 = 3 →
            lp_MM_work_13 Q n v1 v2 v3 v4 (v5 + (-1)) σ))))))))
def wp_MM_work (Q : Int → zS → Prop) (v1 : Int) (v2 : Int) (σ : zS) : Prop :=
  wp_MM_pinsOf (fun r2 σ1 =>
    ∃ u13, lp_MM_work_13 Q u13 v1 v2 r2 0 6 σ1) v1 σ
set_option maxHeartbeats 4000000 in
set_option maxRecDepth 100000 in
theorem wk_MM_work_13 {E : zE} {D : va_G} {g : zG} {A : Nat → Prop} {ad : zA} {Q : Int → zS → Prop} (C : zX E b_MM_work R_MM D g { frames := 1, cells := 0, slots := 0, locals := 23 } 7) (R : zRt E (some .int) (zQi D g ad Q A) 0 0 A) : ∀ (n : Nat) (v1 : Int) (v2 : Int) (v3 : Int) (v4 : Int) (v5 : Int) (σ : zS), lp_MM_work_13 Q n v1 v2 v3 v4 v5 σ → zW E (zOK D A (zst E) g ad) 0 0 13 [(0, .ref (ad (0, 3))), (1, .int (zi v1)), (2, .int (zi v2)), (3, .int (zi v3)), (4, .int (zi v4)), (5, .int (zi v5))] [] σ := by
  intro n
  induction n with
  | zero =>
    intro v1 v2 v3 v4 v5 σ h
    exact h.elim
  | succ n ih =>
    intro v1 v2 v3 v4 v5 σ h
    refine z_iload C (pc := 13) d_MM_work_13 5 rfl ?_
    obtain ⟨hc3, h⟩ := h
    refine z_if_lt (tgt := 132) C (pc := 15) d_MM_work_15 (by decide) hc3 h (fun h => ?_) (fun h => ?_)
    · refine z_aload_n C (pc := 132) d_MM_work_132 0 rfl ?_
      refine m_getA C 50 (by decide) rfl wd_754 (pc := 133) d_MM_work_133 ?_
      refine z_iconst C (pc := 136) d_MM_work_136 ?_
      refine m_iald C 50 150 8 rfl rfl (by decide) (by decide) (by decide) (pc := 137) d_MM_work_137 ?_
      exact z_iret C R (pc := 138) d_MM_work_138 h
    · refine z_aload_n C (pc := 18) d_MM_work_18 0 rfl ?_
      refine m_getA C 21 (by decide) rfl wd_725 (pc := 19) d_MM_work_19 ?_
      refine z_iload_n C (pc := 22) d_MM_work_22 1 rfl ?_
      obtain ⟨hc6, hc7, h⟩ := h
      refine m_iald C 21 121 8 rfl rfl (by decide) hc6 hc7 (pc := 23) d_MM_work_23 ?_
      refine z_iconst C (pc := 24) d_MM_work_24 ?_
      refine z_iload C (pc := 25) d_MM_work_25 5 rfl ?_
      refine z_imul C (pc := 27) d_MM_work_27 ?_
      refine z_ishr C (pc := 28) d_MM_work_28 ?_
      refine z_iconst C (pc := 29) d_MM_work_29 ?_
      refine z_iand C (pc := 30) d_MM_work_30 ?_
      refine zNi h (fun y8 ey8 h => ?_)
      refine z_istore (L' := [(6, .int (zi y8)), (0, .ref (ad (0, 3))), (1, .int (zi v1)), (2, .int (zi v2)), (3, .int (zi v3)), (4, .int (zi v4)), (5, .int (zi v5))]) C (pc := 31) d_MM_work_31 (by decide) rfl ?_
      refine z_iload C (pc := 33) d_MM_work_33 0 rfl ?_
      refine z_iconst C (pc := 35) d_MM_work_35 ?_
      refine z_icmp_ne (tgt := 60) C (pc := 36) d_MM_work_36 (by decide) (ey8 ▸ zc_and _ _) (by decide) h (fun h => ?_) (fun h => ?_)
      · refine z_iload C (pc := 60) d_MM_work_60 0 rfl ?_
        refine z_iconst C (pc := 62) d_MM_work_62 ?_
        refine z_icmp_ne (tgt := 89) C (pc := 63) d_MM_work_63 (by decide) (ey8 ▸ zc_and _ _) (by decide) h (fun h => ?_) (fun h => ?_)
        · refine z_iload C (pc := 89) d_MM_work_89 0 rfl ?_
          refine z_iconst C (pc := 91) d_MM_work_91 ?_
          refine z_icmp_ne (tgt := 126) C (pc := 92) d_MM_work_92 (by decide) (ey8 ▸ zc_and _ _) (by decide) h (fun h => ?_) (fun h => ?_)
          · refine z_iinc (L' := [(5, .int (zi (v5 + (-1)))), (6, .int (zi y8)), (0, .ref (ad (0, 3))), (1, .int (zi v1)), (2, .int (zi v2)), (3, .int (zi v3)), (4, .int (zi v4))]) C (pc := 126) d_MM_work_126 6 rfl (by decide) rfl ?_
            refine z_goto (tgt := 13) C (pc := 129) d_MM_work_129 (by decide) ?_
            refine z_sub [2, 3, 4, 5, 6, 0] rfl ?_
            exact ih _ _ _ _ _ _ h
          · refine z_iinc (L' := [(4, .int (zi (v4 + (-1)))), (6, .int (zi y8)), (0, .ref (ad (0, 3))), (1, .int (zi v1)), (2, .int (zi v2)), (3, .int (zi v3)), (5, .int (zi v5))]) C (pc := 95) d_MM_work_95 5 rfl (by decide) rfl ?_
            refine z_aload_n C (pc := 98) d_MM_work_98 2 rfl ?_
            refine m_getA C 50 (by decide) rfl wd_754 (pc := 99) d_MM_work_99 ?_
            refine z_iload C (pc := 102) d_MM_work_102 0 rfl ?_
            refine z_iconst C (pc := 104) d_MM_work_104 ?_
            refine z_isub C (pc := 105) d_MM_work_105 ?_
            refine z_iconst C (pc := 106) d_MM_work_106 ?_
            refine z_aload_n C (pc := 107) d_MM_work_107 2 rfl ?_
            refine m_getA C 50 (by decide) rfl wd_754 (pc := 108) d_MM_work_108 ?_
            refine z_iload C (pc := 111) d_MM_work_111 0 rfl ?_
            refine z_iconst C (pc := 113) d_MM_work_113 ?_
            refine z_isub C (pc := 114) d_MM_work_114 ?_
            obtain ⟨hc9, hc10, h⟩ := h
            refine m_iald C 50 150 8 rfl rfl (by decide) hc9 hc10 (pc := 115) d_MM_work_115 ?_
            refine z_aload_n C (pc := 116) d_MM_work_116 2 rfl ?_
            refine m_getA C 50 (by decide) rfl wd_754 (pc := 117) d_MM_work_117 ?_
            refine z_iload C (pc := 120) d_MM_work_120 0 rfl ?_
            obtain ⟨hc11, hc12, h⟩ := h
            refine m_iald C 50 150 8 rfl rfl (by decide) hc11 hc12 (pc := 122) d_MM_work_122 ?_
            refine z_iand C (pc := 123) d_MM_work_123 ?_
            refine z_isub C (pc := 124) d_MM_work_124 ?_
            refine m_iast C 50 150 8 rfl rfl (by decide) hc9 hc10 (pc := 125) d_MM_work_125 ?_
            refine zN h (fun σ15 eσ15 h => ?_)
            refine z_iinc (L' := [(5, .int (zi (v5 + (-1)))), (4, .int (zi (v4 + (-1)))), (6, .int (zi y8)), (0, .ref (ad (0, 3))), (1, .int (zi v1)), (2, .int (zi v2)), (3, .int (zi v3))]) C (pc := 126) d_MM_work_126 6 rfl (by decide) rfl ?_
            refine z_goto (tgt := 13) C (pc := 129) d_MM_work_129 (by decide) ?_
            refine z_sub [3, 4, 5, 6, 1, 0] rfl ?_
            exact ih _ _ _ _ _ _ h
        · refine z_aload_n C (pc := 66) d_MM_work_66 1 rfl ?_
          refine m_getA C 50 (by decide) rfl wd_754 (pc := 67) d_MM_work_67 ?_
          refine z_iload C (pc := 70) d_MM_work_70 5 rfl ?_
          refine z_iconst C (pc := 72) d_MM_work_72 ?_
          refine z_isub C (pc := 73) d_MM_work_73 ?_
          refine z_iconst C (pc := 74) d_MM_work_74 ?_
          refine z_aload_n C (pc := 75) d_MM_work_75 1 rfl ?_
          refine m_getA C 50 (by decide) rfl wd_754 (pc := 76) d_MM_work_76 ?_
          refine z_iload C (pc := 79) d_MM_work_79 5 rfl ?_
          refine z_iconst C (pc := 81) d_MM_work_81 ?_
          refine z_isub C (pc := 82) d_MM_work_82 ?_
          obtain ⟨hc16, hc17, h⟩ := h
          refine m_iald C 50 150 8 rfl rfl (by decide) hc16 hc17 (pc := 83) d_MM_work_83 ?_
          refine z_isub C (pc := 84) d_MM_work_84 ?_
          refine m_iast C 50 150 8 rfl rfl (by decide) hc16 hc17 (pc := 85) d_MM_work_85 ?_
          refine zN h (fun σ20 eσ20 h => ?_)
          refine z_goto (tgt := 126) C (pc := 86) d_MM_work_86 (by decide) ?_
          refine z_iinc (L' := [(5, .int (zi (v5 + (-1)))), (6, .int (zi y8)), (0, .ref (ad (0, 3))), (1, .int (zi v1)), (2, .int (zi v2)), (3, .int (zi v3)), (4, .int (zi v4))]) C (pc := 126) d_MM_work_126 6 rfl (by decide) rfl ?_
          refine z_goto (tgt := 13) C (pc := 129) d_MM_work_129 (by decide) ?_
          refine z_sub [2, 3, 4, 5, 6, 0] rfl ?_
          exact ih _ _ _ _ _ _ h
      · refine z_iinc (L' := [(3, .int (zi (v3 + (-1)))), (6, .int (zi y8)), (0, .ref (ad (0, 3))), (1, .int (zi v1)), (2, .int (zi v2)), (4, .int (zi v4)), (5, .int (zi v5))]) C (pc := 39) d_MM_work_39 4 rfl (by decide) rfl ?_
        refine z_aload_n C (pc := 42) d_MM_work_42 2 rfl ?_
        refine m_getA C 50 (by decide) rfl wd_754 (pc := 43) d_MM_work_43 ?_
        refine z_iload C (pc := 46) d_MM_work_46 5 rfl ?_
        refine z_iload_n C (pc := 48) d_MM_work_48 4 rfl ?_
        refine z_iload_n C (pc := 49) d_MM_work_49 0 rfl ?_
        refine z_ishr C (pc := 50) d_MM_work_50 ?_
        refine z_iconst C (pc := 51) d_MM_work_51 ?_
        refine z_iand C (pc := 52) d_MM_work_52 ?_
        obtain ⟨hc21, hc22, h⟩ := h
        refine m_iast C 50 150 8 rfl rfl (by decide) hc21 hc22 (pc := 53) d_MM_work_53 ?_
        refine zN h (fun σ23 eσ23 h => ?_)
        refine z_iinc (L' := [(4, .int (zi (v4 + 1))), (3, .int (zi (v3 + (-1)))), (6, .int (zi y8)), (0, .ref (ad (0, 3))), (1, .int (zi v1)), (2, .int (zi v2)), (5, .int (zi v5))]) C (pc := 54) d_MM_work_54 5 rfl (by decide) rfl ?_
        refine z_goto (tgt := 126) C (pc := 57) d_MM_work_57 (by decide) ?_
        refine z_iinc (L' := [(5, .int (zi (v5 + (-1)))), (4, .int (zi (v4 + 1))), (3, .int (zi (v3 + (-1)))), (6, .int (zi y8)), (0, .ref (ad (0, 3))), (1, .int (zi v1)), (2, .int (zi v2))]) C (pc := 126) d_MM_work_126 6 rfl (by decide) rfl ?_
        refine z_goto (tgt := 13) C (pc := 129) d_MM_work_129 (by decide) ?_
        refine z_sub [4, 5, 6, 2, 1, 0] rfl ?_
        exact ih _ _ _ _ _ _ h
set_option maxHeartbeats 4000000 in
set_option maxRecDepth 100000 in
theorem c_MM_work (l : Launch) (D : va_G) (g : zG) (ad : zA) (v1 : Int) (v2 : Int) (Q : Int → zS → Prop) (σ : zS) (h : wp_MM_work Q v1 v2 σ) : zMi l y_MM_work b_MM_work 7 (some .int) { frames := 1, cells := 0, slots := 0, locals := 23 } D g ad σ [.ref (ad (0, 3)), .int (zi v1), .int (zi v2)] Q := by
  unfold wp_MM_work at h
  refine zM_of (by decide) (Nat.le_of_ble_eq_true rfl) (fun E C R hl => ?_)
  have C : zX E b_MM_work R_MM D g { frames := 1, cells := 0, slots := 0, locals := 23 } 7 := C
  refine z_sub (L' := [(0, .ref (ad (0, 3))), (1, .int (zi v1)), (2, .int (zi v2))]) [0, 1, 2] rfl ?_
  refine z_aload_n C (pc := 0) d_MM_work_0 0 rfl ?_
  refine z_iload_n C (pc := 1) d_MM_work_1 1 rfl ?_
  refine m_calli (As := [.int (zi v1)]) C fy_MM_pinsOf rfl wd_1026 (pc := 2) d_MM_work_2 ⟨rfl, rfl, Nat.le_of_ble_eq_true rfl, Nat.le_of_ble_eq_true rfl⟩ rfl rfl (Nat.le_of_ble_eq_true rfl) h (c_MM_pinsOf (zln E) D g ad _ _ _) (fun r2 σ1 h => ?_)
  refine z_istore_n (L' := [(3, .int (zi r2)), (0, .ref (ad (0, 3))), (1, .int (zi v1)), (2, .int (zi v2))]) C (pc := 5) d_MM_work_5 (by decide) rfl ?_
  refine z_iconst C (pc := 6) d_MM_work_6 ?_
  refine z_istore (L' := [(4, .int (zi 0)), (3, .int (zi r2)), (0, .ref (ad (0, 3))), (1, .int (zi v1)), (2, .int (zi v2))]) C (pc := 7) d_MM_work_7 (by decide) rfl ?_
  refine z_bipush C (pc := 9) d_MM_work_9 (by decide) ?_
  refine z_istore (L' := [(5, .int (zi 6)), (4, .int (zi 0)), (3, .int (zi r2)), (0, .ref (ad (0, 3))), (1, .int (zi v1)), (2, .int (zi v2))]) C (pc := 11) d_MM_work_11 (by decide) rfl ?_
  refine z_sub [3, 4, 5, 2, 1, 0] rfl ?_
  obtain ⟨n24, h⟩ := h
  exact wk_MM_work_13 C R n24 _ _ _ _ _ _ h
theorem d_MM_give_0 : decode b_MM_give 0 = .ok (.iconst 0, 1) := by decide +kernel
theorem d_MM_give_1 : decode b_MM_give 1 = .ok (.istore_n 2, 1) := by decide +kernel
theorem d_MM_give_2 : decode b_MM_give 2 = .ok (.iconst 1, 1) := by decide +kernel
theorem d_MM_give_3 : decode b_MM_give 3 = .ok (.istore_n 3, 1) := by decide +kernel
theorem d_MM_give_4 : decode b_MM_give 4 = .ok (.iload_n 3, 1) := by decide +kernel
theorem d_MM_give_5 : decode b_MM_give 5 = .ok (.ifCond .eq 158, 3) := by decide +kernel
theorem d_MM_give_8 : decode b_MM_give 8 = .ok (.aload_n 0, 1) := by decide +kernel
theorem d_MM_give_9 : decode b_MM_give 9 = .ok (.getfield 123, 3) := by decide +kernel
theorem d_MM_give_12 : decode b_MM_give 12 = .ok (.iload_n 1, 1) := by decide +kernel
theorem d_MM_give_13 : decode b_MM_give 13 = .ok (.iaload, 1) := by decide +kernel
theorem d_MM_give_14 : decode b_MM_give 14 = .ok (.aload_n 0, 1) := by decide +kernel
theorem d_MM_give_15 : decode b_MM_give 15 = .ok (.getfield 117, 3) := by decide +kernel
theorem d_MM_give_18 : decode b_MM_give 18 = .ok (.iload_n 1, 1) := by decide +kernel
theorem d_MM_give_19 : decode b_MM_give 19 = .ok (.iaload, 1) := by decide +kernel
theorem d_MM_give_20 : decode b_MM_give 20 = .ok (.if_icmp .ge 143, 3) := by decide +kernel
theorem d_MM_give_23 : decode b_MM_give 23 = .ok (.aload_n 0, 1) := by decide +kernel
theorem d_MM_give_24 : decode b_MM_give 24 = .ok (.aload_n 0, 1) := by decide +kernel
theorem d_MM_give_25 : decode b_MM_give 25 = .ok (.getfield 77, 3) := by decide +kernel
theorem d_MM_give_28 : decode b_MM_give 28 = .ok (.iload_n 1, 1) := by decide +kernel
theorem d_MM_give_29 : decode b_MM_give 29 = .ok (.iaload, 1) := by decide +kernel
theorem d_MM_give_30 : decode b_MM_give 30 = .ok (.invokevirtual 249, 3) := by decide +kernel
theorem d_MM_give_33 : decode b_MM_give 33 = .ok (.istore 4, 2) := by decide +kernel
theorem d_MM_give_35 : decode b_MM_give 35 = .ok (.iconst 0, 1) := by decide +kernel
theorem d_MM_give_36 : decode b_MM_give 36 = .ok (.istore 5, 2) := by decide +kernel
theorem d_MM_give_38 : decode b_MM_give 38 = .ok (.iconst 0, 1) := by decide +kernel
theorem d_MM_give_39 : decode b_MM_give 39 = .ok (.istore 6, 2) := by decide +kernel
theorem d_MM_give_41 : decode b_MM_give 41 = .ok (.iload 6, 2) := by decide +kernel
theorem d_MM_give_43 : decode b_MM_give 43 = .ok (.iload 4, 2) := by decide +kernel
theorem d_MM_give_45 : decode b_MM_give 45 = .ok (.if_icmp .ge 71, 3) := by decide +kernel
theorem d_MM_give_48 : decode b_MM_give 48 = .ok (.iload_n 3, 1) := by decide +kernel
theorem d_MM_give_49 : decode b_MM_give 49 = .ok (.ifCond .eq 26, 3) := by decide +kernel
theorem d_MM_give_52 : decode b_MM_give 52 = .ok (.aload_n 0, 1) := by decide +kernel
theorem d_MM_give_53 : decode b_MM_give 53 = .ok (.iconst 4, 1) := by decide +kernel
theorem d_MM_give_54 : decode b_MM_give 54 = .ok (.iload_n 1, 1) := by decide +kernel
theorem d_MM_give_55 : decode b_MM_give 55 = .ok (.imul, 1) := by decide +kernel
theorem d_MM_give_56 : decode b_MM_give 56 = .ok (.iload 6, 2) := by decide +kernel
theorem d_MM_give_58 : decode b_MM_give 58 = .ok (.iadd, 1) := by decide +kernel
theorem d_MM_give_59 : decode b_MM_give 59 = .ok (.aload_n 0, 1) := by decide +kernel
theorem d_MM_give_60 : decode b_MM_give 60 = .ok (.getfield 123, 3) := by decide +kernel
theorem d_MM_give_63 : decode b_MM_give 63 = .ok (.iload_n 1, 1) := by decide +kernel
theorem d_MM_give_64 : decode b_MM_give 64 = .ok (.iaload, 1) := by decide +kernel
theorem d_MM_give_65 : decode b_MM_give 65 = .ok (.invokevirtual 252, 3) := by decide +kernel
theorem d_MM_give_68 : decode b_MM_give 68 = .ok (.ifCond .eq 7, 3) := by decide +kernel
theorem d_MM_give_71 : decode b_MM_give 71 = .ok (.iconst 1, 1) := by decide +kernel
theorem d_MM_give_72 : decode b_MM_give 72 = .ok (.goto 4, 3) := by decide +kernel
theorem d_MM_give_75 : decode b_MM_give 75 = .ok (.iconst 0, 1) := by decide +kernel
theorem d_MM_give_76 : decode b_MM_give 76 = .ok (.istore_n 3, 1) := by decide +kernel
theorem d_MM_give_77 : decode b_MM_give 77 = .ok (.iload_n 3, 1) := by decide +kernel
theorem d_MM_give_78 : decode b_MM_give 78 = .ok (.ifCond .eq 28, 3) := by decide +kernel
theorem d_MM_give_81 : decode b_MM_give 81 = .ok (.iload 5, 2) := by decide +kernel
theorem d_MM_give_83 : decode b_MM_give 83 = .ok (.aload_n 0, 1) := by decide +kernel
theorem d_MM_give_84 : decode b_MM_give 84 = .ok (.iconst 4, 1) := by decide +kernel
theorem d_MM_give_85 : decode b_MM_give 85 = .ok (.iload_n 1, 1) := by decide +kernel
theorem d_MM_give_86 : decode b_MM_give 86 = .ok (.imul, 1) := by decide +kernel
theorem d_MM_give_87 : decode b_MM_give 87 = .ok (.iload 6, 2) := by decide +kernel
theorem d_MM_give_89 : decode b_MM_give 89 = .ok (.iadd, 1) := by decide +kernel
theorem d_MM_give_90 : decode b_MM_give 90 = .ok (.aload_n 0, 1) := by decide +kernel
theorem d_MM_give_91 : decode b_MM_give 91 = .ok (.getfield 123, 3) := by decide +kernel
theorem d_MM_give_94 : decode b_MM_give 94 = .ok (.iload_n 1, 1) := by decide +kernel
theorem d_MM_give_95 : decode b_MM_give 95 = .ok (.iaload, 1) := by decide +kernel
theorem d_MM_give_96 : decode b_MM_give 96 = .ok (.invokevirtual 256, 3) := by decide +kernel
theorem d_MM_give_99 : decode b_MM_give 99 = .ok (.iload 6, 2) := by decide +kernel
theorem d_MM_give_101 : decode b_MM_give 101 = .ok (.ishl, 1) := by decide +kernel
theorem d_MM_give_102 : decode b_MM_give 102 = .ok (.ior, 1) := by decide +kernel
theorem d_MM_give_103 : decode b_MM_give 103 = .ok (.goto 5, 3) := by decide +kernel
theorem d_MM_give_106 : decode b_MM_give 106 = .ok (.iload 5, 2) := by decide +kernel
theorem d_MM_give_108 : decode b_MM_give 108 = .ok (.istore 5, 2) := by decide +kernel
theorem d_MM_give_110 : decode b_MM_give 110 = .ok (.iinc 6 1, 3) := by decide +kernel
theorem d_MM_give_113 : decode b_MM_give 113 = .ok (.goto (-72), 3) := by decide +kernel
theorem d_MM_give_116 : decode b_MM_give 116 = .ok (.iload_n 3, 1) := by decide +kernel
theorem d_MM_give_117 : decode b_MM_give 117 = .ok (.ifCond .eq 43, 3) := by decide +kernel
theorem d_MM_give_120 : decode b_MM_give 120 = .ok (.aload_n 0, 1) := by decide +kernel
theorem d_MM_give_121 : decode b_MM_give 121 = .ok (.getfield 120, 3) := by decide +kernel
theorem d_MM_give_124 : decode b_MM_give 124 = .ok (.bipush 48, 2) := by decide +kernel
theorem d_MM_give_126 : decode b_MM_give 126 = .ok (.iload_n 1, 1) := by decide +kernel
theorem d_MM_give_127 : decode b_MM_give 127 = .ok (.imul, 1) := by decide +kernel
theorem d_MM_give_128 : decode b_MM_give 128 = .ok (.aload_n 0, 1) := by decide +kernel
theorem d_MM_give_129 : decode b_MM_give 129 = .ok (.getfield 123, 3) := by decide +kernel
theorem d_MM_give_132 : decode b_MM_give 132 = .ok (.iload_n 1, 1) := by decide +kernel
theorem d_MM_give_133 : decode b_MM_give 133 = .ok (.iaload, 1) := by decide +kernel
theorem d_MM_give_134 : decode b_MM_give 134 = .ok (.iadd, 1) := by decide +kernel
theorem d_MM_give_135 : decode b_MM_give 135 = .ok (.aload_n 0, 1) := by decide +kernel
theorem d_MM_give_136 : decode b_MM_give 136 = .ok (.aload_n 0, 1) := by decide +kernel
theorem d_MM_give_137 : decode b_MM_give 137 = .ok (.getfield 77, 3) := by decide +kernel
theorem d_MM_give_140 : decode b_MM_give 140 = .ok (.iload_n 1, 1) := by decide +kernel
theorem d_MM_give_141 : decode b_MM_give 141 = .ok (.iaload, 1) := by decide +kernel
theorem d_MM_give_142 : decode b_MM_give 142 = .ok (.iload 5, 2) := by decide +kernel
theorem d_MM_give_144 : decode b_MM_give 144 = .ok (.invokevirtual 259, 3) := by decide +kernel
theorem d_MM_give_147 : decode b_MM_give 147 = .ok (.iastore, 1) := by decide +kernel
theorem d_MM_give_148 : decode b_MM_give 148 = .ok (.aload_n 0, 1) := by decide +kernel
theorem d_MM_give_149 : decode b_MM_give 149 = .ok (.getfield 123, 3) := by decide +kernel
theorem d_MM_give_152 : decode b_MM_give 152 = .ok (.iload_n 1, 1) := by decide +kernel
theorem d_MM_give_153 : decode b_MM_give 153 = .ok (.dup2, 1) := by decide +kernel
theorem d_MM_give_154 : decode b_MM_give 154 = .ok (.iaload, 1) := by decide +kernel
theorem d_MM_give_155 : decode b_MM_give 155 = .ok (.iconst 1, 1) := by decide +kernel
theorem d_MM_give_156 : decode b_MM_give 156 = .ok (.iadd, 1) := by decide +kernel
theorem d_MM_give_157 : decode b_MM_give 157 = .ok (.iastore, 1) := by decide +kernel
theorem d_MM_give_158 : decode b_MM_give 158 = .ok (.iconst 1, 1) := by decide +kernel
theorem d_MM_give_159 : decode b_MM_give 159 = .ok (.istore_n 2, 1) := by decide +kernel
theorem d_MM_give_160 : decode b_MM_give 160 = .ok (.goto (-156), 3) := by decide +kernel
theorem d_MM_give_163 : decode b_MM_give 163 = .ok (.iload_n 2, 1) := by decide +kernel
theorem d_MM_give_164 : decode b_MM_give 164 = .ok (.ireturn, 1) := by decide +kernel
def bk_MM_give_108 (Q : Int → zS → Prop) (J4 : Int → Int → Int → zS → Prop) (J41 : Int → Int → Int → Int → Int → Int → zS → Prop) (v1 : Int) (v2 : Int) (v3 : Int) (v4 : Int) (v6 : Int) (z0 : Int) (σ : zS) : Prop :=
  J41 v1 v2 v3 v4 z0 (v6 + 1) σ
def bk_MM_give_76 (Q : Int → zS → Prop) (J4 : Int → Int → Int → zS → Prop) (J41 : Int → Int → Int → Int → Int → Int → zS → Prop) (v1 : Int) (v2 : Int) (v4 : Int) (v5 : Int) (v6 : Int) (z0 : Int) (σ : zS) : Prop :=
  zc z0 ∧ ((z0 = 0 →
    bk_MM_give_108 Q J4 J41 v1 v2 z0 v4 v6 v5 σ) ∧
   (¬ z0 = 0 →
    0 ≤ v1 ∧ v1 < 48 ∧ 
    wp_MM_comes (fun r34 σ33 =>
      bk_MM_give_108 Q J4 J41 v1 v2 z0 v4 v6 (zor v5 (zshl r34 v6)) σ33) ((4 * v1) + v6) (σ 147 v1) σ))
def bk_MM_give_75 (Q : Int → zS → Prop) (J4 : Int → Int → Int → zS → Prop) (J41 : Int → Int → Int → Int → Int → Int → zS → Prop) (v1 : Int) (v2 : Int) (v4 : Int) (v5 : Int) (v6 : Int) (σ : zS) : Prop :=
  bk_MM_give_76 Q J4 J41 v1 v2 v4 v5 v6 0 σ
def lp_MM_give_41 (Q : Int → zS → Prop) (J4 : Int → Int → Int → zS → Prop) : Nat → Int → Int → Int → Int → Int → Int → zS → Prop
  | 0 => fun _ _ _ _ _ _ _ => False
  | n + 1 => fun v1 v2 v3 v4 v5 v6 σ =>
    zc v6 ∧ zc v4 ∧ ((v4 ≤ v6 →
      zc v3 ∧ ((v3 = 0 →
        J4 v1 v2 v3 σ) ∧
       (¬ v3 = 0 →
        0 ≤ v1 ∧ v1 < 48 ∧ 
        wp_MM_work (fun r20 σ19 =>
          0 ≤ (48 * v1) + (σ 147 v1) ∧ (48 * v1) + (σ 147 v1) < 2304 ∧ ∀ σ23, σ23 = zup σ19 146 ((48 * v1) + (σ 147 v1)) r20 →
          ∀ σ28, σ28 = zup σ23 147 v1 ((σ23 147 v1) + 1) →
          J4 v1 1 v3 σ28) (σ 129 v1) v5 σ))) ∧
     (¬ v4 ≤ v6 →
      zc v3 ∧ ((v3 = 0 →
        bk_MM_give_75 Q J4 (lp_MM_give_41 Q J4 n) v1 v2 v4 v5 v6 σ) ∧
       (¬ v3 = 0 →
        0 ≤ v1 ∧ v1 < 48 ∧ 
        wp_MM_told (fun r38 σ37 =>
          zc r38 ∧ ((r38 = 0 →
            bk_MM_give_75 Q J4 (lp_MM_give_41 Q J4 n) v1 v2 v4 v5 v6 σ37) ∧
           (¬ r38 = 0 →
            bk_MM_give_76 Q J4 (lp_MM_give_41 Q J4 n) v1 v2 v4 v5 v6 1 σ37))) ((4 * v1) + v6) (σ 147 v1) σ))))
def lp_MM_give_4 (Q : Int → zS → Prop) : Nat → Int → Int → Int → zS → Prop
  | 0 => fun _ _ _ _ => False
  | n + 1 => fun v1 v2 v3 σ =>
    zc v3 ∧ ((v3 = 0 →
      (v2 = 0 ∨ v2 = 1) ∧ Q v2 σ) ∧
     (¬ v3 = 0 →
      0 ≤ v1 ∧ v1 < 48 ∧ 
      zc (σ 147 v1) ∧ zc (σ 143 v1) ∧ ((σ 143 v1 ≤ σ 147 v1 →
        (v2 = 0 ∨ v2 = 1) ∧ Q v2 σ) ∧
       (¬ σ 143 v1 ≤ σ 147 v1 →
        wp_MM_pinsOf (fun r11 σ10 =>
          ∃ u41, lp_MM_give_41 Q (lp_MM_give_4 Q n) u41 v1 v2 v3 r11 0 0 σ10) (σ 129 v1) σ))))
def wp_MM_give (Q : Int → zS → Prop) (v1 : Int) (σ : zS) : Prop :=
  ∃ u4, lp_MM_give_4 Q u4 v1 0 1 σ
set_option maxHeartbeats 4000000 in
set_option maxRecDepth 100000 in
theorem wk_MM_give_108 {E : zE} {D : va_G} {g : zG} {A : Nat → Prop} {ad : zA} {Q : Int → zS → Prop} {J4 : Int → Int → Int → zS → Prop} {J41 : Int → Int → Int → Int → Int → Int → zS → Prop} (C : zX E b_MM_give R_MM D g { frames := 2, cells := 0, slots := 0, locals := 49 } 7) (R : zRt E (some .boolean) (zQi D g ad Q A) 0 0 A) (hJ4 : ∀ (v1 : Int) (v2 : Int) (v3 : Int) (σ : zS), J4 v1 v2 v3 σ → zW E (zOK D A (zst E) g ad) 0 0 4 [(0, .ref (ad (0, 3))), (1, .int (zi v1)), (2, .int (zi v2)), (3, .int (zi v3))] [] σ) (hJ41 : ∀ (v1 : Int) (v2 : Int) (v3 : Int) (v4 : Int) (v5 : Int) (v6 : Int) (σ : zS), J41 v1 v2 v3 v4 v5 v6 σ → zW E (zOK D A (zst E) g ad) 0 0 41 [(0, .ref (ad (0, 3))), (1, .int (zi v1)), (2, .int (zi v2)), (3, .int (zi v3)), (4, .int (zi v4)), (5, .int (zi v5)), (6, .int (zi v6))] [] σ) (v1 : Int) (v2 : Int) (v3 : Int) (v4 : Int) (v6 : Int) (z0 : Int) (σ : zS) (h : bk_MM_give_108 Q J4 J41 v1 v2 v3 v4 v6 z0 σ) : zW E (zOK D A (zst E) g ad) 0 0 108 [(0, .ref (ad (0, 3))), (1, .int (zi v1)), (2, .int (zi v2)), (3, .int (zi v3)), (4, .int (zi v4)), (6, .int (zi v6))] [.int (zi z0)] σ := by
  unfold bk_MM_give_108 at h
  refine z_istore (L' := [(5, .int (zi z0)), (0, .ref (ad (0, 3))), (1, .int (zi v1)), (2, .int (zi v2)), (3, .int (zi v3)), (4, .int (zi v4)), (6, .int (zi v6))]) C (pc := 108) d_MM_give_108 (by decide) rfl ?_
  refine z_iinc (L' := [(6, .int (zi (v6 + 1))), (5, .int (zi z0)), (0, .ref (ad (0, 3))), (1, .int (zi v1)), (2, .int (zi v2)), (3, .int (zi v3)), (4, .int (zi v4))]) C (pc := 110) d_MM_give_110 6 rfl (by decide) rfl ?_
  refine z_goto (tgt := 41) C (pc := 113) d_MM_give_113 (by decide) ?_
  refine z_sub [2, 3, 4, 5, 6, 1, 0] rfl ?_
  exact hJ41 _ _ _ _ _ _ _ h
set_option maxHeartbeats 4000000 in
set_option maxRecDepth 100000 in
theorem wk_MM_give_76 {E : zE} {D : va_G} {g : zG} {A : Nat → Prop} {ad : zA} {Q : Int → zS → Prop} {J4 : Int → Int → Int → zS → Prop} {J41 : Int → Int → Int → Int → Int → Int → zS → Prop} (C : zX E b_MM_give R_MM D g { frames := 2, cells := 0, slots := 0, locals := 49 } 7) (R : zRt E (some .boolean) (zQi D g ad Q A) 0 0 A) (hJ4 : ∀ (v1 : Int) (v2 : Int) (v3 : Int) (σ : zS), J4 v1 v2 v3 σ → zW E (zOK D A (zst E) g ad) 0 0 4 [(0, .ref (ad (0, 3))), (1, .int (zi v1)), (2, .int (zi v2)), (3, .int (zi v3))] [] σ) (hJ41 : ∀ (v1 : Int) (v2 : Int) (v3 : Int) (v4 : Int) (v5 : Int) (v6 : Int) (σ : zS), J41 v1 v2 v3 v4 v5 v6 σ → zW E (zOK D A (zst E) g ad) 0 0 41 [(0, .ref (ad (0, 3))), (1, .int (zi v1)), (2, .int (zi v2)), (3, .int (zi v3)), (4, .int (zi v4)), (5, .int (zi v5)), (6, .int (zi v6))] [] σ) (v1 : Int) (v2 : Int) (v4 : Int) (v5 : Int) (v6 : Int) (z0 : Int) (σ : zS) (h : bk_MM_give_76 Q J4 J41 v1 v2 v4 v5 v6 z0 σ) : zW E (zOK D A (zst E) g ad) 0 0 76 [(0, .ref (ad (0, 3))), (1, .int (zi v1)), (2, .int (zi v2)), (4, .int (zi v4)), (5, .int (zi v5)), (6, .int (zi v6))] [.int (zi z0)] σ := by
  unfold bk_MM_give_76 at h
  refine z_istore_n (L' := [(3, .int (zi z0)), (0, .ref (ad (0, 3))), (1, .int (zi v1)), (2, .int (zi v2)), (4, .int (zi v4)), (5, .int (zi v5)), (6, .int (zi v6))]) C (pc := 76) d_MM_give_76 (by decide) rfl ?_
  refine z_iload_n C (pc := 77) d_MM_give_77 0 rfl ?_
  obtain ⟨hc30, h⟩ := h
  refine z_if_eq (tgt := 106) C (pc := 78) d_MM_give_78 (by decide) hc30 h (fun h => ?_) (fun h => ?_)
  · refine z_iload C (pc := 106) d_MM_give_106 5 rfl ?_
    refine z_sub [1, 2, 3, 0, 4, 6] rfl ?_
    exact wk_MM_give_108 C R hJ4 hJ41 _ _ _ _ _ _ _ h
  · refine z_iload C (pc := 81) d_MM_give_81 5 rfl ?_
    refine z_aload_n C (pc := 83) d_MM_give_83 1 rfl ?_
    refine z_iconst C (pc := 84) d_MM_give_84 ?_
    refine z_iload_n C (pc := 85) d_MM_give_85 2 rfl ?_
    refine z_imul C (pc := 86) d_MM_give_86 ?_
    refine z_iload C (pc := 87) d_MM_give_87 6 rfl ?_
    refine z_iadd C (pc := 89) d_MM_give_89 ?_
    refine z_aload_n C (pc := 90) d_MM_give_90 1 rfl ?_
    refine m_getA C 47 (by decide) rfl wd_751 (pc := 91) d_MM_give_91 ?_
    refine z_iload_n C (pc := 94) d_MM_give_94 2 rfl ?_
    obtain ⟨hc31, hc32, h⟩ := h
    refine m_iald C 47 147 48 rfl rfl (by decide) hc31 hc32 (pc := 95) d_MM_give_95 ?_
    refine m_calli (As := [.int (zi ((4 * v1) + v6)), .int (zi (σ 147 v1))]) C fy_MM_comes rfl wd_1034 (pc := 96) d_MM_give_96 ⟨rfl, rfl, Nat.le_of_ble_eq_true rfl, Nat.le_of_ble_eq_true rfl⟩ rfl rfl (Nat.le_of_ble_eq_true rfl) h (c_MM_comes (zln E) D g ad _ _ _ _) (fun r34 σ33 h => ?_)
    refine z_iload C (pc := 99) d_MM_give_99 6 rfl ?_
    refine z_ishl C (pc := 101) d_MM_give_101 ?_
    refine z_ior C (pc := 102) d_MM_give_102 ?_
    refine z_goto (tgt := 108) C (pc := 103) d_MM_give_103 (by decide) ?_
    refine z_sub [1, 2, 3, 0, 4, 6] rfl ?_
    exact wk_MM_give_108 C R hJ4 hJ41 _ _ _ _ _ _ _ h
set_option maxHeartbeats 4000000 in
set_option maxRecDepth 100000 in
theorem wk_MM_give_75 {E : zE} {D : va_G} {g : zG} {A : Nat → Prop} {ad : zA} {Q : Int → zS → Prop} {J4 : Int → Int → Int → zS → Prop} {J41 : Int → Int → Int → Int → Int → Int → zS → Prop} (C : zX E b_MM_give R_MM D g { frames := 2, cells := 0, slots := 0, locals := 49 } 7) (R : zRt E (some .boolean) (zQi D g ad Q A) 0 0 A) (hJ4 : ∀ (v1 : Int) (v2 : Int) (v3 : Int) (σ : zS), J4 v1 v2 v3 σ → zW E (zOK D A (zst E) g ad) 0 0 4 [(0, .ref (ad (0, 3))), (1, .int (zi v1)), (2, .int (zi v2)), (3, .int (zi v3))] [] σ) (hJ41 : ∀ (v1 : Int) (v2 : Int) (v3 : Int) (v4 : Int) (v5 : Int) (v6 : Int) (σ : zS), J41 v1 v2 v3 v4 v5 v6 σ → zW E (zOK D A (zst E) g ad) 0 0 41 [(0, .ref (ad (0, 3))), (1, .int (zi v1)), (2, .int (zi v2)), (3, .int (zi v3)), (4, .int (zi v4)), (5, .int (zi v5)), (6, .int (zi v6))] [] σ) (v1 : Int) (v2 : Int) (v4 : Int) (v5 : Int) (v6 : Int) (σ : zS) (h : bk_MM_give_75 Q J4 J41 v1 v2 v4 v5 v6 σ) : zW E (zOK D A (zst E) g ad) 0 0 75 [(0, .ref (ad (0, 3))), (1, .int (zi v1)), (2, .int (zi v2)), (4, .int (zi v4)), (5, .int (zi v5)), (6, .int (zi v6))] [] σ := by
  unfold bk_MM_give_75 at h
  refine z_iconst C (pc := 75) d_MM_give_75 ?_
  exact wk_MM_give_76 C R hJ4 hJ41 _ _ _ _ _ _ _ h
set_option maxHeartbeats 4000000 in
set_option maxRecDepth 100000 in
theorem wk_MM_give_41 {E : zE} {D : va_G} {g : zG} {A : Nat → Prop} {ad : zA} {Q : Int → zS → Prop} {J4 : Int → Int → Int → zS → Prop} (C : zX E b_MM_give R_MM D g { frames := 2, cells := 0, slots := 0, locals := 49 } 7) (R : zRt E (some .boolean) (zQi D g ad Q A) 0 0 A) (hJ4 : ∀ (v1 : Int) (v2 : Int) (v3 : Int) (σ : zS), J4 v1 v2 v3 σ → zW E (zOK D A (zst E) g ad) 0 0 4 [(0, .ref (ad (0, 3))), (1, .int (zi v1)), (2, .int (zi v2)), (3, .int (zi v3))] [] σ) : ∀ (n : Nat) (v1 : Int) (v2 : Int) (v3 : Int) (v4 : Int) (v5 : Int) (v6 : Int) (σ : zS), lp_MM_give_41 Q J4 n v1 v2 v3 v4 v5 v6 σ → zW E (zOK D A (zst E) g ad) 0 0 41 [(0, .ref (ad (0, 3))), (1, .int (zi v1)), (2, .int (zi v2)), (3, .int (zi v3)), (4, .int (zi v4)), (5, .int (zi v5)), (6, .int (zi v6))] [] σ := by
  intro n
  induction n with
  | zero =>
    intro v1 v2 v3 v4 v5 v6 σ h
    exact h.elim
  | succ n ih =>
    intro v1 v2 v3 v4 v5 v6 σ h
    refine z_iload C (pc := 41) d_MM_give_41 6 rfl ?_
    refine z_iload C (pc := 43) d_MM_give_43 4 rfl ?_
    obtain ⟨hc12, hc13, h⟩ := h
    refine z_icmp_ge (tgt := 116) C (pc := 45) d_MM_give_45 (by decide) hc12 hc13 h (fun h => ?_) (fun h => ?_)
    · refine z_iload_n C (pc := 116) d_MM_give_116 3 rfl ?_
      obtain ⟨hc14, h⟩ := h
      refine z_if_eq (tgt := 160) C (pc := 117) d_MM_give_117 (by decide) hc14 h (fun h => ?_) (fun h => ?_)
      · refine z_goto (tgt := 4) C (pc := 160) d_MM_give_160 (by decide) ?_
        refine z_sub [0, 1, 2, 3] rfl ?_
        exact hJ4 _ _ _ _ h
      · refine z_aload_n C (pc := 120) d_MM_give_120 0 rfl ?_
        refine m_getA C 46 (by decide) rfl wd_750 (pc := 121) d_MM_give_121 ?_
        refine z_bipush C (pc := 124) d_MM_give_124 (by decide) ?_
        refine z_iload_n C (pc := 126) d_MM_give_126 1 rfl ?_
        refine z_imul C (pc := 127) d_MM_give_127 ?_
        refine z_aload_n C (pc := 128) d_MM_give_128 0 rfl ?_
        refine m_getA C 47 (by decide) rfl wd_751 (pc := 129) d_MM_give_129 ?_
        refine z_iload_n C (pc := 132) d_MM_give_132 1 rfl ?_
        obtain ⟨hc15, hc16, h⟩ := h
        refine m_iald C 47 147 48 rfl rfl (by decide) hc15 hc16 (pc := 133) d_MM_give_133 ?_
        refine z_iadd C (pc := 134) d_MM_give_134 ?_
        refine z_aload_n C (pc := 135) d_MM_give_135 0 rfl ?_
        refine z_aload_n C (pc := 136) d_MM_give_136 0 rfl ?_
        refine m_getA C 29 (by decide) rfl wd_733 (pc := 137) d_MM_give_137 ?_
        refine z_iload_n C (pc := 140) d_MM_give_140 1 rfl ?_
        refine m_iald C 29 129 48 rfl rfl (by decide) hc15 hc16 (pc := 141) d_MM_give_141 ?_
        refine z_iload C (pc := 142) d_MM_give_142 5 rfl ?_
        refine m_calli (As := [.int (zi (σ 129 v1)), .int (zi v5)]) C fy_MM_work rfl wd_1038 (pc := 144) d_MM_give_144 ⟨rfl, rfl, Nat.le_of_ble_eq_true rfl, Nat.le_of_ble_eq_true rfl⟩ rfl rfl (Nat.le_of_ble_eq_true rfl) h (c_MM_work (zln E) D g ad _ _ _ _) (fun r20 σ19 h => ?_)
        obtain ⟨hc21, hc22, h⟩ := h
        refine m_iast C 46 146 2304 rfl rfl (by decide) hc21 hc22 (pc := 147) d_MM_give_147 ?_
        refine zN h (fun σ23 eσ23 h => ?_)
        refine z_aload_n C (pc := 148) d_MM_give_148 0 rfl ?_
        refine m_getA C 47 (by decide) rfl wd_751 (pc := 149) d_MM_give_149 ?_
        refine z_iload_n C (pc := 152) d_MM_give_152 1 rfl ?_
        refine z_dup2 C (pc := 153) d_MM_give_153 rfl rfl ?_
        refine m_iald C 47 147 48 rfl rfl (by decide) hc15 hc16 (pc := 154) d_MM_give_154 ?_
        refine z_iconst C (pc := 155) d_MM_give_155 ?_
        refine z_iadd C (pc := 156) d_MM_give_156 ?_
        refine m_iast C 47 147 48 rfl rfl (by decide) hc15 hc16 (pc := 157) d_MM_give_157 ?_
        refine zN h (fun σ28 eσ28 h => ?_)
        refine z_iconst C (pc := 158) d_MM_give_158 ?_
        refine z_istore_n (L' := [(2, .int (zi 1)), (0, .ref (ad (0, 3))), (1, .int (zi v1)), (3, .int (zi v3)), (4, .int (zi v4)), (5, .int (zi v5)), (6, .int (zi v6))]) C (pc := 159) d_MM_give_159 (by decide) rfl ?_
        refine z_goto (tgt := 4) C (pc := 160) d_MM_give_160 (by decide) ?_
        refine z_sub [1, 2, 0, 3] rfl ?_
        exact hJ4 _ _ _ _ h
    · refine z_iload_n C (pc := 48) d_MM_give_48 3 rfl ?_
      obtain ⟨hc29, h⟩ := h
      refine z_if_eq (tgt := 75) C (pc := 49) d_MM_give_49 (by decide) hc29 h (fun h => ?_) (fun h => ?_)
      · refine z_sub [0, 1, 2, 4, 5, 6] rfl ?_
        exact wk_MM_give_75 C R hJ4 ih _ _ _ _ _ _ h
      · refine z_aload_n C (pc := 52) d_MM_give_52 0 rfl ?_
        refine z_iconst C (pc := 53) d_MM_give_53 ?_
        refine z_iload_n C (pc := 54) d_MM_give_54 1 rfl ?_
        refine z_imul C (pc := 55) d_MM_give_55 ?_
        refine z_iload C (pc := 56) d_MM_give_56 6 rfl ?_
        refine z_iadd C (pc := 58) d_MM_give_58 ?_
        refine z_aload_n C (pc := 59) d_MM_give_59 0 rfl ?_
        refine m_getA C 47 (by decide) rfl wd_751 (pc := 60) d_MM_give_60 ?_
        refine z_iload_n C (pc := 63) d_MM_give_63 1 rfl ?_
        obtain ⟨hc35, hc36, h⟩ := h
        refine m_iald C 47 147 48 rfl rfl (by decide) hc35 hc36 (pc := 64) d_MM_give_64 ?_
        refine m_calli (As := [.int (zi ((4 * v1) + v6)), .int (zi (σ 147 v1))]) C fy_MM_told rfl wd_1030 (pc := 65) d_MM_give_65 ⟨rfl, rfl, Nat.le_of_ble_eq_true rfl, Nat.le_of_ble_eq_true rfl⟩ rfl rfl (Nat.le_of_ble_eq_true rfl) h (c_MM_told (zln E) D g ad _ _ _ _) (fun r38 σ37 h => ?_)
        obtain ⟨hc39, h⟩ := h
        refine z_if_eq (tgt := 75) C (pc := 68) d_MM_give_68 (by decide) hc39 h (fun h => ?_) (fun h => ?_)
        · refine z_sub [0, 1, 2, 4, 5, 6] rfl ?_
          exact wk_MM_give_75 C R hJ4 ih _ _ _ _ _ _ h
        · refine z_iconst C (pc := 71) d_MM_give_71 ?_
          refine z_goto (tgt := 76) C (pc := 72) d_MM_give_72 (by decide) ?_
          refine z_sub [0, 1, 2, 4, 5, 6] rfl ?_
          exact wk_MM_give_76 C R hJ4 ih _ _ _ _ _ _ _ h
set_option maxHeartbeats 4000000 in
set_option maxRecDepth 100000 in
theorem wk_MM_give_4 {E : zE} {D : va_G} {g : zG} {A : Nat → Prop} {ad : zA} {Q : Int → zS → Prop} (C : zX E b_MM_give R_MM D g { frames := 2, cells := 0, slots := 0, locals := 49 } 7) (R : zRt E (some .boolean) (zQi D g ad Q A) 0 0 A) : ∀ (n : Nat) (v1 : Int) (v2 : Int) (v3 : Int) (σ : zS), lp_MM_give_4 Q n v1 v2 v3 σ → zW E (zOK D A (zst E) g ad) 0 0 4 [(0, .ref (ad (0, 3))), (1, .int (zi v1)), (2, .int (zi v2)), (3, .int (zi v3))] [] σ := by
  intro n
  induction n with
  | zero =>
    intro v1 v2 v3 σ h
    exact h.elim
  | succ n ih =>
    intro v1 v2 v3 σ h
    refine z_iload_n C (pc := 4) d_MM_give_4 3 rfl ?_
    obtain ⟨hc1, h⟩ := h
    refine z_if_eq (tgt := 163) C (pc := 5) d_MM_give_5 (by decide) hc1 h (fun h => ?_) (fun h => ?_)
    · refine z_iload_n C (pc := 163) d_MM_give_163 2 rfl ?_
      exact z_zret C R (pc := 164) d_MM_give_164 h.1 h.2
    · refine z_aload_n C (pc := 8) d_MM_give_8 0 rfl ?_
      refine m_getA C 47 (by decide) rfl wd_751 (pc := 9) d_MM_give_9 ?_
      refine z_iload_n C (pc := 12) d_MM_give_12 1 rfl ?_
      obtain ⟨hc2, hc3, h⟩ := h
      refine m_iald C 47 147 48 rfl rfl (by decide) hc2 hc3 (pc := 13) d_MM_give_13 ?_
      refine z_aload_n C (pc := 14) d_MM_give_14 0 rfl ?_
      refine m_getA C 43 (by decide) rfl wd_747 (pc := 15) d_MM_give_15 ?_
      refine z_iload_n C (pc := 18) d_MM_give_18 1 rfl ?_
      refine m_iald C 43 143 48 rfl rfl (by decide) hc2 hc3 (pc := 19) d_MM_give_19 ?_
      obtain ⟨hc6, hc7, h⟩ := h
      refine z_icmp_ge (tgt := 163) C (pc := 20) d_MM_give_20 (by decide) hc6 hc7 h (fun h => ?_) (fun h => ?_)
      · refine z_iload_n C (pc := 163) d_MM_give_163 2 rfl ?_
        exact z_zret C R (pc := 164) d_MM_give_164 h.1 h.2
      · refine z_aload_n C (pc := 23) d_MM_give_23 0 rfl ?_
        refine z_aload_n C (pc := 24) d_MM_give_24 0 rfl ?_
        refine m_getA C 29 (by decide) rfl wd_733 (pc := 25) d_MM_give_25 ?_
        refine z_iload_n C (pc := 28) d_MM_give_28 1 rfl ?_
        refine m_iald C 29 129 48 rfl rfl (by decide) hc2 hc3 (pc := 29) d_MM_give_29 ?_
        refine m_calli (As := [.int (zi (σ 129 v1))]) C fy_MM_pinsOf rfl wd_1026 (pc := 30) d_MM_give_30 ⟨rfl, rfl, Nat.le_of_ble_eq_true rfl, Nat.le_of_ble_eq_true rfl⟩ rfl rfl (Nat.le_of_ble_eq_true rfl) h (c_MM_pinsOf (zln E) D g ad _ _ _) (fun r11 σ10 h => ?_)
        refine z_istore (L' := [(4, .int (zi r11)), (0, .ref (ad (0, 3))), (1, .int (zi v1)), (2, .int (zi v2)), (3, .int (zi v3))]) C (pc := 33) d_MM_give_33 (by decide) rfl ?_
        refine z_iconst C (pc := 35) d_MM_give_35 ?_
        refine z_istore (L' := [(5, .int (zi 0)), (4, .int (zi r11)), (0, .ref (ad (0, 3))), (1, .int (zi v1)), (2, .int (zi v2)), (3, .int (zi v3))]) C (pc := 36) d_MM_give_36 (by decide) rfl ?_
        refine z_iconst C (pc := 38) d_MM_give_38 ?_
        refine z_istore (L' := [(6, .int (zi 0)), (5, .int (zi 0)), (4, .int (zi r11)), (0, .ref (ad (0, 3))), (1, .int (zi v1)), (2, .int (zi v2)), (3, .int (zi v3))]) C (pc := 39) d_MM_give_39 (by decide) rfl ?_
        refine z_sub [3, 4, 5, 6, 2, 1, 0] rfl ?_
        obtain ⟨n40, h⟩ := h
        exact wk_MM_give_41 C R ih n40 _ _ _ _ _ _ _ h
set_option maxHeartbeats 4000000 in
set_option maxRecDepth 100000 in
theorem c_MM_give (l : Launch) (D : va_G) (g : zG) (ad : zA) (v1 : Int) (Q : Int → zS → Prop) (σ : zS) (h : wp_MM_give Q v1 σ) : zMi l y_MM_give b_MM_give 7 (some .boolean) { frames := 2, cells := 0, slots := 0, locals := 49 } D g ad σ [.ref (ad (0, 3)), .int (zi v1)] Q := by
  unfold wp_MM_give at h
  refine zM_of (by decide) (Nat.le_of_ble_eq_true rfl) (fun E C R hl => ?_)
  have C : zX E b_MM_give R_MM D g { frames := 2, cells := 0, slots := 0, locals := 49 } 7 := C
  refine z_sub (L' := [(0, .ref (ad (0, 3))), (1, .int (zi v1))]) [0, 1] rfl ?_
  refine z_iconst C (pc := 0) d_MM_give_0 ?_
  refine z_istore_n (L' := [(2, .int (zi 0)), (0, .ref (ad (0, 3))), (1, .int (zi v1))]) C (pc := 1) d_MM_give_1 (by decide) rfl ?_
  refine z_iconst C (pc := 2) d_MM_give_2 ?_
  refine z_istore_n (L' := [(3, .int (zi 1)), (2, .int (zi 0)), (0, .ref (ad (0, 3))), (1, .int (zi v1))]) C (pc := 3) d_MM_give_3 (by decide) rfl ?_
  refine z_sub [2, 3, 1, 0] rfl ?_
  obtain ⟨n41, h⟩ := h
  exact wk_MM_give_4 C R n41 _ _ _ _ h
