theorem d_CX_clockRetimed_0 : decode b_CX_clockRetimed 0 = .ok (.aload_n 0, 1) := by decide +kernel
theorem d_CX_clockRetimed_1 : decode b_CX_clockRetimed 1 = .ok (.getfield 109, 3) := by decide +kernel
theorem d_CX_clockRetimed_4 : decode b_CX_clockRetimed 4 = .ok (.ifCond .ne 6, 3) := by decide +kernel
theorem d_CX_clockRetimed_7 : decode b_CX_clockRetimed 7 = .ok (.bipush (-6), 2) := by decide +kernel
theorem d_CX_clockRetimed_9 : decode b_CX_clockRetimed 9 = .ok (.ireturn, 1) := by decide +kernel
theorem d_CX_clockRetimed_10 : decode b_CX_clockRetimed 10 = .ok (.aload_n 0, 1) := by decide +kernel
theorem d_CX_clockRetimed_11 : decode b_CX_clockRetimed 11 = .ok (.getfield 72, 3) := by decide +kernel
theorem d_CX_clockRetimed_14 : decode b_CX_clockRetimed 14 = .ok (.iload_n 1, 1) := by decide +kernel
theorem d_CX_clockRetimed_15 : decode b_CX_clockRetimed 15 = .ok (.invokestatic 341, 3) := by decide +kernel
theorem d_CX_clockRetimed_18 : decode b_CX_clockRetimed 18 = .ok (.iconst 1, 1) := by decide +kernel
theorem d_CX_clockRetimed_19 : decode b_CX_clockRetimed 19 = .ok (.istore_n 2, 1) := by decide +kernel
theorem d_CX_clockRetimed_20 : decode b_CX_clockRetimed 20 = .ok (.iconst 0, 1) := by decide +kernel
theorem d_CX_clockRetimed_21 : decode b_CX_clockRetimed 21 = .ok (.istore_n 3, 1) := by decide +kernel
theorem d_CX_clockRetimed_22 : decode b_CX_clockRetimed 22 = .ok (.iload_n 2, 1) := by decide +kernel
theorem d_CX_clockRetimed_23 : decode b_CX_clockRetimed 23 = .ok (.ifCond .eq 151, 3) := by decide +kernel
theorem d_CX_clockRetimed_26 : decode b_CX_clockRetimed 26 = .ok (.iload_n 3, 1) := by decide +kernel
theorem d_CX_clockRetimed_27 : decode b_CX_clockRetimed 27 = .ok (.bipush 48, 2) := by decide +kernel
theorem d_CX_clockRetimed_29 : decode b_CX_clockRetimed 29 = .ok (.if_icmp .gt 145, 3) := by decide +kernel
theorem d_CX_clockRetimed_32 : decode b_CX_clockRetimed 32 = .ok (.iconst 0, 1) := by decide +kernel
theorem d_CX_clockRetimed_33 : decode b_CX_clockRetimed 33 = .ok (.istore_n 2, 1) := by decide +kernel
theorem d_CX_clockRetimed_34 : decode b_CX_clockRetimed 34 = .ok (.iconst 0, 1) := by decide +kernel
theorem d_CX_clockRetimed_35 : decode b_CX_clockRetimed 35 = .ok (.istore 4, 2) := by decide +kernel
theorem d_CX_clockRetimed_37 : decode b_CX_clockRetimed 37 = .ok (.iload 4, 2) := by decide +kernel
theorem d_CX_clockRetimed_39 : decode b_CX_clockRetimed 39 = .ok (.aload_n 0, 1) := by decide +kernel
theorem d_CX_clockRetimed_40 : decode b_CX_clockRetimed 40 = .ok (.getfield 65, 3) := by decide +kernel
theorem d_CX_clockRetimed_43 : decode b_CX_clockRetimed 43 = .ok (.invokevirtual 113, 3) := by decide +kernel
theorem d_CX_clockRetimed_46 : decode b_CX_clockRetimed 46 = .ok (.if_icmp .ge 122, 3) := by decide +kernel
theorem d_CX_clockRetimed_49 : decode b_CX_clockRetimed 49 = .ok (.aload_n 0, 1) := by decide +kernel
theorem d_CX_clockRetimed_50 : decode b_CX_clockRetimed 50 = .ok (.getfield 65, 3) := by decide +kernel
theorem d_CX_clockRetimed_53 : decode b_CX_clockRetimed 53 = .ok (.iload 4, 2) := by decide +kernel
theorem d_CX_clockRetimed_55 : decode b_CX_clockRetimed 55 = .ok (.invokevirtual 116, 3) := by decide +kernel
theorem d_CX_clockRetimed_58 : decode b_CX_clockRetimed 58 = .ok (.checkcast 89, 3) := by decide +kernel
theorem d_CX_clockRetimed_61 : decode b_CX_clockRetimed 61 = .ok (.astore 5, 2) := by decide +kernel
theorem d_CX_clockRetimed_63 : decode b_CX_clockRetimed 63 = .ok (.aload 5, 2) := by decide +kernel
theorem d_CX_clockRetimed_65 : decode b_CX_clockRetimed 65 = .ok (.getfield 196, 3) := by decide +kernel
theorem d_CX_clockRetimed_68 : decode b_CX_clockRetimed 68 = .ok (.ifCond .eq 94, 3) := by decide +kernel
theorem d_CX_clockRetimed_71 : decode b_CX_clockRetimed 71 = .ok (.iconst 0, 1) := by decide +kernel
theorem d_CX_clockRetimed_72 : decode b_CX_clockRetimed 72 = .ok (.istore 6, 2) := by decide +kernel
theorem d_CX_clockRetimed_74 : decode b_CX_clockRetimed 74 = .ok (.iconst 0, 1) := by decide +kernel
theorem d_CX_clockRetimed_75 : decode b_CX_clockRetimed 75 = .ok (.istore 7, 2) := by decide +kernel
theorem d_CX_clockRetimed_77 : decode b_CX_clockRetimed 77 = .ok (.iload 7, 2) := by decide +kernel
theorem d_CX_clockRetimed_79 : decode b_CX_clockRetimed 79 = .ok (.aload 5, 2) := by decide +kernel
theorem d_CX_clockRetimed_81 : decode b_CX_clockRetimed 81 = .ok (.getfield 199, 3) := by decide +kernel
theorem d_CX_clockRetimed_84 : decode b_CX_clockRetimed 84 = .ok (.getfield 251, 3) := by decide +kernel
theorem d_CX_clockRetimed_87 : decode b_CX_clockRetimed 87 = .ok (.if_icmp .ge 31, 3) := by decide +kernel
theorem d_CX_clockRetimed_90 : decode b_CX_clockRetimed 90 = .ok (.iload 6, 2) := by decide +kernel
theorem d_CX_clockRetimed_92 : decode b_CX_clockRetimed 92 = .ok (.aload_n 0, 1) := by decide +kernel
theorem d_CX_clockRetimed_93 : decode b_CX_clockRetimed 93 = .ok (.iconst 4, 1) := by decide +kernel
theorem d_CX_clockRetimed_94 : decode b_CX_clockRetimed 94 = .ok (.aload 5, 2) := by decide +kernel
theorem d_CX_clockRetimed_96 : decode b_CX_clockRetimed 96 = .ok (.getfield 175, 3) := by decide +kernel
theorem d_CX_clockRetimed_99 : decode b_CX_clockRetimed 99 = .ok (.imul, 1) := by decide +kernel
theorem d_CX_clockRetimed_100 : decode b_CX_clockRetimed 100 = .ok (.iload 7, 2) := by decide +kernel
theorem d_CX_clockRetimed_102 : decode b_CX_clockRetimed 102 = .ok (.iadd, 1) := by decide +kernel
theorem d_CX_clockRetimed_103 : decode b_CX_clockRetimed 103 = .ok (.invokevirtual 348, 3) := by decide +kernel
theorem d_CX_clockRetimed_106 : decode b_CX_clockRetimed 106 = .ok (.iload 7, 2) := by decide +kernel
theorem d_CX_clockRetimed_108 : decode b_CX_clockRetimed 108 = .ok (.ishl, 1) := by decide +kernel
theorem d_CX_clockRetimed_109 : decode b_CX_clockRetimed 109 = .ok (.ior, 1) := by decide +kernel
theorem d_CX_clockRetimed_110 : decode b_CX_clockRetimed 110 = .ok (.istore 6, 2) := by decide +kernel
theorem d_CX_clockRetimed_112 : decode b_CX_clockRetimed 112 = .ok (.iinc 7 1, 3) := by decide +kernel
theorem d_CX_clockRetimed_115 : decode b_CX_clockRetimed 115 = .ok (.goto (-38), 3) := by decide +kernel
theorem d_CX_clockRetimed_118 : decode b_CX_clockRetimed 118 = .ok (.aload 5, 2) := by decide +kernel
theorem d_CX_clockRetimed_120 : decode b_CX_clockRetimed 120 = .ok (.getfield 199, 3) := by decide +kernel
theorem d_CX_clockRetimed_123 : decode b_CX_clockRetimed 123 = .ok (.getfield 224, 3) := by decide +kernel
theorem d_CX_clockRetimed_126 : decode b_CX_clockRetimed 126 = .ok (.iload 6, 2) := by decide +kernel
theorem d_CX_clockRetimed_128 : decode b_CX_clockRetimed 128 = .ok (.invokeinterface 299 2, 5) := by decide +kernel
theorem d_CX_clockRetimed_133 : decode b_CX_clockRetimed 133 = .ok (.istore 7, 2) := by decide +kernel
theorem d_CX_clockRetimed_135 : decode b_CX_clockRetimed 135 = .ok (.iload_n 2, 1) := by decide +kernel
theorem d_CX_clockRetimed_136 : decode b_CX_clockRetimed 136 = .ok (.ifCond .ne 13, 3) := by decide +kernel
theorem d_CX_clockRetimed_139 : decode b_CX_clockRetimed 139 = .ok (.iload 7, 2) := by decide +kernel
theorem d_CX_clockRetimed_141 : decode b_CX_clockRetimed 141 = .ok (.aload 5, 2) := by decide +kernel
theorem d_CX_clockRetimed_143 : decode b_CX_clockRetimed 143 = .ok (.getfield 339, 3) := by decide +kernel
theorem d_CX_clockRetimed_146 : decode b_CX_clockRetimed 146 = .ok (.if_icmp .eq 7, 3) := by decide +kernel
theorem d_CX_clockRetimed_149 : decode b_CX_clockRetimed 149 = .ok (.iconst 1, 1) := by decide +kernel
theorem d_CX_clockRetimed_150 : decode b_CX_clockRetimed 150 = .ok (.goto 4, 3) := by decide +kernel
theorem d_CX_clockRetimed_153 : decode b_CX_clockRetimed 153 = .ok (.iconst 0, 1) := by decide +kernel
theorem d_CX_clockRetimed_154 : decode b_CX_clockRetimed 154 = .ok (.istore_n 2, 1) := by decide +kernel
theorem d_CX_clockRetimed_155 : decode b_CX_clockRetimed 155 = .ok (.aload 5, 2) := by decide +kernel
theorem d_CX_clockRetimed_157 : decode b_CX_clockRetimed 157 = .ok (.iload 7, 2) := by decide +kernel
theorem d_CX_clockRetimed_159 : decode b_CX_clockRetimed 159 = .ok (.putfield 339, 3) := by decide +kernel
theorem d_CX_clockRetimed_162 : decode b_CX_clockRetimed 162 = .ok (.iinc 4 1, 3) := by decide +kernel
theorem d_CX_clockRetimed_165 : decode b_CX_clockRetimed 165 = .ok (.goto (-128), 3) := by decide +kernel
theorem d_CX_clockRetimed_168 : decode b_CX_clockRetimed 168 = .ok (.iinc 3 1, 3) := by decide +kernel
theorem d_CX_clockRetimed_171 : decode b_CX_clockRetimed 171 = .ok (.goto (-149), 3) := by decide +kernel
theorem d_CX_clockRetimed_174 : decode b_CX_clockRetimed 174 = .ok (.iconst 0, 1) := by decide +kernel
theorem d_CX_clockRetimed_175 : decode b_CX_clockRetimed 175 = .ok (.istore_n 3, 1) := by decide +kernel
theorem d_CX_clockRetimed_176 : decode b_CX_clockRetimed 176 = .ok (.iconst 0, 1) := by decide +kernel
theorem d_CX_clockRetimed_177 : decode b_CX_clockRetimed 177 = .ok (.istore 4, 2) := by decide +kernel
theorem d_CX_clockRetimed_179 : decode b_CX_clockRetimed 179 = .ok (.iload 4, 2) := by decide +kernel
theorem d_CX_clockRetimed_181 : decode b_CX_clockRetimed 181 = .ok (.aload_n 0, 1) := by decide +kernel
theorem d_CX_clockRetimed_182 : decode b_CX_clockRetimed 182 = .ok (.getfield 78, 3) := by decide +kernel
theorem d_CX_clockRetimed_185 : decode b_CX_clockRetimed 185 = .ok (.invokevirtual 113, 3) := by decide +kernel
theorem d_CX_clockRetimed_188 : decode b_CX_clockRetimed 188 = .ok (.if_icmp .ge 25, 3) := by decide +kernel
theorem d_CX_clockRetimed_191 : decode b_CX_clockRetimed 191 = .ok (.iload_n 3, 1) := by decide +kernel
theorem d_CX_clockRetimed_192 : decode b_CX_clockRetimed 192 = .ok (.aload_n 0, 1) := by decide +kernel
theorem d_CX_clockRetimed_193 : decode b_CX_clockRetimed 193 = .ok (.sipush 192, 3) := by decide +kernel
theorem d_CX_clockRetimed_196 : decode b_CX_clockRetimed 196 = .ok (.iload 4, 2) := by decide +kernel
theorem d_CX_clockRetimed_198 : decode b_CX_clockRetimed 198 = .ok (.iadd, 1) := by decide +kernel
theorem d_CX_clockRetimed_199 : decode b_CX_clockRetimed 199 = .ok (.invokevirtual 348, 3) := by decide +kernel
theorem d_CX_clockRetimed_202 : decode b_CX_clockRetimed 202 = .ok (.iload 4, 2) := by decide +kernel
theorem d_CX_clockRetimed_204 : decode b_CX_clockRetimed 204 = .ok (.ishl, 1) := by decide +kernel
theorem d_CX_clockRetimed_205 : decode b_CX_clockRetimed 205 = .ok (.ior, 1) := by decide +kernel
theorem d_CX_clockRetimed_206 : decode b_CX_clockRetimed 206 = .ok (.istore_n 3, 1) := by decide +kernel
theorem d_CX_clockRetimed_207 : decode b_CX_clockRetimed 207 = .ok (.iinc 4 1, 3) := by decide +kernel
theorem d_CX_clockRetimed_210 : decode b_CX_clockRetimed 210 = .ok (.goto (-31), 3) := by decide +kernel
theorem d_CX_clockRetimed_213 : decode b_CX_clockRetimed 213 = .ok (.iconst 0, 1) := by decide +kernel
theorem d_CX_clockRetimed_214 : decode b_CX_clockRetimed 214 = .ok (.istore 4, 2) := by decide +kernel
theorem d_CX_clockRetimed_216 : decode b_CX_clockRetimed 216 = .ok (.iload 4, 2) := by decide +kernel
theorem d_CX_clockRetimed_218 : decode b_CX_clockRetimed 218 = .ok (.aload_n 0, 1) := by decide +kernel
theorem d_CX_clockRetimed_219 : decode b_CX_clockRetimed 219 = .ok (.getfield 95, 3) := by decide +kernel
theorem d_CX_clockRetimed_222 : decode b_CX_clockRetimed 222 = .ok (.arraylength, 1) := by decide +kernel
theorem d_CX_clockRetimed_223 : decode b_CX_clockRetimed 223 = .ok (.if_icmp .ge 59, 3) := by decide +kernel
theorem d_CX_clockRetimed_226 : decode b_CX_clockRetimed 226 = .ok (.aload_n 0, 1) := by decide +kernel
theorem d_CX_clockRetimed_227 : decode b_CX_clockRetimed 227 = .ok (.getfield 98, 3) := by decide +kernel
theorem d_CX_clockRetimed_230 : decode b_CX_clockRetimed 230 = .ok (.iload 4, 2) := by decide +kernel
theorem d_CX_clockRetimed_232 : decode b_CX_clockRetimed 232 = .ok (.iaload, 1) := by decide +kernel
theorem d_CX_clockRetimed_233 : decode b_CX_clockRetimed 233 = .ok (.ifCond .le 43, 3) := by decide +kernel
theorem d_CX_clockRetimed_236 : decode b_CX_clockRetimed 236 = .ok (.aload_n 0, 1) := by decide +kernel
theorem d_CX_clockRetimed_237 : decode b_CX_clockRetimed 237 = .ok (.getfield 106, 3) := by decide +kernel
theorem d_CX_clockRetimed_240 : decode b_CX_clockRetimed 240 = .ok (.iload 4, 2) := by decide +kernel
theorem d_CX_clockRetimed_242 : decode b_CX_clockRetimed 242 = .ok (.aload_n 0, 1) := by decide +kernel
theorem d_CX_clockRetimed_243 : decode b_CX_clockRetimed 243 = .ok (.getfield 106, 3) := by decide +kernel
theorem d_CX_clockRetimed_246 : decode b_CX_clockRetimed 246 = .ok (.iload 4, 2) := by decide +kernel
theorem d_CX_clockRetimed_248 : decode b_CX_clockRetimed 248 = .ok (.laload, 1) := by decide +kernel
theorem d_CX_clockRetimed_249 : decode b_CX_clockRetimed 249 = .ok (.iconst 1, 1) := by decide +kernel
theorem d_CX_clockRetimed_250 : decode b_CX_clockRetimed 250 = .ok (.lshl, 1) := by decide +kernel
theorem d_CX_clockRetimed_251 : decode b_CX_clockRetimed 251 = .ok (.aload_n 0, 1) := by decide +kernel
theorem d_CX_clockRetimed_252 : decode b_CX_clockRetimed 252 = .ok (.getfield 95, 3) := by decide +kernel
theorem d_CX_clockRetimed_255 : decode b_CX_clockRetimed 255 = .ok (.iload 4, 2) := by decide +kernel
theorem d_CX_clockRetimed_257 : decode b_CX_clockRetimed 257 = .ok (.aaload, 1) := by decide +kernel
theorem d_CX_clockRetimed_258 : decode b_CX_clockRetimed 258 = .ok (.getfield 339, 3) := by decide +kernel
theorem d_CX_clockRetimed_261 : decode b_CX_clockRetimed 261 = .ok (.i2l, 1) := by decide +kernel
theorem d_CX_clockRetimed_262 : decode b_CX_clockRetimed 262 = .ok (.lor, 1) := by decide +kernel
theorem d_CX_clockRetimed_263 : decode b_CX_clockRetimed 263 = .ok (.lconst 1, 1) := by decide +kernel
theorem d_CX_clockRetimed_264 : decode b_CX_clockRetimed 264 = .ok (.aload_n 0, 1) := by decide +kernel
theorem d_CX_clockRetimed_265 : decode b_CX_clockRetimed 265 = .ok (.getfield 98, 3) := by decide +kernel
theorem d_CX_clockRetimed_268 : decode b_CX_clockRetimed 268 = .ok (.iload 4, 2) := by decide +kernel
theorem d_CX_clockRetimed_270 : decode b_CX_clockRetimed 270 = .ok (.iaload, 1) := by decide +kernel
theorem d_CX_clockRetimed_271 : decode b_CX_clockRetimed 271 = .ok (.lshl, 1) := by decide +kernel
theorem d_CX_clockRetimed_272 : decode b_CX_clockRetimed 272 = .ok (.lconst 1, 1) := by decide +kernel
theorem d_CX_clockRetimed_273 : decode b_CX_clockRetimed 273 = .ok (.lsub, 1) := by decide +kernel
theorem d_CX_clockRetimed_274 : decode b_CX_clockRetimed 274 = .ok (.land, 1) := by decide +kernel
theorem d_CX_clockRetimed_275 : decode b_CX_clockRetimed 275 = .ok (.lastore, 1) := by decide +kernel
theorem d_CX_clockRetimed_276 : decode b_CX_clockRetimed 276 = .ok (.iinc 4 1, 3) := by decide +kernel
theorem d_CX_clockRetimed_279 : decode b_CX_clockRetimed 279 = .ok (.goto (-63), 3) := by decide +kernel
theorem d_CX_clockRetimed_282 : decode b_CX_clockRetimed 282 = .ok (.iload_n 3, 1) := by decide +kernel
theorem d_CX_clockRetimed_283 : decode b_CX_clockRetimed 283 = .ok (.ireturn, 1) := by decide +kernel
def lp_CX_clockRetimed_216 (Q : Int → zS → Prop) : Nat → Int → Int → zS → Prop
  | 0 => fun _ _ _ => False
  | n + 1 => fun v3 v4 σ =>
    zc v4 ∧ ((196 ≤ v4 →
      Q v3 σ) ∧
     (¬ 196 ≤ v4 →
      0 ≤ v4 ∧ v4 < 196 ∧ 
      zc (σ 52 v4) ∧ ((σ 52 v4 ≤ 0 →
        lp_CX_clockRetimed_216 Q n v3 (v4 + 1) σ) ∧
       (¬ σ 52 v4 ≤ 0 →
        0 ≤ σ 51 v4 ∧ σ 51 v4 < σ 70 0 ∧ 
        zc (σ 6 (σ 51 v4)) ∧ 
        ∀ σ14, σ14 = zup σ 54 v4 (zland (zlor (zlshl (σ 54 v4) 1) (σ 6 (σ 51 v4))) ((zlshl 1 (σ 52 v4)) - 1)) →
        lp_CX_clockRetimed_216 Q n v3 (v4 + 1) σ14))))
def lp_CX_clockRetimed_179 (Q : Int → zS → Prop) : Nat → Int → Int → zS → Prop
  | 0 => fun _ _ _ => False
  | n + 1 => fun v3 v4 σ =>
    zc v4 ∧ zc (σ 40 4) ∧ ((σ 40 4 ≤ v4 →
      ∃ u216, lp_CX_clockRetimed_216 Q u216 v3 0 σ) ∧
     (¬ σ 40 4 ≤ v4 →
      wp_CX_arrives (fun r17 σ16 =>
        ∀ y18, y18 = zor v3 (zshl r17 v4) →
        lp_CX_clockRetimed_179 Q n y18 (v4 + 1) σ16) (192 + v4) σ))
def bk_CX_clockRetimed_174 (Q : Int → zS → Prop) (σ : zS) : Prop :=
  ∃ u179, lp_CX_clockRetimed_179 Q u179 0 0 σ
def bk_CX_clockRetimed_154 (Q : Int → zS → Prop) (J22 : Int → Int → zS → Prop) (J37 : Int → Int → Int → zS → Prop) (v3 : Int) (v4 : Int) (v5 : Int) (v7 : Int) (z0 : Int) (σ : zS) : Prop :=
  0 ≤ v5 ∧ v5 < σ 70 0 ∧ ∀ σ38, σ38 = zup σ 6 v5 v7 →
  J37 z0 v3 (v4 + 1) σ38
def bk_CX_clockRetimed_149 (Q : Int → zS → Prop) (J22 : Int → Int → zS → Prop) (J37 : Int → Int → Int → zS → Prop) (v3 : Int) (v4 : Int) (v5 : Int) (v7 : Int) (σ : zS) : Prop :=
  bk_CX_clockRetimed_154 Q J22 J37 v3 v4 v5 v7 1 σ
def lp_CX_clockRetimed_77 (Q : Int → zS → Prop) (J22 : Int → Int → zS → Prop) (J37 : Int → Int → Int → zS → Prop) : Nat → Int → Int → Int → Int → Int → Int → zS → Prop
  | 0 => fun _ _ _ _ _ _ _ => False
  | n + 1 => fun v2 v3 v4 v5 v6 v7 σ =>
    0 ≤ v5 ∧ v5 < σ 70 0 ∧ 
    0 ≤ σ 14 v5 ∧ σ 14 v5 < σ 71 0 ∧ 
    zc v7 ∧ zc (σ 24 (σ 14 v5)) ∧ ((σ 24 (σ 14 v5) ≤ v7 →
      wp_value 8 (fun r36 σ35 =>
        zc v2 ∧ ((v2 = 0 →
          0 ≤ v5 ∧ v5 < σ35 70 0 ∧ 
          zc r36 ∧ zc (σ35 6 v5) ∧ ((r36 = σ35 6 v5 →
            bk_CX_clockRetimed_154 Q J22 J37 v3 v4 v5 r36 0 σ35) ∧
           (¬ r36 = σ35 6 v5 →
            bk_CX_clockRetimed_149 Q J22 J37 v3 v4 v5 r36 σ35))) ∧
         (¬ v2 = 0 →
          bk_CX_clockRetimed_149 Q J22 J37 v3 v4 v5 r36 σ35))) (σ 25 (σ 14 v5)) v6 σ) ∧
     (¬ σ 24 (σ 14 v5) ≤ v7 →
      wp_CX_arrives (fun r46 σ45 =>
        ∀ y47, y47 = zor v6 (zshl r46 v7) →
        lp_CX_clockRetimed_77 Q J22 J37 n v2 v3 v4 v5 y47 (v7 + 1) σ45) ((4 * (σ 0 v5)) + v7) σ))
def lp_CX_clockRetimed_37 (Q : Int → zS → Prop) (J22 : Int → Int → zS → Prop) : Nat → Int → Int → Int → zS → Prop
  | 0 => fun _ _ _ _ => False
  | n + 1 => fun v2 v3 v4 σ =>
    zc v4 ∧ zc (σ 40 0) ∧ ((σ 40 0 ≤ v4 →
      J22 v2 (v3 + 1) σ) ∧
     (¬ σ 40 0 ≤ v4 →
      0 ≤ v4 ∧ v4 < σ 40 0 ∧ 
      0 ≤ σ 41 v4 ∧ σ 41 v4 < σ 70 0 ∧ 
      ∀ y27, y27 = σ 41 v4 →
      zc (σ 11 y27) ∧ ((σ 11 y27 = 0 →
        lp_CX_clockRetimed_37 Q J22 n v2 v3 (v4 + 1) σ) ∧
       (¬ σ 11 y27 = 0 →
        ∃ u77, lp_CX_clockRetimed_77 Q J22 (lp_CX_clockRetimed_37 Q J22 n) u77 v2 v3 v4 y27 0 0 σ))))
def lp_CX_clockRetimed_22 (Q : Int → zS → Prop) : Nat → Int → Int → zS → Prop
  | 0 => fun _ _ _ => False
  | n + 1 => fun v2 v3 σ =>
    zc v2 ∧ ((v2 = 0 →
      bk_CX_clockRetimed_174 Q σ) ∧
     (¬ v2 = 0 →
      zc v3 ∧ ((48 < v3 →
        bk_CX_clockRetimed_174 Q σ) ∧
       (¬ 48 < v3 →
        ∃ u37, lp_CX_clockRetimed_37 Q (lp_CX_clockRetimed_22 Q n) u37 0 v3 0 σ))))
def wp_CX_clockRetimed (Q : Int → zS → Prop) (v1 : Int) (σ : zS) : Prop :=
  zc (σ 56 0) ∧ ((σ 56 0 = 0 →
    Q (-6) σ) ∧
   (¬ σ 56 0 = 0 →
    wp_CX_feed (fun σ2 =>
      ∃ u22, lp_CX_clockRetimed_22 Q u22 1 0 σ2) v1 σ))
set_option maxHeartbeats 4000000 in
set_option maxRecDepth 100000 in
theorem wk_CX_clockRetimed_216 {E : zE} {D : va_G} {g : zG} {A : Nat → Prop} {ad : zA} {Q : Int → zS → Prop} (C : zX E b_CX_clockRetimed R_CX D g { frames := 25, cells := 0, slots := 0, locals := 824 } 8) (R : zRt E (some .int) (zQi D g ad Q A) 0 0 A) (S : zSt g A (zst E) (zst E).heap) : ∀ (n : Nat) (v3 : Int) (v4 : Int) (σ : zS), lp_CX_clockRetimed_216 Q n v3 v4 σ → zW E (zOK D A (zst E) g ad) 0 0 216 [(0, .ref (ad (0, 0))), (3, .int (zi v3)), (4, .int (zi v4))] [] σ := by
  intro n
  induction n with
  | zero =>
    intro v3 v4 σ h
    exact h.elim
  | succ n ih =>
    intro v3 v4 σ h
    refine z_iload C (pc := 216) d_CX_clockRetimed_216 2 rfl ?_
    refine z_aload_n C (pc := 218) d_CX_clockRetimed_218 0 rfl ?_
    refine x_getX (v := .ref (ad (3, 1))) C 10 (by decide) rfl wd_95 (pc := 219) d_CX_clockRetimed_219 ?_
    refine x_alen C 1 (by decide) (pc := 222) d_CX_clockRetimed_222 ?_
    obtain ⟨hc7, h⟩ := h
    refine z_icmp_ge (tgt := 282) C (pc := 223) d_CX_clockRetimed_223 (by decide) hc7 (by decide) h (fun h => ?_) (fun h => ?_)
    · refine z_iload_n C (pc := 282) d_CX_clockRetimed_282 1 rfl ?_
      exact z_iret C R (pc := 283) d_CX_clockRetimed_283 h
    · refine z_aload_n C (pc := 226) d_CX_clockRetimed_226 0 rfl ?_
      refine x_getX (v := .ref (ad (3, 2))) C 11 (by decide) rfl wd_96 (pc := 227) d_CX_clockRetimed_227 ?_
      refine z_iload C (pc := 230) d_CX_clockRetimed_230 2 rfl ?_
      obtain ⟨hc8, hc9, h⟩ := h
      refine x_iald C hc8 hc9 (pc := 232) d_CX_clockRetimed_232 ?_
      obtain ⟨hc10, h⟩ := h
      refine z_if_le (tgt := 276) C (pc := 233) d_CX_clockRetimed_233 (by decide) hc10 h (fun h => ?_) (fun h => ?_)
      · refine z_iinc (L' := [(4, .int (zi (v4 + 1))), (0, .ref (ad (0, 0))), (3, .int (zi v3))]) C (pc := 276) d_CX_clockRetimed_276 2 rfl (by decide) rfl ?_
        refine z_goto (tgt := 216) C (pc := 279) d_CX_clockRetimed_279 (by decide) ?_
        refine z_sub [1, 2, 0] rfl ?_
        exact ih _ _ _ h
      · refine z_aload_n C (pc := 236) d_CX_clockRetimed_236 0 rfl ?_
        refine x_getX (v := .ref (ad (3, 4))) C 13 (by decide) rfl wd_98 (pc := 237) d_CX_clockRetimed_237 ?_
        refine z_iload C (pc := 240) d_CX_clockRetimed_240 2 rfl ?_
        refine z_aload_n C (pc := 242) d_CX_clockRetimed_242 0 rfl ?_
        refine x_getX (v := .ref (ad (3, 4))) C 13 (by decide) rfl wd_98 (pc := 243) d_CX_clockRetimed_243 ?_
        refine z_iload C (pc := 246) d_CX_clockRetimed_246 2 rfl ?_
        refine x_lald C 4 (by decide) hc8 hc9 (pc := 248) d_CX_clockRetimed_248 ?_
        refine z_iconst C (pc := 249) d_CX_clockRetimed_249 ?_
        refine z_lshl C (pc := 250) d_CX_clockRetimed_250 ?_
        refine z_aload_n C (pc := 251) d_CX_clockRetimed_251 0 rfl ?_
        refine x_getX (v := .ref (ad (3, 1))) C 10 (by decide) rfl wd_95 (pc := 252) d_CX_clockRetimed_252 ?_
        refine z_iload C (pc := 255) d_CX_clockRetimed_255 2 rfl ?_
        refine x_aald C 1 (by decide) hc8 hc9 (pc := 257) d_CX_clockRetimed_257 ?_
        obtain ⟨hc11, hc12, h⟩ := h
        refine x_getN (v := .int (zi (σ 6 (σ 51 v4)))) C 6 (by decide) hc11 hc12 rfl wd_185 (pc := 258) d_CX_clockRetimed_258 ?_
        obtain ⟨hc13, h⟩ := h
        refine z_i2l C (pc := 261) d_CX_clockRetimed_261 hc13 ?_
        refine z_lor C (pc := 262) d_CX_clockRetimed_262 ?_
        refine z_lconst (y := 1) C (pc := 263) d_CX_clockRetimed_263 (by decide) ?_
        refine z_aload_n C (pc := 264) d_CX_clockRetimed_264 0 rfl ?_
        refine x_getX (v := .ref (ad (3, 2))) C 11 (by decide) rfl wd_96 (pc := 265) d_CX_clockRetimed_265 ?_
        refine z_iload C (pc := 268) d_CX_clockRetimed_268 2 rfl ?_
        refine x_iald C hc8 hc9 (pc := 270) d_CX_clockRetimed_270 ?_
        refine z_lshl C (pc := 271) d_CX_clockRetimed_271 ?_
        refine z_lconst (y := 1) C (pc := 272) d_CX_clockRetimed_272 (by decide) ?_
        refine z_lsub C (pc := 273) d_CX_clockRetimed_273 ?_
        refine z_land C (pc := 274) d_CX_clockRetimed_274 ?_
        refine x_last C 4 (by decide) hc8 hc9 (pc := 275) d_CX_clockRetimed_275 ?_
        refine zN h (fun σ14 eσ14 h => ?_)
        refine z_iinc (L' := [(4, .int (zi (v4 + 1))), (0, .ref (ad (0, 0))), (3, .int (zi v3))]) C (pc := 276) d_CX_clockRetimed_276 2 rfl (by decide) rfl ?_
        refine z_goto (tgt := 216) C (pc := 279) d_CX_clockRetimed_279 (by decide) ?_
        refine z_sub [1, 2, 0] rfl ?_
        exact ih _ _ _ h
set_option maxHeartbeats 4000000 in
set_option maxRecDepth 100000 in
theorem wk_CX_clockRetimed_179 {E : zE} {D : va_G} {g : zG} {A : Nat → Prop} {ad : zA} {Q : Int → zS → Prop} (C : zX E b_CX_clockRetimed R_CX D g { frames := 25, cells := 0, slots := 0, locals := 824 } 8) (R : zRt E (some .int) (zQi D g ad Q A) 0 0 A) (S : zSt g A (zst E) (zst E).heap) : ∀ (n : Nat) (v3 : Int) (v4 : Int) (σ : zS), lp_CX_clockRetimed_179 Q n v3 v4 σ → zW E (zOK D A (zst E) g ad) 0 0 179 [(0, .ref (ad (0, 0))), (3, .int (zi v3)), (4, .int (zi v4))] [] σ := by
  intro n
  induction n with
  | zero =>
    intro v3 v4 σ h
    exact h.elim
  | succ n ih =>
    intro v3 v4 σ h
    refine z_iload C (pc := 179) d_CX_clockRetimed_179 2 rfl ?_
    refine z_aload_n C (pc := 181) d_CX_clockRetimed_181 0 rfl ?_
    refine x_getX (v := .ref (ad (1, 4))) C 5 (by decide) rfl wd_90 (pc := 182) d_CX_clockRetimed_182 ?_
    refine x_size (P := True) C S 4 (by decide) wd_146 ⟨Nat.le_of_ble_eq_true rfl, Nat.le_of_ble_eq_true rfl⟩ (Nat.le_of_ble_eq_true rfl) (pc := 185) d_CX_clockRetimed_185 ?_
    obtain ⟨hc5, hc6, h⟩ := h
    refine z_icmp_ge (tgt := 213) C (pc := 188) d_CX_clockRetimed_188 (by decide) hc5 hc6 h (fun h => ?_) (fun h => ?_)
    · refine z_iconst C (pc := 213) d_CX_clockRetimed_213 ?_
      refine z_istore (L' := [(4, .int (zi 0)), (0, .ref (ad (0, 0))), (3, .int (zi v3))]) C (pc := 214) d_CX_clockRetimed_214 (by decide) rfl ?_
      refine z_sub [1, 2, 0] rfl ?_
      obtain ⟨n15, h⟩ := h
      exact wk_CX_clockRetimed_216 C R S n15 _ _ _ h
    · refine z_iload_n C (pc := 191) d_CX_clockRetimed_191 1 rfl ?_
      refine z_aload_n C (pc := 192) d_CX_clockRetimed_192 0 rfl ?_
      refine z_sipush C (pc := 193) d_CX_clockRetimed_193 (by decide) ?_
      refine z_iload C (pc := 196) d_CX_clockRetimed_196 2 rfl ?_
      refine z_iadd C (pc := 198) d_CX_clockRetimed_198 ?_
      refine x_callVi (As := [.int (zi (192 + v4))]) (st := [.int (zi v3)]) C S fy_CX_arrives (0, 0) (zids_fix zfix_0) rfl rfl wd_690 (pc := 199) d_CX_clockRetimed_199 ⟨rfl, rfl, Nat.le_of_ble_eq_true rfl, Nat.le_of_ble_eq_true rfl⟩ rfl rfl (Nat.le_of_ble_eq_true rfl) h (c_CX_arrives (zln E) D g ad _ _ _) (fun r17 σ16 h => ?_)
      refine z_iload C (pc := 202) d_CX_clockRetimed_202 2 rfl ?_
      refine z_ishl C (pc := 204) d_CX_clockRetimed_204 ?_
      refine z_ior C (pc := 205) d_CX_clockRetimed_205 ?_
      refine zNi h (fun y18 ey18 h => ?_)
      refine z_istore_n (L' := [(3, .int (zi y18)), (0, .ref (ad (0, 0))), (4, .int (zi v4))]) C (pc := 206) d_CX_clockRetimed_206 (by decide) rfl ?_
      refine z_iinc (L' := [(4, .int (zi (v4 + 1))), (3, .int (zi y18)), (0, .ref (ad (0, 0)))]) C (pc := 207) d_CX_clockRetimed_207 2 rfl (by decide) rfl ?_
      refine z_goto (tgt := 179) C (pc := 210) d_CX_clockRetimed_210 (by decide) ?_
      refine z_sub [2, 1, 0] rfl ?_
      exact ih _ _ _ h
set_option maxHeartbeats 4000000 in
set_option maxRecDepth 100000 in
theorem wk_CX_clockRetimed_174 {E : zE} {D : va_G} {g : zG} {A : Nat → Prop} {ad : zA} {Q : Int → zS → Prop} (C : zX E b_CX_clockRetimed R_CX D g { frames := 25, cells := 0, slots := 0, locals := 824 } 8) (R : zRt E (some .int) (zQi D g ad Q A) 0 0 A) (S : zSt g A (zst E) (zst E).heap) (σ : zS) (h : bk_CX_clockRetimed_174 Q σ) : zW E (zOK D A (zst E) g ad) 0 0 174 [(0, .ref (ad (0, 0)))] [] σ := by
  unfold bk_CX_clockRetimed_174 at h
  refine z_iconst C (pc := 174) d_CX_clockRetimed_174 ?_
  refine z_istore_n (L' := [(3, .int (zi 0)), (0, .ref (ad (0, 0)))]) C (pc := 175) d_CX_clockRetimed_175 (by decide) rfl ?_
  refine z_iconst C (pc := 176) d_CX_clockRetimed_176 ?_
  refine z_istore (L' := [(4, .int (zi 0)), (3, .int (zi 0)), (0, .ref (ad (0, 0)))]) C (pc := 177) d_CX_clockRetimed_177 (by decide) rfl ?_
  refine z_sub [2, 1, 0] rfl ?_
  obtain ⟨n19, h⟩ := h
  exact wk_CX_clockRetimed_179 C R S n19 _ _ _ h
set_option maxHeartbeats 4000000 in
set_option maxRecDepth 100000 in
theorem wk_CX_clockRetimed_154 {E : zE} {D : va_G} {g : zG} {A : Nat → Prop} {ad : zA} {Q : Int → zS → Prop} {J22 : Int → Int → zS → Prop} {J37 : Int → Int → Int → zS → Prop} (C : zX E b_CX_clockRetimed R_CX D g { frames := 25, cells := 0, slots := 0, locals := 824 } 8) (R : zRt E (some .int) (zQi D g ad Q A) 0 0 A) (S : zSt g A (zst E) (zst E).heap) (hJ22 : ∀ (v2 : Int) (v3 : Int) (σ : zS), J22 v2 v3 σ → zW E (zOK D A (zst E) g ad) 0 0 22 [(0, .ref (ad (0, 0))), (2, .int (zi v2)), (3, .int (zi v3))] [] σ) (hJ37 : ∀ (v2 : Int) (v3 : Int) (v4 : Int) (σ : zS), J37 v2 v3 v4 σ → zW E (zOK D A (zst E) g ad) 0 0 37 [(0, .ref (ad (0, 0))), (2, .int (zi v2)), (3, .int (zi v3)), (4, .int (zi v4))] [] σ) (v3 : Int) (v4 : Int) (v5 : Int) (v7 : Int) (z0 : Int) (σ : zS) (h : bk_CX_clockRetimed_154 Q J22 J37 v3 v4 v5 v7 z0 σ) : zW E (zOK D A (zst E) g ad) 0 0 154 [(0, .ref (ad (0, 0))), (3, .int (zi v3)), (4, .int (zi v4)), (5, zr ad 4 v5), (7, .int (zi v7))] [.int (zi z0)] σ := by
  unfold bk_CX_clockRetimed_154 at h
  refine z_istore_n (L' := [(2, .int (zi z0)), (0, .ref (ad (0, 0))), (3, .int (zi v3)), (4, .int (zi v4)), (5, zr ad 4 v5), (7, .int (zi v7))]) C (pc := 154) d_CX_clockRetimed_154 (by decide) rfl ?_
  refine z_aloadZ C (pc := 155) d_CX_clockRetimed_155 4 rfl ?_
  refine z_iload C (pc := 157) d_CX_clockRetimed_157 5 rfl ?_
  obtain ⟨hc39, hc40, h⟩ := h
  refine x_putN (v := v7) C 6 (by decide) hc39 hc40 rfl ⟨rfl, rfl⟩ rfl wd_185 (pc := 159) d_CX_clockRetimed_159 ?_
  refine zN h (fun σ38 eσ38 h => ?_)
  refine z_iinc (L' := [(4, .int (zi (v4 + 1))), (2, .int (zi z0)), (0, .ref (ad (0, 0))), (3, .int (zi v3)), (5, zr ad 4 v5), (7, .int (zi v7))]) C (pc := 162) d_CX_clockRetimed_162 3 rfl (by decide) rfl ?_
  refine z_goto (tgt := 37) C (pc := 165) d_CX_clockRetimed_165 (by decide) ?_
  refine z_sub [2, 1, 3, 0] rfl ?_
  exact hJ37 _ _ _ _ h
set_option maxHeartbeats 4000000 in
set_option maxRecDepth 100000 in
theorem wk_CX_clockRetimed_149 {E : zE} {D : va_G} {g : zG} {A : Nat → Prop} {ad : zA} {Q : Int → zS → Prop} {J22 : Int → Int → zS → Prop} {J37 : Int → Int → Int → zS → Prop} (C : zX E b_CX_clockRetimed R_CX D g { frames := 25, cells := 0, slots := 0, locals := 824 } 8) (R : zRt E (some .int) (zQi D g ad Q A) 0 0 A) (S : zSt g A (zst E) (zst E).heap) (hJ22 : ∀ (v2 : Int) (v3 : Int) (σ : zS), J22 v2 v3 σ → zW E (zOK D A (zst E) g ad) 0 0 22 [(0, .ref (ad (0, 0))), (2, .int (zi v2)), (3, .int (zi v3))] [] σ) (hJ37 : ∀ (v2 : Int) (v3 : Int) (v4 : Int) (σ : zS), J37 v2 v3 v4 σ → zW E (zOK D A (zst E) g ad) 0 0 37 [(0, .ref (ad (0, 0))), (2, .int (zi v2)), (3, .int (zi v3)), (4, .int (zi v4))] [] σ) (v3 : Int) (v4 : Int) (v5 : Int) (v7 : Int) (σ : zS) (h : bk_CX_clockRetimed_149 Q J22 J37 v3 v4 v5 v7 σ) : zW E (zOK D A (zst E) g ad) 0 0 149 [(0, .ref (ad (0, 0))), (3, .int (zi v3)), (4, .int (zi v4)), (5, zr ad 4 v5), (7, .int (zi v7))] [] σ := by
  unfold bk_CX_clockRetimed_149 at h
  refine z_iconst C (pc := 149) d_CX_clockRetimed_149 ?_
  refine z_goto (tgt := 154) C (pc := 150) d_CX_clockRetimed_150 (by decide) ?_
  exact wk_CX_clockRetimed_154 C R S hJ22 hJ37 _ _ _ _ _ _ h
set_option maxHeartbeats 4000000 in
set_option maxRecDepth 100000 in
theorem wk_CX_clockRetimed_77 {E : zE} {D : va_G} {g : zG} {A : Nat → Prop} {ad : zA} {Q : Int → zS → Prop} {J22 : Int → Int → zS → Prop} {J37 : Int → Int → Int → zS → Prop} (C : zX E b_CX_clockRetimed R_CX D g { frames := 25, cells := 0, slots := 0, locals := 824 } 8) (R : zRt E (some .int) (zQi D g ad Q A) 0 0 A) (S : zSt g A (zst E) (zst E).heap) (hJ22 : ∀ (v2 : Int) (v3 : Int) (σ : zS), J22 v2 v3 σ → zW E (zOK D A (zst E) g ad) 0 0 22 [(0, .ref (ad (0, 0))), (2, .int (zi v2)), (3, .int (zi v3))] [] σ) (hJ37 : ∀ (v2 : Int) (v3 : Int) (v4 : Int) (σ : zS), J37 v2 v3 v4 σ → zW E (zOK D A (zst E) g ad) 0 0 37 [(0, .ref (ad (0, 0))), (2, .int (zi v2)), (3, .int (zi v3)), (4, .int (zi v4))] [] σ) : ∀ (n : Nat) (v2 : Int) (v3 : Int) (v4 : Int) (v5 : Int) (v6 : Int) (v7 : Int) (σ : zS), lp_CX_clockRetimed_77 Q J22 J37 n v2 v3 v4 v5 v6 v7 σ → zW E (zOK D A (zst E) g ad) 0 0 77 [(0, .ref (ad (0, 0))), (2, .int (zi v2)), (3, .int (zi v3)), (4, .int (zi v4)), (5, zr ad 4 v5), (6, .int (zi v6)), (7, .int (zi v7))] [] σ := by
  intro n
  induction n with
  | zero =>
    intro v2 v3 v4 v5 v6 v7 σ h
    exact h.elim
  | succ n ih =>
    intro v2 v3 v4 v5 v6 v7 σ h
    refine z_iload C (pc := 77) d_CX_clockRetimed_77 6 rfl ?_
    refine z_aloadZ C (pc := 79) d_CX_clockRetimed_79 4 rfl ?_
    obtain ⟨hc29, hc30, h⟩ := h
    refine x_getN (v := zr ad 5 (σ 14 v5)) C 14 (by decide) hc29 hc30 rfl wd_198 (pc := 81) d_CX_clockRetimed_81 ?_
    obtain ⟨hc31, hc32, h⟩ := h
    refine x_getC (v := .int (zi (σ 24 (σ 14 v5)))) C 4 (by decide) hc31 hc32 rfl wd_437 (pc := 84) d_CX_clockRetimed_84 ?_
    obtain ⟨hc33, hc34, h⟩ := h
    refine z_icmp_ge (tgt := 118) C (pc := 87) d_CX_clockRetimed_87 (by decide) hc33 hc34 h (fun h => ?_) (fun h => ?_)
    · refine z_aloadZ C (pc := 118) d_CX_clockRetimed_118 4 rfl ?_
      refine x_getN (v := zr ad 5 (σ 14 v5)) C 14 (by decide) hc29 hc30 rfl wd_198 (pc := 120) d_CX_clockRetimed_120 ?_
      refine x_getC (v := zr ad 6 (σ 25 (σ 14 v5))) C 5 (by decide) hc31 hc32 rfl wd_439 (pc := 123) d_CX_clockRetimed_123 ?_
      refine z_iload C (pc := 126) d_CX_clockRetimed_126 5 rfl ?_
      refine x_callF_value (As := [.int (zi v6)]) C S wd_615 (pc := 128) d_CX_clockRetimed_128 ⟨Nat.le_of_ble_eq_true rfl, Nat.le_of_ble_eq_true rfl⟩ rfl (Nat.le_of_ble_eq_true rfl) h (c_value 8) (fun r36 σ35 h => ?_)
      refine z_istore (L' := [(7, .int (zi r36)), (0, .ref (ad (0, 0))), (2, .int (zi v2)), (3, .int (zi v3)), (4, .int (zi v4)), (5, zr ad 4 v5), (6, .int (zi v6))]) C (pc := 133) d_CX_clockRetimed_133 (by decide) rfl ?_
      refine z_iload_n C (pc := 135) d_CX_clockRetimed_135 2 rfl ?_
      obtain ⟨hc37, h⟩ := h
      refine z_if_ne (tgt := 149) C (pc := 136) d_CX_clockRetimed_136 (by decide) hc37 h (fun h => ?_) (fun h => ?_)
      · refine z_sub [1, 3, 4, 5, 0] rfl ?_
        exact wk_CX_clockRetimed_149 C R S hJ22 hJ37 _ _ _ _ _ h
      · refine z_iload C (pc := 139) d_CX_clockRetimed_139 0 rfl ?_
        refine z_aloadZ C (pc := 141) d_CX_clockRetimed_141 5 rfl ?_
        obtain ⟨hc41, hc42, h⟩ := h
        refine x_getN (v := .int (zi (σ35 6 v5))) C 6 (by decide) hc41 hc42 rfl wd_185 (pc := 143) d_CX_clockRetimed_143 ?_
        obtain ⟨hc43, hc44, h⟩ := h
        refine z_icmp_eq (tgt := 153) C (pc := 146) d_CX_clockRetimed_146 (by decide) hc43 hc44 h (fun h => ?_) (fun h => ?_)
        · refine z_iconst C (pc := 153) d_CX_clockRetimed_153 ?_
          refine z_sub [1, 3, 4, 5, 0] rfl ?_
          exact wk_CX_clockRetimed_154 C R S hJ22 hJ37 _ _ _ _ _ _ h
        · refine z_sub [1, 3, 4, 5, 0] rfl ?_
          exact wk_CX_clockRetimed_149 C R S hJ22 hJ37 _ _ _ _ _ h
    · refine z_iload C (pc := 90) d_CX_clockRetimed_90 5 rfl ?_
      refine z_aload_n C (pc := 92) d_CX_clockRetimed_92 0 rfl ?_
      refine z_iconst C (pc := 93) d_CX_clockRetimed_93 ?_
      refine z_aloadZ C (pc := 94) d_CX_clockRetimed_94 4 rfl ?_
      refine x_getN (v := .int (zi (σ 0 v5))) C 0 (by decide) hc29 hc30 rfl wd_167 (pc := 96) d_CX_clockRetimed_96 ?_
      refine z_imul C (pc := 99) d_CX_clockRetimed_99 ?_
      refine z_iload C (pc := 100) d_CX_clockRetimed_100 6 rfl ?_
      refine z_iadd C (pc := 102) d_CX_clockRetimed_102 ?_
      refine x_callVi (As := [.int (zi ((4 * (σ 0 v5)) + v7))]) (st := [.int (zi v6)]) C S fy_CX_arrives (0, 0) (zids_fix zfix_0) rfl rfl wd_690 (pc := 103) d_CX_clockRetimed_103 ⟨rfl, rfl, Nat.le_of_ble_eq_true rfl, Nat.le_of_ble_eq_true rfl⟩ rfl rfl (Nat.le_of_ble_eq_true rfl) h (c_CX_arrives (zln E) D g ad _ _ _) (fun r46 σ45 h => ?_)
      refine z_iload C (pc := 106) d_CX_clockRetimed_106 6 rfl ?_
      refine z_ishl C (pc := 108) d_CX_clockRetimed_108 ?_
      refine z_ior C (pc := 109) d_CX_clockRetimed_109 ?_
      refine zNi h (fun y47 ey47 h => ?_)
      refine z_istore (L' := [(6, .int (zi y47)), (0, .ref (ad (0, 0))), (2, .int (zi v2)), (3, .int (zi v3)), (4, .int (zi v4)), (5, zr ad 4 v5), (7, .int (zi v7))]) C (pc := 110) d_CX_clockRetimed_110 (by decide) (congrArg (List.cons _) (flt_eq (j := 6) rfl (List.forall_mem_singleton.mpr (zr_cat _ _ _)) rfl)) ?_
      refine z_iinc (L' := [(7, .int (zi (v7 + 1))), (6, .int (zi y47)), (0, .ref (ad (0, 0))), (2, .int (zi v2)), (3, .int (zi v3)), (4, .int (zi v4)), (5, zr ad 4 v5)]) C (pc := 112) d_CX_clockRetimed_112 6 rfl (by decide) rfl ?_
      refine z_goto (tgt := 77) C (pc := 115) d_CX_clockRetimed_115 (by decide) ?_
      refine z_sub [2, 3, 4, 5, 6, 1, 0] rfl ?_
      exact ih _ _ _ _ _ _ _ h
set_option maxHeartbeats 4000000 in
set_option maxRecDepth 100000 in
theorem wk_CX_clockRetimed_37 {E : zE} {D : va_G} {g : zG} {A : Nat → Prop} {ad : zA} {Q : Int → zS → Prop} {J22 : Int → Int → zS → Prop} (C : zX E b_CX_clockRetimed R_CX D g { frames := 25, cells := 0, slots := 0, locals := 824 } 8) (R : zRt E (some .int) (zQi D g ad Q A) 0 0 A) (S : zSt g A (zst E) (zst E).heap) (hJ22 : ∀ (v2 : Int) (v3 : Int) (σ : zS), J22 v2 v3 σ → zW E (zOK D A (zst E) g ad) 0 0 22 [(0, .ref (ad (0, 0))), (2, .int (zi v2)), (3, .int (zi v3))] [] σ) : ∀ (n : Nat) (v2 : Int) (v3 : Int) (v4 : Int) (σ : zS), lp_CX_clockRetimed_37 Q J22 n v2 v3 v4 σ → zW E (zOK D A (zst E) g ad) 0 0 37 [(0, .ref (ad (0, 0))), (2, .int (zi v2)), (3, .int (zi v3)), (4, .int (zi v4))] [] σ := by
  intro n
  induction n with
  | zero =>
    intro v2 v3 v4 σ h
    exact h.elim
  | succ n ih =>
    intro v2 v3 v4 σ h
    refine z_iload C (pc := 37) d_CX_clockRetimed_37 3 rfl ?_
    refine z_aload_n C (pc := 39) d_CX_clockRetimed_39 0 rfl ?_
    refine x_getX (v := .ref (ad (1, 0))) C 1 (by decide) rfl wd_86 (pc := 40) d_CX_clockRetimed_40 ?_
    refine x_size (P := True) C S 0 (by decide) wd_146 ⟨Nat.le_of_ble_eq_true rfl, Nat.le_of_ble_eq_true rfl⟩ (Nat.le_of_ble_eq_true rfl) (pc := 43) d_CX_clockRetimed_43 ?_
    obtain ⟨hc21, hc22, h⟩ := h
    refine z_icmp_ge (tgt := 168) C (pc := 46) d_CX_clockRetimed_46 (by decide) hc21 hc22 h (fun h => ?_) (fun h => ?_)
    · refine z_iinc (L' := [(3, .int (zi (v3 + 1))), (0, .ref (ad (0, 0))), (2, .int (zi v2)), (4, .int (zi v4))]) C (pc := 168) d_CX_clockRetimed_168 2 rfl (by decide) rfl ?_
      refine z_goto (tgt := 22) C (pc := 171) d_CX_clockRetimed_171 (by decide) ?_
      refine z_sub [1, 2, 0] rfl ?_
      exact hJ22 _ _ _ h
    · refine z_aload_n C (pc := 49) d_CX_clockRetimed_49 0 rfl ?_
      refine x_getX (v := .ref (ad (1, 0))) C 1 (by decide) rfl wd_86 (pc := 50) d_CX_clockRetimed_50 ?_
      refine z_iload C (pc := 53) d_CX_clockRetimed_53 3 rfl ?_
      obtain ⟨hc23, hc24, h⟩ := h
      refine x_lget C S 0 (by decide) hc23 hc24 wd_306 ⟨Nat.le_of_ble_eq_true rfl, Nat.le_of_ble_eq_true rfl⟩ (Nat.le_of_ble_eq_true rfl) (pc := 55) d_CX_clockRetimed_55 ?_
      obtain ⟨hc25, hc26, h⟩ := h
      refine x_castN C wd_83 (Or.inr ⟨hc25, hc26⟩) (pc := 58) d_CX_clockRetimed_58 ?_
      refine zNz h (fun y27 ey27 h => ?_)
      refine z_astoreZ (L' := [(5, zr ad 4 y27), (0, .ref (ad (0, 0))), (2, .int (zi v2)), (3, .int (zi v3)), (4, .int (zi v4))]) C (pc := 61) d_CX_clockRetimed_61 (by decide) rfl ?_
      refine z_aloadZ C (pc := 63) d_CX_clockRetimed_63 0 rfl ?_
      refine x_getN (v := .int (zi (σ 11 y27))) C 11 (by decide) (by rw [ey27]; exact hc25) (by rw [ey27]; exact hc26) rfl wd_193 (pc := 65) d_CX_clockRetimed_65 ?_
      obtain ⟨hc28, h⟩ := h
      refine z_if_eq (tgt := 162) C (pc := 68) d_CX_clockRetimed_68 (by decide) hc28 h (fun h => ?_) (fun h => ?_)
      · refine z_iinc (L' := [(4, .int (zi (v4 + 1))), (5, zr ad 4 y27), (0, .ref (ad (0, 0))), (2, .int (zi v2)), (3, .int (zi v3))]) C (pc := 162) d_CX_clockRetimed_162 4 rfl (by decide) rfl ?_
        refine z_goto (tgt := 37) C (pc := 165) d_CX_clockRetimed_165 (by decide) ?_
        refine z_sub [2, 3, 4, 0] rfl ?_
        exact ih _ _ _ _ h
      · refine z_iconst C (pc := 71) d_CX_clockRetimed_71 ?_
        refine z_istore (L' := [(6, .int (zi 0)), (5, zr ad 4 y27), (0, .ref (ad (0, 0))), (2, .int (zi v2)), (3, .int (zi v3)), (4, .int (zi v4))]) C (pc := 72) d_CX_clockRetimed_72 (by decide) (congrArg (List.cons _) (flt_eq (j := 6) rfl (List.forall_mem_singleton.mpr (zr_cat _ _ _)) rfl)) ?_
        refine z_iconst C (pc := 74) d_CX_clockRetimed_74 ?_
        refine z_istore (L' := [(7, .int (zi 0)), (6, .int (zi 0)), (5, zr ad 4 y27), (0, .ref (ad (0, 0))), (2, .int (zi v2)), (3, .int (zi v3)), (4, .int (zi v4))]) C (pc := 75) d_CX_clockRetimed_75 (by decide) rfl ?_
        refine z_sub [3, 4, 5, 6, 2, 1, 0] rfl ?_
        obtain ⟨n48, h⟩ := h
        exact wk_CX_clockRetimed_77 C R S hJ22 ih n48 _ _ _ _ _ _ _ h
set_option maxHeartbeats 4000000 in
set_option maxRecDepth 100000 in
theorem wk_CX_clockRetimed_22 {E : zE} {D : va_G} {g : zG} {A : Nat → Prop} {ad : zA} {Q : Int → zS → Prop} (C : zX E b_CX_clockRetimed R_CX D g { frames := 25, cells := 0, slots := 0, locals := 824 } 8) (R : zRt E (some .int) (zQi D g ad Q A) 0 0 A) (S : zSt g A (zst E) (zst E).heap) : ∀ (n : Nat) (v2 : Int) (v3 : Int) (σ : zS), lp_CX_clockRetimed_22 Q n v2 v3 σ → zW E (zOK D A (zst E) g ad) 0 0 22 [(0, .ref (ad (0, 0))), (2, .int (zi v2)), (3, .int (zi v3))] [] σ := by
  intro n
  induction n with
  | zero =>
    intro v2 v3 σ h
    exact h.elim
  | succ n ih =>
    intro v2 v3 σ h
    refine z_iload_n C (pc := 22) d_CX_clockRetimed_22 1 rfl ?_
    obtain ⟨hc4, h⟩ := h
    refine z_if_eq (tgt := 174) C (pc := 23) d_CX_clockRetimed_23 (by decide) hc4 h (fun h => ?_) (fun h => ?_)
    · refine z_sub [0] rfl ?_
      exact wk_CX_clockRetimed_174 C R S _ h
    · refine z_iload_n C (pc := 26) d_CX_clockRetimed_26 2 rfl ?_
      refine z_bipush C (pc := 27) d_CX_clockRetimed_27 (by decide) ?_
      obtain ⟨hc20, h⟩ := h
      refine z_icmp_gt (tgt := 174) C (pc := 29) d_CX_clockRetimed_29 (by decide) hc20 (by decide) h (fun h => ?_) (fun h => ?_)
      · refine z_sub [0] rfl ?_
        exact wk_CX_clockRetimed_174 C R S _ h
      · refine z_iconst C (pc := 32) d_CX_clockRetimed_32 ?_
        refine z_istore_n (L' := [(2, .int (zi 0)), (0, .ref (ad (0, 0))), (3, .int (zi v3))]) C (pc := 33) d_CX_clockRetimed_33 (by decide) rfl ?_
        refine z_iconst C (pc := 34) d_CX_clockRetimed_34 ?_
        refine z_istore (L' := [(4, .int (zi 0)), (2, .int (zi 0)), (0, .ref (ad (0, 0))), (3, .int (zi v3))]) C (pc := 35) d_CX_clockRetimed_35 (by decide) rfl ?_
        refine z_sub [2, 1, 3, 0] rfl ?_
        obtain ⟨n49, h⟩ := h
        exact wk_CX_clockRetimed_37 C R S ih n49 _ _ _ _ h
set_option maxHeartbeats 4000000 in
set_option maxRecDepth 100000 in
theorem c_CX_clockRetimed (l : Launch) (D : va_G) (g : zG) (ad : zA) (v1 : Int) (Q : Int → zS → Prop) (σ : zS) (h : wp_CX_clockRetimed Q v1 σ) : zGi l y_CX_clockRetimed b_CX_clockRetimed 8 (some .int) { frames := 25, cells := 0, slots := 0, locals := 824 } D g ad σ [.ref (ad (0, 0)), .int (zi v1)] Q := by
  unfold wp_CX_clockRetimed at h
  refine zN_of (by decide) (Nat.le_of_ble_eq_true rfl) (fun E C R S => ?_)
  have C : zX E b_CX_clockRetimed R_CX D g { frames := 25, cells := 0, slots := 0, locals := 824 } 8 := C
  refine z_sub (L' := [(0, .ref (ad (0, 0))), (1, .int (zi v1))]) [0, 1] rfl ?_
  refine z_aload_n C (pc := 0) d_CX_clockRetimed_0 0 rfl ?_
  refine x_getX (v := .int (zi (σ 56 0))) C 8 (by decide) rfl wd_93 (pc := 1) d_CX_clockRetimed_1 ?_
  obtain ⟨hc1, h⟩ := h
  refine z_if_ne (tgt := 10) C (pc := 4) d_CX_clockRetimed_4 (by decide) hc1 h (fun h => ?_) (fun h => ?_)
  · refine z_aload_n C (pc := 10) d_CX_clockRetimed_10 0 rfl ?_
    refine x_getX (v := .ref (ad (1, 2))) C 3 (by decide) rfl wd_88 (pc := 11) d_CX_clockRetimed_11 ?_
    refine z_iload_n C (pc := 14) d_CX_clockRetimed_14 1 rfl ?_
    refine x_callSv (As := [.ref (ad (1, 2)), .int (zi v1)]) (st := []) C S fs_CX_feed wd_677 (pc := 15) d_CX_clockRetimed_15 ⟨rfl, rfl, Nat.le_of_ble_eq_true rfl, Nat.le_of_ble_eq_true rfl⟩ rfl rfl (Nat.le_of_ble_eq_true rfl) h (c_CX_feed (zln E) D g ad _ _ _) (fun σ2 h => ?_)
    refine z_iconst C (pc := 18) d_CX_clockRetimed_18 ?_
    refine z_istore_n (L' := [(2, .int (zi 1)), (0, .ref (ad (0, 0))), (1, .int (zi v1))]) C (pc := 19) d_CX_clockRetimed_19 (by decide) rfl ?_
    refine z_iconst C (pc := 20) d_CX_clockRetimed_20 ?_
    refine z_istore_n (L' := [(3, .int (zi 0)), (2, .int (zi 1)), (0, .ref (ad (0, 0))), (1, .int (zi v1))]) C (pc := 21) d_CX_clockRetimed_21 (by decide) rfl ?_
    refine z_sub [2, 1, 0] rfl ?_
    obtain ⟨n50, h⟩ := h
    exact wk_CX_clockRetimed_22 C R S n50 _ _ _ h
  · refine z_bipush C (pc := 7) d_CX_clockRetimed_7 (by decide) ?_
    exact z_iret C R (pc := 9) d_CX_clockRetimed_9 h
