theorem d_MM_clockRetimed_0 : decode b_MM_clockRetimed 0 = .ok (.aload_n 0, 1) := by decide +kernel
theorem d_MM_clockRetimed_1 : decode b_MM_clockRetimed 1 = .ok (.getfield 171, 3) := by decide +kernel
theorem d_MM_clockRetimed_4 : decode b_MM_clockRetimed 4 = .ok (.ifCond .ne 6, 3) := by decide +kernel
theorem d_MM_clockRetimed_7 : decode b_MM_clockRetimed 7 = .ok (.bipush (-6), 2) := by decide +kernel
theorem d_MM_clockRetimed_9 : decode b_MM_clockRetimed 9 = .ok (.ireturn, 1) := by decide +kernel
theorem d_MM_clockRetimed_10 : decode b_MM_clockRetimed 10 = .ok (.iconst 0, 1) := by decide +kernel
theorem d_MM_clockRetimed_11 : decode b_MM_clockRetimed 11 = .ok (.istore_n 2, 1) := by decide +kernel
theorem d_MM_clockRetimed_12 : decode b_MM_clockRetimed 12 = .ok (.iload_n 2, 1) := by decide +kernel
theorem d_MM_clockRetimed_13 : decode b_MM_clockRetimed 13 = .ok (.aload_n 0, 1) := by decide +kernel
theorem d_MM_clockRetimed_14 : decode b_MM_clockRetimed 14 = .ok (.getfield 135, 3) := by decide +kernel
theorem d_MM_clockRetimed_17 : decode b_MM_clockRetimed 17 = .ok (.if_icmp .ge 54, 3) := by decide +kernel
theorem d_MM_clockRetimed_20 : decode b_MM_clockRetimed 20 = .ok (.aload_n 0, 1) := by decide +kernel
theorem d_MM_clockRetimed_21 : decode b_MM_clockRetimed 21 = .ok (.getfield 126, 3) := by decide +kernel
theorem d_MM_clockRetimed_24 : decode b_MM_clockRetimed 24 = .ok (.iload_n 2, 1) := by decide +kernel
theorem d_MM_clockRetimed_25 : decode b_MM_clockRetimed 25 = .ok (.aload_n 0, 1) := by decide +kernel
theorem d_MM_clockRetimed_26 : decode b_MM_clockRetimed 26 = .ok (.getfield 40, 3) := by decide +kernel
theorem d_MM_clockRetimed_29 : decode b_MM_clockRetimed 29 = .ok (.iload_n 2, 1) := by decide +kernel
theorem d_MM_clockRetimed_30 : decode b_MM_clockRetimed 30 = .ok (.iaload, 1) := by decide +kernel
theorem d_MM_clockRetimed_31 : decode b_MM_clockRetimed 31 = .ok (.ifCond .ne 7, 3) := by decide +kernel
theorem d_MM_clockRetimed_34 : decode b_MM_clockRetimed 34 = .ok (.iconst 1, 1) := by decide +kernel
theorem d_MM_clockRetimed_35 : decode b_MM_clockRetimed 35 = .ok (.goto 4, 3) := by decide +kernel
theorem d_MM_clockRetimed_38 : decode b_MM_clockRetimed 38 = .ok (.iconst 0, 1) := by decide +kernel
theorem d_MM_clockRetimed_39 : decode b_MM_clockRetimed 39 = .ok (.bastore, 1) := by decide +kernel
theorem d_MM_clockRetimed_40 : decode b_MM_clockRetimed 40 = .ok (.aload_n 0, 1) := by decide +kernel
theorem d_MM_clockRetimed_41 : decode b_MM_clockRetimed 41 = .ok (.getfield 129, 3) := by decide +kernel
theorem d_MM_clockRetimed_44 : decode b_MM_clockRetimed 44 = .ok (.iload_n 2, 1) := by decide +kernel
theorem d_MM_clockRetimed_45 : decode b_MM_clockRetimed 45 = .ok (.aload_n 0, 1) := by decide +kernel
theorem d_MM_clockRetimed_46 : decode b_MM_clockRetimed 46 = .ok (.getfield 126, 3) := by decide +kernel
theorem d_MM_clockRetimed_49 : decode b_MM_clockRetimed 49 = .ok (.iload_n 2, 1) := by decide +kernel
theorem d_MM_clockRetimed_50 : decode b_MM_clockRetimed 50 = .ok (.baload, 1) := by decide +kernel
theorem d_MM_clockRetimed_51 : decode b_MM_clockRetimed 51 = .ok (.ifCond .eq 12, 3) := by decide +kernel
theorem d_MM_clockRetimed_54 : decode b_MM_clockRetimed 54 = .ok (.aload_n 0, 1) := by decide +kernel
theorem d_MM_clockRetimed_55 : decode b_MM_clockRetimed 55 = .ok (.iload_n 2, 1) := by decide +kernel
theorem d_MM_clockRetimed_56 : decode b_MM_clockRetimed 56 = .ok (.iload_n 1, 1) := by decide +kernel
theorem d_MM_clockRetimed_57 : decode b_MM_clockRetimed 57 = .ok (.invokevirtual 300, 3) := by decide +kernel
theorem d_MM_clockRetimed_60 : decode b_MM_clockRetimed 60 = .ok (.goto 4, 3) := by decide +kernel
theorem d_MM_clockRetimed_63 : decode b_MM_clockRetimed 63 = .ok (.iconst 0, 1) := by decide +kernel
theorem d_MM_clockRetimed_64 : decode b_MM_clockRetimed 64 = .ok (.iastore, 1) := by decide +kernel
theorem d_MM_clockRetimed_65 : decode b_MM_clockRetimed 65 = .ok (.iinc 2 1, 3) := by decide +kernel
theorem d_MM_clockRetimed_68 : decode b_MM_clockRetimed 68 = .ok (.goto (-56), 3) := by decide +kernel
theorem d_MM_clockRetimed_71 : decode b_MM_clockRetimed 71 = .ok (.iconst 1, 1) := by decide +kernel
theorem d_MM_clockRetimed_72 : decode b_MM_clockRetimed 72 = .ok (.istore_n 2, 1) := by decide +kernel
theorem d_MM_clockRetimed_73 : decode b_MM_clockRetimed 73 = .ok (.iload_n 2, 1) := by decide +kernel
theorem d_MM_clockRetimed_74 : decode b_MM_clockRetimed 74 = .ok (.ifCond .eq 60, 3) := by decide +kernel
theorem d_MM_clockRetimed_77 : decode b_MM_clockRetimed 77 = .ok (.iconst 0, 1) := by decide +kernel
theorem d_MM_clockRetimed_78 : decode b_MM_clockRetimed 78 = .ok (.istore_n 2, 1) := by decide +kernel
theorem d_MM_clockRetimed_79 : decode b_MM_clockRetimed 79 = .ok (.iconst 0, 1) := by decide +kernel
theorem d_MM_clockRetimed_80 : decode b_MM_clockRetimed 80 = .ok (.istore_n 3, 1) := by decide +kernel
theorem d_MM_clockRetimed_81 : decode b_MM_clockRetimed 81 = .ok (.iload_n 3, 1) := by decide +kernel
theorem d_MM_clockRetimed_82 : decode b_MM_clockRetimed 82 = .ok (.aload_n 0, 1) := by decide +kernel
theorem d_MM_clockRetimed_83 : decode b_MM_clockRetimed 83 = .ok (.getfield 135, 3) := by decide +kernel
theorem d_MM_clockRetimed_86 : decode b_MM_clockRetimed 86 = .ok (.if_icmp .ge 45, 3) := by decide +kernel
theorem d_MM_clockRetimed_89 : decode b_MM_clockRetimed 89 = .ok (.aload_n 0, 1) := by decide +kernel
theorem d_MM_clockRetimed_90 : decode b_MM_clockRetimed 90 = .ok (.getfield 83, 3) := by decide +kernel
theorem d_MM_clockRetimed_93 : decode b_MM_clockRetimed 93 = .ok (.iload_n 3, 1) := by decide +kernel
theorem d_MM_clockRetimed_94 : decode b_MM_clockRetimed 94 = .ok (.baload, 1) := by decide +kernel
theorem d_MM_clockRetimed_95 : decode b_MM_clockRetimed 95 = .ok (.ifCond .eq 20, 3) := by decide +kernel
theorem d_MM_clockRetimed_98 : decode b_MM_clockRetimed 98 = .ok (.aload_n 0, 1) := by decide +kernel
theorem d_MM_clockRetimed_99 : decode b_MM_clockRetimed 99 = .ok (.getfield 126, 3) := by decide +kernel
theorem d_MM_clockRetimed_102 : decode b_MM_clockRetimed 102 = .ok (.iload_n 3, 1) := by decide +kernel
theorem d_MM_clockRetimed_103 : decode b_MM_clockRetimed 103 = .ok (.baload, 1) := by decide +kernel
theorem d_MM_clockRetimed_104 : decode b_MM_clockRetimed 104 = .ok (.ifCond .ne 11, 3) := by decide +kernel
theorem d_MM_clockRetimed_107 : decode b_MM_clockRetimed 107 = .ok (.aload_n 0, 1) := by decide +kernel
theorem d_MM_clockRetimed_108 : decode b_MM_clockRetimed 108 = .ok (.iload_n 3, 1) := by decide +kernel
theorem d_MM_clockRetimed_109 : decode b_MM_clockRetimed 109 = .ok (.invokevirtual 309, 3) := by decide +kernel
theorem d_MM_clockRetimed_112 : decode b_MM_clockRetimed 112 = .ok (.ifCond .ne 7, 3) := by decide +kernel
theorem d_MM_clockRetimed_115 : decode b_MM_clockRetimed 115 = .ok (.iload_n 2, 1) := by decide +kernel
theorem d_MM_clockRetimed_116 : decode b_MM_clockRetimed 116 = .ok (.ifCond .eq 7, 3) := by decide +kernel
theorem d_MM_clockRetimed_119 : decode b_MM_clockRetimed 119 = .ok (.iconst 1, 1) := by decide +kernel
theorem d_MM_clockRetimed_120 : decode b_MM_clockRetimed 120 = .ok (.goto 4, 3) := by decide +kernel
theorem d_MM_clockRetimed_123 : decode b_MM_clockRetimed 123 = .ok (.iconst 0, 1) := by decide +kernel
theorem d_MM_clockRetimed_124 : decode b_MM_clockRetimed 124 = .ok (.istore_n 2, 1) := by decide +kernel
theorem d_MM_clockRetimed_125 : decode b_MM_clockRetimed 125 = .ok (.iinc 3 1, 3) := by decide +kernel
theorem d_MM_clockRetimed_128 : decode b_MM_clockRetimed 128 = .ok (.goto (-47), 3) := by decide +kernel
theorem d_MM_clockRetimed_131 : decode b_MM_clockRetimed 131 = .ok (.goto (-58), 3) := by decide +kernel
theorem d_MM_clockRetimed_134 : decode b_MM_clockRetimed 134 = .ok (.iconst 0, 1) := by decide +kernel
theorem d_MM_clockRetimed_135 : decode b_MM_clockRetimed 135 = .ok (.istore_n 3, 1) := by decide +kernel
theorem d_MM_clockRetimed_136 : decode b_MM_clockRetimed 136 = .ok (.iconst 0, 1) := by decide +kernel
theorem d_MM_clockRetimed_137 : decode b_MM_clockRetimed 137 = .ok (.istore 4, 2) := by decide +kernel
theorem d_MM_clockRetimed_139 : decode b_MM_clockRetimed 139 = .ok (.iload 4, 2) := by decide +kernel
theorem d_MM_clockRetimed_141 : decode b_MM_clockRetimed 141 = .ok (.aload_n 0, 1) := by decide +kernel
theorem d_MM_clockRetimed_142 : decode b_MM_clockRetimed 142 = .ok (.getfield 194, 3) := by decide +kernel
theorem d_MM_clockRetimed_145 : decode b_MM_clockRetimed 145 = .ok (.if_icmp .ge 25, 3) := by decide +kernel
theorem d_MM_clockRetimed_148 : decode b_MM_clockRetimed 148 = .ok (.iload_n 3, 1) := by decide +kernel
theorem d_MM_clockRetimed_149 : decode b_MM_clockRetimed 149 = .ok (.aload_n 0, 1) := by decide +kernel
theorem d_MM_clockRetimed_150 : decode b_MM_clockRetimed 150 = .ok (.sipush 192, 3) := by decide +kernel
theorem d_MM_clockRetimed_153 : decode b_MM_clockRetimed 153 = .ok (.iload 4, 2) := by decide +kernel
theorem d_MM_clockRetimed_155 : decode b_MM_clockRetimed 155 = .ok (.iadd, 1) := by decide +kernel
theorem d_MM_clockRetimed_156 : decode b_MM_clockRetimed 156 = .ok (.invokevirtual 306, 3) := by decide +kernel
theorem d_MM_clockRetimed_159 : decode b_MM_clockRetimed 159 = .ok (.iload 4, 2) := by decide +kernel
theorem d_MM_clockRetimed_161 : decode b_MM_clockRetimed 161 = .ok (.ishl, 1) := by decide +kernel
theorem d_MM_clockRetimed_162 : decode b_MM_clockRetimed 162 = .ok (.ior, 1) := by decide +kernel
theorem d_MM_clockRetimed_163 : decode b_MM_clockRetimed 163 = .ok (.istore_n 3, 1) := by decide +kernel
theorem d_MM_clockRetimed_164 : decode b_MM_clockRetimed 164 = .ok (.iinc 4 1, 3) := by decide +kernel
theorem d_MM_clockRetimed_167 : decode b_MM_clockRetimed 167 = .ok (.goto (-28), 3) := by decide +kernel
theorem d_MM_clockRetimed_170 : decode b_MM_clockRetimed 170 = .ok (.iconst 0, 1) := by decide +kernel
theorem d_MM_clockRetimed_171 : decode b_MM_clockRetimed 171 = .ok (.istore 4, 2) := by decide +kernel
theorem d_MM_clockRetimed_173 : decode b_MM_clockRetimed 173 = .ok (.iload 4, 2) := by decide +kernel
theorem d_MM_clockRetimed_175 : decode b_MM_clockRetimed 175 = .ok (.sipush 196, 3) := by decide +kernel
theorem d_MM_clockRetimed_178 : decode b_MM_clockRetimed 178 = .ok (.if_icmp .ge 71, 3) := by decide +kernel
theorem d_MM_clockRetimed_181 : decode b_MM_clockRetimed 181 = .ok (.aload_n 0, 1) := by decide +kernel
theorem d_MM_clockRetimed_182 : decode b_MM_clockRetimed 182 = .ok (.getfield 92, 3) := by decide +kernel
theorem d_MM_clockRetimed_185 : decode b_MM_clockRetimed 185 = .ok (.iload 4, 2) := by decide +kernel
theorem d_MM_clockRetimed_187 : decode b_MM_clockRetimed 187 = .ok (.iaload, 1) := by decide +kernel
theorem d_MM_clockRetimed_188 : decode b_MM_clockRetimed 188 = .ok (.ifCond .lt 55, 3) := by decide +kernel
theorem d_MM_clockRetimed_191 : decode b_MM_clockRetimed 191 = .ok (.aload_n 0, 1) := by decide +kernel
theorem d_MM_clockRetimed_192 : decode b_MM_clockRetimed 192 = .ok (.getfield 102, 3) := by decide +kernel
theorem d_MM_clockRetimed_195 : decode b_MM_clockRetimed 195 = .ok (.iload 4, 2) := by decide +kernel
theorem d_MM_clockRetimed_197 : decode b_MM_clockRetimed 197 = .ok (.iaload, 1) := by decide +kernel
theorem d_MM_clockRetimed_198 : decode b_MM_clockRetimed 198 = .ok (.ifCond .le 45, 3) := by decide +kernel
theorem d_MM_clockRetimed_201 : decode b_MM_clockRetimed 201 = .ok (.aload_n 0, 1) := by decide +kernel
theorem d_MM_clockRetimed_202 : decode b_MM_clockRetimed 202 = .ok (.getfield 108, 3) := by decide +kernel
theorem d_MM_clockRetimed_205 : decode b_MM_clockRetimed 205 = .ok (.iload 4, 2) := by decide +kernel
theorem d_MM_clockRetimed_207 : decode b_MM_clockRetimed 207 = .ok (.aload_n 0, 1) := by decide +kernel
theorem d_MM_clockRetimed_208 : decode b_MM_clockRetimed 208 = .ok (.getfield 108, 3) := by decide +kernel
theorem d_MM_clockRetimed_211 : decode b_MM_clockRetimed 211 = .ok (.iload 4, 2) := by decide +kernel
theorem d_MM_clockRetimed_213 : decode b_MM_clockRetimed 213 = .ok (.laload, 1) := by decide +kernel
theorem d_MM_clockRetimed_214 : decode b_MM_clockRetimed 214 = .ok (.iconst 1, 1) := by decide +kernel
theorem d_MM_clockRetimed_215 : decode b_MM_clockRetimed 215 = .ok (.lshl, 1) := by decide +kernel
theorem d_MM_clockRetimed_216 : decode b_MM_clockRetimed 216 = .ok (.aload_n 0, 1) := by decide +kernel
theorem d_MM_clockRetimed_217 : decode b_MM_clockRetimed 217 = .ok (.getfield 129, 3) := by decide +kernel
theorem d_MM_clockRetimed_220 : decode b_MM_clockRetimed 220 = .ok (.aload_n 0, 1) := by decide +kernel
theorem d_MM_clockRetimed_221 : decode b_MM_clockRetimed 221 = .ok (.getfield 92, 3) := by decide +kernel
theorem d_MM_clockRetimed_224 : decode b_MM_clockRetimed 224 = .ok (.iload 4, 2) := by decide +kernel
theorem d_MM_clockRetimed_226 : decode b_MM_clockRetimed 226 = .ok (.iaload, 1) := by decide +kernel
theorem d_MM_clockRetimed_227 : decode b_MM_clockRetimed 227 = .ok (.iaload, 1) := by decide +kernel
theorem d_MM_clockRetimed_228 : decode b_MM_clockRetimed 228 = .ok (.i2l, 1) := by decide +kernel
theorem d_MM_clockRetimed_229 : decode b_MM_clockRetimed 229 = .ok (.lor, 1) := by decide +kernel
theorem d_MM_clockRetimed_230 : decode b_MM_clockRetimed 230 = .ok (.lconst 1, 1) := by decide +kernel
theorem d_MM_clockRetimed_231 : decode b_MM_clockRetimed 231 = .ok (.aload_n 0, 1) := by decide +kernel
theorem d_MM_clockRetimed_232 : decode b_MM_clockRetimed 232 = .ok (.getfield 102, 3) := by decide +kernel
theorem d_MM_clockRetimed_235 : decode b_MM_clockRetimed 235 = .ok (.iload 4, 2) := by decide +kernel
theorem d_MM_clockRetimed_237 : decode b_MM_clockRetimed 237 = .ok (.iaload, 1) := by decide +kernel
theorem d_MM_clockRetimed_238 : decode b_MM_clockRetimed 238 = .ok (.lshl, 1) := by decide +kernel
theorem d_MM_clockRetimed_239 : decode b_MM_clockRetimed 239 = .ok (.lconst 1, 1) := by decide +kernel
theorem d_MM_clockRetimed_240 : decode b_MM_clockRetimed 240 = .ok (.lsub, 1) := by decide +kernel
theorem d_MM_clockRetimed_241 : decode b_MM_clockRetimed 241 = .ok (.land, 1) := by decide +kernel
theorem d_MM_clockRetimed_242 : decode b_MM_clockRetimed 242 = .ok (.lastore, 1) := by decide +kernel
theorem d_MM_clockRetimed_243 : decode b_MM_clockRetimed 243 = .ok (.iinc 4 1, 3) := by decide +kernel
theorem d_MM_clockRetimed_246 : decode b_MM_clockRetimed 246 = .ok (.goto (-73), 3) := by decide +kernel
theorem d_MM_clockRetimed_249 : decode b_MM_clockRetimed 249 = .ok (.iload_n 3, 1) := by decide +kernel
theorem d_MM_clockRetimed_250 : decode b_MM_clockRetimed 250 = .ok (.ireturn, 1) := by decide +kernel
def lp_MM_clockRetimed_173 (Q : Int → zS → Prop) : Nat → Int → Int → zS → Prop
  | 0 => fun _ _ _ => False
  | n + 1 => fun v3 v4 σ =>
    zc v4 ∧ ((196 ≤ v4 →
      Q v3 σ) ∧
     (¬ 196 ≤ v4 →
      0 ≤ v4 ∧ v4 < 196 ∧ 
      zc (σ 135 v4) ∧ ((σ 135 v4 < 0 →
        lp_MM_clockRetimed_173 Q n v3 (v4 + 1) σ) ∧
       (¬ σ 135 v4 < 0 →
        zc (σ 138 v4) ∧ ((σ 138 v4 ≤ 0 →
          lp_MM_clockRetimed_173 Q n v3 (v4 + 1) σ) ∧
         (¬ σ 138 v4 ≤ 0 →
          0 ≤ σ 135 v4 ∧ σ 135 v4 < 48 ∧ 
          zc (σ 149 (σ 135 v4)) ∧ 
          ∀ σ25, σ25 = zup σ 140 v4 (zland (zlor (zlshl (σ 140 v4) 1) (σ 149 (σ 135 v4))) ((zlshl 1 (σ 138 v4)) - 1)) →
          lp_MM_clockRetimed_173 Q n v3 (v4 + 1) σ25))))))
def lp_MM_clockRetimed_139 (Q : Int → zS → Prop) : Nat → Int → Int → zS → Prop
  | 0 => fun _ _ _ => False
  | n + 1 => fun v3 v4 σ =>
    zc v4 ∧ zc (σ 118 0) ∧ ((σ 118 0 ≤ v4 →
      ∃ u173, lp_MM_clockRetimed_173 Q u173 v3 0 σ) ∧
     (¬ σ 118 0 ≤ v4 →
      wp_MM_ending (fun r28 σ27 =>
        ∀ y29, y29 = zor v3 (zshl r28 v4) →
        lp_MM_clockRetimed_139 Q n y29 (v4 + 1) σ27) (192 + v4) σ))
def bk_MM_clockRetimed_124 (Q : Int → zS → Prop) (J73 : Int → zS → Prop) (J81 : Int → Int → zS → Prop) (v3 : Int) (z0 : Int) (σ : zS) : Prop :=
  J81 z0 (v3 + 1) σ
def bk_MM_clockRetimed_119 (Q : Int → zS → Prop) (J73 : Int → zS → Prop) (J81 : Int → Int → zS → Prop) (v3 : Int) (σ : zS) : Prop :=
  bk_MM_clockRetimed_124 Q J73 J81 v3 1 σ
def bk_MM_clockRetimed_115 (Q : Int → zS → Prop) (J73 : Int → zS → Prop) (J81 : Int → Int → zS → Prop) (v2 : Int) (v3 : Int) (σ : zS) : Prop :=
  zc v2 ∧ ((v2 = 0 →
    bk_MM_clockRetimed_124 Q J73 J81 v3 0 σ) ∧
   (¬ v2 = 0 →
    bk_MM_clockRetimed_119 Q J73 J81 v3 σ))
def lp_MM_clockRetimed_81 (Q : Int → zS → Prop) (J73 : Int → zS → Prop) : Nat → Int → Int → zS → Prop
  | 0 => fun _ _ _ => False
  | n + 1 => fun v2 v3 σ =>
    zc v3 ∧ zc (σ 113 0) ∧ ((σ 113 0 ≤ v3 →
      J73 v2 σ) ∧
     (¬ σ 113 0 ≤ v3 →
      0 ≤ v3 ∧ v3 < 48 ∧ 
      zc (σ 131 v3) ∧ ((σ 131 v3 = 0 →
        bk_MM_clockRetimed_115 Q J73 (lp_MM_clockRetimed_81 Q J73 n) v2 v3 σ) ∧
       (¬ σ 131 v3 = 0 →
        zc (σ 148 v3) ∧ ((σ 148 v3 = 0 →
          wp_MM_worked (fun r41 σ40 =>
            zc r41 ∧ ((r41 = 0 →
              bk_MM_clockRetimed_115 Q J73 (lp_MM_clockRetimed_81 Q J73 n) v2 v3 σ40) ∧
             (¬ r41 = 0 →
              bk_MM_clockRetimed_119 Q J73 (lp_MM_clockRetimed_81 Q J73 n) v3 σ40))) v3 σ) ∧
         (¬ σ 148 v3 = 0 →
          bk_MM_clockRetimed_115 Q J73 (lp_MM_clockRetimed_81 Q J73 n) v2 v3 σ))))))
def lp_MM_clockRetimed_73 (Q : Int → zS → Prop) : Nat → Int → zS → Prop
  | 0 => fun _ _ => False
  | n + 1 => fun v2 σ =>
    zc v2 ∧ ((v2 = 0 →
      ∃ u139, lp_MM_clockRetimed_139 Q u139 0 0 σ) ∧
     (¬ v2 = 0 →
      ∃ u81, lp_MM_clockRetimed_81 Q (lp_MM_clockRetimed_73 Q n) u81 0 0 σ))
def bk_MM_clockRetimed_64 (Q : Int → zS → Prop) (J12 : Int → Int → zS → Prop) (v1 : Int) (v2 : Int) (z0 : Int) (z1 : Int) (σ : zS) : Prop :=
  0 ≤ z1 ∧ z1 < 48 ∧ ∀ σ57, σ57 = zup σ 149 z1 z0 →
  J12 v1 (v2 + 1) σ57
def bk_MM_clockRetimed_39 (Q : Int → zS → Prop) (J12 : Int → Int → zS → Prop) (v1 : Int) (v2 : Int) (z0 : Int) (z1 : Int) (σ : zS) : Prop :=
  0 ≤ z1 ∧ z1 < 48 ∧ (z0 = 0 ∨ z0 = 1) ∧ ∀ σ51, σ51 = zup σ 148 z1 z0 →
  0 ≤ v2 ∧ v2 < 48 ∧ 
  zc (σ51 148 v2) ∧ ((σ51 148 v2 = 0 →
    bk_MM_clockRetimed_64 Q J12 v1 v2 0 v2 σ51) ∧
   (¬ σ51 148 v2 = 0 →
    wp_MM_entering (fun r59 σ58 =>
      bk_MM_clockRetimed_64 Q J12 v1 v2 r59 v2 σ58) v2 v1 σ51))
def lp_MM_clockRetimed_12 (Q : Int → zS → Prop) : Nat → Int → Int → zS → Prop
  | 0 => fun _ _ _ => False
  | n + 1 => fun v1 v2 σ =>
    zc v2 ∧ zc (σ 113 0) ∧ ((σ 113 0 ≤ v2 →
      ∃ u73, lp_MM_clockRetimed_73 Q u73 1 σ) ∧
     (¬ σ 113 0 ≤ v2 →
      0 ≤ v2 ∧ v2 < 48 ∧ 
      zc (σ 114 v2) ∧ ((σ 114 v2 = 0 →
        bk_MM_clockRetimed_39 Q (lp_MM_clockRetimed_12 Q n) v1 v2 1 v2 σ) ∧
       (¬ σ 114 v2 = 0 →
        bk_MM_clockRetimed_39 Q (lp_MM_clockRetimed_12 Q n) v1 v2 0 v2 σ))))
def wp_MM_clockRetimed (Q : Int → zS → Prop) (v1 : Int) (σ : zS) : Prop :=
  zc (σ 124 0) ∧ ((σ 124 0 = 0 →
    Q (-6) σ) ∧
   (¬ σ 124 0 = 0 →
    ∃ u12, lp_MM_clockRetimed_12 Q u12 v1 0 σ))
set_option maxHeartbeats 4000000 in
set_option maxRecDepth 100000 in
theorem wk_MM_clockRetimed_173 {E : zE} {D : va_G} {g : zG} {A : Nat → Prop} {ad : zA} {Q : Int → zS → Prop} (C : zX E b_MM_clockRetimed R_MM D g { frames := 3, cells := 0, slots := 0, locals := 73 } 5) (R : zRt E (some .int) (zQi D g ad Q A) 0 0 A) : ∀ (n : Nat) (v3 : Int) (v4 : Int) (σ : zS), lp_MM_clockRetimed_173 Q n v3 v4 σ → zW E (zOK D A (zst E) g ad) 0 0 173 [(0, .ref (ad (0, 3))), (3, .int (zi v3)), (4, .int (zi v4))] [] σ := by
  intro n
  induction n with
  | zero =>
    intro v3 v4 σ h
    exact h.elim
  | succ n ih =>
    intro v3 v4 σ h
    refine z_iload C (pc := 173) d_MM_clockRetimed_173 2 rfl ?_
    refine z_sipush C (pc := 175) d_MM_clockRetimed_175 (by decide) ?_
    obtain ⟨hc7, h⟩ := h
    refine z_icmp_ge (tgt := 249) C (pc := 178) d_MM_clockRetimed_178 (by decide) hc7 (by decide) h (fun h => ?_) (fun h => ?_)
    · refine z_iload_n C (pc := 249) d_MM_clockRetimed_249 1 rfl ?_
      exact z_iret C R (pc := 250) d_MM_clockRetimed_250 h
    · refine z_aload_n C (pc := 181) d_MM_clockRetimed_181 0 rfl ?_
      refine m_getA C 35 (by decide) rfl wd_739 (pc := 182) d_MM_clockRetimed_182 ?_
      refine z_iload C (pc := 185) d_MM_clockRetimed_185 2 rfl ?_
      obtain ⟨hc8, hc9, h⟩ := h
      refine m_iald C 35 135 196 rfl rfl (by decide) hc8 hc9 (pc := 187) d_MM_clockRetimed_187 ?_
      obtain ⟨hc10, h⟩ := h
      refine z_if_lt (tgt := 243) C (pc := 188) d_MM_clockRetimed_188 (by decide) hc10 h (fun h => ?_) (fun h => ?_)
      · refine z_iinc (L' := [(4, .int (zi (v4 + 1))), (0, .ref (ad (0, 3))), (3, .int (zi v3))]) C (pc := 243) d_MM_clockRetimed_243 2 rfl (by decide) rfl ?_
        refine z_goto (tgt := 173) C (pc := 246) d_MM_clockRetimed_246 (by decide) ?_
        refine z_sub [1, 2, 0] rfl ?_
        exact ih _ _ _ h
      · refine z_aload_n C (pc := 191) d_MM_clockRetimed_191 0 rfl ?_
        refine m_getA C 38 (by decide) rfl wd_742 (pc := 192) d_MM_clockRetimed_192 ?_
        refine z_iload C (pc := 195) d_MM_clockRetimed_195 2 rfl ?_
        refine m_iald C 38 138 196 rfl rfl (by decide) hc8 hc9 (pc := 197) d_MM_clockRetimed_197 ?_
        obtain ⟨hc13, h⟩ := h
        refine z_if_le (tgt := 243) C (pc := 198) d_MM_clockRetimed_198 (by decide) hc13 h (fun h => ?_) (fun h => ?_)
        · refine z_iinc (L' := [(4, .int (zi (v4 + 1))), (0, .ref (ad (0, 3))), (3, .int (zi v3))]) C (pc := 243) d_MM_clockRetimed_243 2 rfl (by decide) rfl ?_
          refine z_goto (tgt := 173) C (pc := 246) d_MM_clockRetimed_246 (by decide) ?_
          refine z_sub [1, 2, 0] rfl ?_
          exact ih _ _ _ h
        · refine z_aload_n C (pc := 201) d_MM_clockRetimed_201 0 rfl ?_
          refine m_getA C 40 (by decide) rfl wd_744 (pc := 202) d_MM_clockRetimed_202 ?_
          refine z_iload C (pc := 205) d_MM_clockRetimed_205 2 rfl ?_
          refine z_aload_n C (pc := 207) d_MM_clockRetimed_207 0 rfl ?_
          refine m_getA C 40 (by decide) rfl wd_744 (pc := 208) d_MM_clockRetimed_208 ?_
          refine z_iload C (pc := 211) d_MM_clockRetimed_211 2 rfl ?_
          refine m_lald C 40 140 196 rfl rfl (by decide) hc8 hc9 (pc := 213) d_MM_clockRetimed_213 ?_
          refine z_iconst C (pc := 214) d_MM_clockRetimed_214 ?_
          refine z_lshl C (pc := 215) d_MM_clockRetimed_215 ?_
          refine z_aload_n C (pc := 216) d_MM_clockRetimed_216 0 rfl ?_
          refine m_getA C 49 (by decide) rfl wd_753 (pc := 217) d_MM_clockRetimed_217 ?_
          refine z_aload_n C (pc := 220) d_MM_clockRetimed_220 0 rfl ?_
          refine m_getA C 35 (by decide) rfl wd_739 (pc := 221) d_MM_clockRetimed_221 ?_
          refine z_iload C (pc := 224) d_MM_clockRetimed_224 2 rfl ?_
          refine m_iald C 35 135 196 rfl rfl (by decide) hc8 hc9 (pc := 226) d_MM_clockRetimed_226 ?_
          obtain ⟨hc18, hc19, h⟩ := h
          refine m_iald C 49 149 48 rfl rfl (by decide) hc18 hc19 (pc := 227) d_MM_clockRetimed_227 ?_
          obtain ⟨hc20, h⟩ := h
          refine z_i2l C (pc := 228) d_MM_clockRetimed_228 hc20 ?_
          refine z_lor C (pc := 229) d_MM_clockRetimed_229 ?_
          refine z_lconst (y := 1) C (pc := 230) d_MM_clockRetimed_230 (by decide) ?_
          refine z_aload_n C (pc := 231) d_MM_clockRetimed_231 0 rfl ?_
          refine m_getA C 38 (by decide) rfl wd_742 (pc := 232) d_MM_clockRetimed_232 ?_
          refine z_iload C (pc := 235) d_MM_clockRetimed_235 2 rfl ?_
          refine m_iald C 38 138 196 rfl rfl (by decide) hc8 hc9 (pc := 237) d_MM_clockRetimed_237 ?_
          refine z_lshl C (pc := 238) d_MM_clockRetimed_238 ?_
          refine z_lconst (y := 1) C (pc := 239) d_MM_clockRetimed_239 (by decide) ?_
          refine z_lsub C (pc := 240) d_MM_clockRetimed_240 ?_
          refine z_land C (pc := 241) d_MM_clockRetimed_241 ?_
          refine m_last C 40 140 196 rfl rfl (by decide) hc8 hc9 (pc := 242) d_MM_clockRetimed_242 ?_
          refine zN h (fun σ25 eσ25 h => ?_)
          refine z_iinc (L' := [(4, .int (zi (v4 + 1))), (0, .ref (ad (0, 3))), (3, .int (zi v3))]) C (pc := 243) d_MM_clockRetimed_243 2 rfl (by decide) rfl ?_
          refine z_goto (tgt := 173) C (pc := 246) d_MM_clockRetimed_246 (by decide) ?_
          refine z_sub [1, 2, 0] rfl ?_
          exact ih _ _ _ h
set_option maxHeartbeats 4000000 in
set_option maxRecDepth 100000 in
theorem wk_MM_clockRetimed_139 {E : zE} {D : va_G} {g : zG} {A : Nat → Prop} {ad : zA} {Q : Int → zS → Prop} (C : zX E b_MM_clockRetimed R_MM D g { frames := 3, cells := 0, slots := 0, locals := 73 } 5) (R : zRt E (some .int) (zQi D g ad Q A) 0 0 A) : ∀ (n : Nat) (v3 : Int) (v4 : Int) (σ : zS), lp_MM_clockRetimed_139 Q n v3 v4 σ → zW E (zOK D A (zst E) g ad) 0 0 139 [(0, .ref (ad (0, 3))), (3, .int (zi v3)), (4, .int (zi v4))] [] σ := by
  intro n
  induction n with
  | zero =>
    intro v3 v4 σ h
    exact h.elim
  | succ n ih =>
    intro v3 v4 σ h
    refine z_iload C (pc := 139) d_MM_clockRetimed_139 2 rfl ?_
    refine z_aload_n C (pc := 141) d_MM_clockRetimed_141 0 rfl ?_
    refine m_getI C 18 118 rfl (by decide) rfl wd_722 (pc := 142) d_MM_clockRetimed_142 ?_
    obtain ⟨hc5, hc6, h⟩ := h
    refine z_icmp_ge (tgt := 170) C (pc := 145) d_MM_clockRetimed_145 (by decide) hc5 hc6 h (fun h => ?_) (fun h => ?_)
    · refine z_iconst C (pc := 170) d_MM_clockRetimed_170 ?_
      refine z_istore (L' := [(4, .int (zi 0)), (0, .ref (ad (0, 3))), (3, .int (zi v3))]) C (pc := 171) d_MM_clockRetimed_171 (by decide) rfl ?_
      refine z_sub [1, 2, 0] rfl ?_
      obtain ⟨n26, h⟩ := h
      exact wk_MM_clockRetimed_173 C R n26 _ _ _ h
    · refine z_iload_n C (pc := 148) d_MM_clockRetimed_148 1 rfl ?_
      refine z_aload_n C (pc := 149) d_MM_clockRetimed_149 0 rfl ?_
      refine z_sipush C (pc := 150) d_MM_clockRetimed_150 (by decide) ?_
      refine z_iload C (pc := 153) d_MM_clockRetimed_153 2 rfl ?_
      refine z_iadd C (pc := 155) d_MM_clockRetimed_155 ?_
      refine m_calli (As := [.int (zi (192 + v4))]) C fy_MM_ending rfl wd_1097 (pc := 156) d_MM_clockRetimed_156 ⟨rfl, rfl, Nat.le_of_ble_eq_true rfl, Nat.le_of_ble_eq_true rfl⟩ rfl rfl (Nat.le_of_ble_eq_true rfl) h (c_MM_ending (zln E) D g ad _ _ _) (fun r28 σ27 h => ?_)
      refine z_iload C (pc := 159) d_MM_clockRetimed_159 2 rfl ?_
      refine z_ishl C (pc := 161) d_MM_clockRetimed_161 ?_
      refine z_ior C (pc := 162) d_MM_clockRetimed_162 ?_
      refine zNi h (fun y29 ey29 h => ?_)
      refine z_istore_n (L' := [(3, .int (zi y29)), (0, .ref (ad (0, 3))), (4, .int (zi v4))]) C (pc := 163) d_MM_clockRetimed_163 (by decide) rfl ?_
      refine z_iinc (L' := [(4, .int (zi (v4 + 1))), (3, .int (zi y29)), (0, .ref (ad (0, 3)))]) C (pc := 164) d_MM_clockRetimed_164 2 rfl (by decide) rfl ?_
      refine z_goto (tgt := 139) C (pc := 167) d_MM_clockRetimed_167 (by decide) ?_
      refine z_sub [2, 1, 0] rfl ?_
      exact ih _ _ _ h
set_option maxHeartbeats 4000000 in
set_option maxRecDepth 100000 in
theorem wk_MM_clockRetimed_124 {E : zE} {D : va_G} {g : zG} {A : Nat → Prop} {ad : zA} {Q : Int → zS → Prop} {J73 : Int → zS → Prop} {J81 : Int → Int → zS → Prop} (C : zX E b_MM_clockRetimed R_MM D g { frames := 3, cells := 0, slots := 0, locals := 73 } 5) (R : zRt E (some .int) (zQi D g ad Q A) 0 0 A) (hJ73 : ∀ (v2 : Int) (σ : zS), J73 v2 σ → zW E (zOK D A (zst E) g ad) 0 0 73 [(0, .ref (ad (0, 3))), (2, .int (zi v2))] [] σ) (hJ81 : ∀ (v2 : Int) (v3 : Int) (σ : zS), J81 v2 v3 σ → zW E (zOK D A (zst E) g ad) 0 0 81 [(0, .ref (ad (0, 3))), (2, .int (zi v2)), (3, .int (zi v3))] [] σ) (v3 : Int) (z0 : Int) (σ : zS) (h : bk_MM_clockRetimed_124 Q J73 J81 v3 z0 σ) : zW E (zOK D A (zst E) g ad) 0 0 124 [(0, .ref (ad (0, 3))), (3, .int (zi v3))] [.int (zi z0)] σ := by
  unfold bk_MM_clockRetimed_124 at h
  refine z_istore_n (L' := [(2, .int (zi z0)), (0, .ref (ad (0, 3))), (3, .int (zi v3))]) C (pc := 124) d_MM_clockRetimed_124 (by decide) rfl ?_
  refine z_iinc (L' := [(3, .int (zi (v3 + 1))), (2, .int (zi z0)), (0, .ref (ad (0, 3)))]) C (pc := 125) d_MM_clockRetimed_125 2 rfl (by decide) rfl ?_
  refine z_goto (tgt := 81) C (pc := 128) d_MM_clockRetimed_128 (by decide) ?_
  refine z_sub [2, 1, 0] rfl ?_
  exact hJ81 _ _ _ h
set_option maxHeartbeats 4000000 in
set_option maxRecDepth 100000 in
theorem wk_MM_clockRetimed_119 {E : zE} {D : va_G} {g : zG} {A : Nat → Prop} {ad : zA} {Q : Int → zS → Prop} {J73 : Int → zS → Prop} {J81 : Int → Int → zS → Prop} (C : zX E b_MM_clockRetimed R_MM D g { frames := 3, cells := 0, slots := 0, locals := 73 } 5) (R : zRt E (some .int) (zQi D g ad Q A) 0 0 A) (hJ73 : ∀ (v2 : Int) (σ : zS), J73 v2 σ → zW E (zOK D A (zst E) g ad) 0 0 73 [(0, .ref (ad (0, 3))), (2, .int (zi v2))] [] σ) (hJ81 : ∀ (v2 : Int) (v3 : Int) (σ : zS), J81 v2 v3 σ → zW E (zOK D A (zst E) g ad) 0 0 81 [(0, .ref (ad (0, 3))), (2, .int (zi v2)), (3, .int (zi v3))] [] σ) (v3 : Int) (σ : zS) (h : bk_MM_clockRetimed_119 Q J73 J81 v3 σ) : zW E (zOK D A (zst E) g ad) 0 0 119 [(0, .ref (ad (0, 3))), (3, .int (zi v3))] [] σ := by
  unfold bk_MM_clockRetimed_119 at h
  refine z_iconst C (pc := 119) d_MM_clockRetimed_119 ?_
  refine z_goto (tgt := 124) C (pc := 120) d_MM_clockRetimed_120 (by decide) ?_
  exact wk_MM_clockRetimed_124 C R hJ73 hJ81 _ _ _ h
set_option maxHeartbeats 4000000 in
set_option maxRecDepth 100000 in
theorem wk_MM_clockRetimed_115 {E : zE} {D : va_G} {g : zG} {A : Nat → Prop} {ad : zA} {Q : Int → zS → Prop} {J73 : Int → zS → Prop} {J81 : Int → Int → zS → Prop} (C : zX E b_MM_clockRetimed R_MM D g { frames := 3, cells := 0, slots := 0, locals := 73 } 5) (R : zRt E (some .int) (zQi D g ad Q A) 0 0 A) (hJ73 : ∀ (v2 : Int) (σ : zS), J73 v2 σ → zW E (zOK D A (zst E) g ad) 0 0 73 [(0, .ref (ad (0, 3))), (2, .int (zi v2))] [] σ) (hJ81 : ∀ (v2 : Int) (v3 : Int) (σ : zS), J81 v2 v3 σ → zW E (zOK D A (zst E) g ad) 0 0 81 [(0, .ref (ad (0, 3))), (2, .int (zi v2)), (3, .int (zi v3))] [] σ) (v2 : Int) (v3 : Int) (σ : zS) (h : bk_MM_clockRetimed_115 Q J73 J81 v2 v3 σ) : zW E (zOK D A (zst E) g ad) 0 0 115 [(0, .ref (ad (0, 3))), (2, .int (zi v2)), (3, .int (zi v3))] [] σ := by
  unfold bk_MM_clockRetimed_115 at h
  refine z_iload_n C (pc := 115) d_MM_clockRetimed_115 1 rfl ?_
  obtain ⟨hc36, h⟩ := h
  refine z_if_eq (tgt := 123) C (pc := 116) d_MM_clockRetimed_116 (by decide) hc36 h (fun h => ?_) (fun h => ?_)
  · refine z_iconst C (pc := 123) d_MM_clockRetimed_123 ?_
    refine z_sub [0, 2] rfl ?_
    exact wk_MM_clockRetimed_124 C R hJ73 hJ81 _ _ _ h
  · refine z_sub [0, 2] rfl ?_
    exact wk_MM_clockRetimed_119 C R hJ73 hJ81 _ _ h
set_option maxHeartbeats 4000000 in
set_option maxRecDepth 100000 in
theorem wk_MM_clockRetimed_81 {E : zE} {D : va_G} {g : zG} {A : Nat → Prop} {ad : zA} {Q : Int → zS → Prop} {J73 : Int → zS → Prop} (C : zX E b_MM_clockRetimed R_MM D g { frames := 3, cells := 0, slots := 0, locals := 73 } 5) (R : zRt E (some .int) (zQi D g ad Q A) 0 0 A) (hJ73 : ∀ (v2 : Int) (σ : zS), J73 v2 σ → zW E (zOK D A (zst E) g ad) 0 0 73 [(0, .ref (ad (0, 3))), (2, .int (zi v2))] [] σ) : ∀ (n : Nat) (v2 : Int) (v3 : Int) (σ : zS), lp_MM_clockRetimed_81 Q J73 n v2 v3 σ → zW E (zOK D A (zst E) g ad) 0 0 81 [(0, .ref (ad (0, 3))), (2, .int (zi v2)), (3, .int (zi v3))] [] σ := by
  intro n
  induction n with
  | zero =>
    intro v2 v3 σ h
    exact h.elim
  | succ n ih =>
    intro v2 v3 σ h
    refine z_iload_n C (pc := 81) d_MM_clockRetimed_81 2 rfl ?_
    refine z_aload_n C (pc := 82) d_MM_clockRetimed_82 0 rfl ?_
    refine m_getI C 13 113 rfl (by decide) rfl wd_717 (pc := 83) d_MM_clockRetimed_83 ?_
    obtain ⟨hc31, hc32, h⟩ := h
    refine z_icmp_ge (tgt := 131) C (pc := 86) d_MM_clockRetimed_86 (by decide) hc31 hc32 h (fun h => ?_) (fun h => ?_)
    · refine z_goto (tgt := 73) C (pc := 131) d_MM_clockRetimed_131 (by decide) ?_
      refine z_sub [0, 1] rfl ?_
      exact hJ73 _ _ h
    · refine z_aload_n C (pc := 89) d_MM_clockRetimed_89 0 rfl ?_
      refine m_getA C 31 (by decide) rfl wd_735 (pc := 90) d_MM_clockRetimed_90 ?_
      refine z_iload_n C (pc := 93) d_MM_clockRetimed_93 2 rfl ?_
      obtain ⟨hc33, hc34, h⟩ := h
      refine m_zald C 31 131 48 rfl rfl (by decide) hc33 hc34 (pc := 94) d_MM_clockRetimed_94 ?_
      obtain ⟨hc35, h⟩ := h
      refine z_if_eq (tgt := 115) C (pc := 95) d_MM_clockRetimed_95 (by decide) hc35 h (fun h => ?_) (fun h => ?_)
      · exact wk_MM_clockRetimed_115 C R hJ73 ih _ _ _ h
      · refine z_aload_n C (pc := 98) d_MM_clockRetimed_98 0 rfl ?_
        refine m_getA C 48 (by decide) rfl wd_752 (pc := 99) d_MM_clockRetimed_99 ?_
        refine z_iload_n C (pc := 102) d_MM_clockRetimed_102 2 rfl ?_
        refine m_zald C 48 148 48 rfl rfl (by decide) hc33 hc34 (pc := 103) d_MM_clockRetimed_103 ?_
        obtain ⟨hc39, h⟩ := h
        refine z_if_ne (tgt := 115) C (pc := 104) d_MM_clockRetimed_104 (by decide) hc39 h (fun h => ?_) (fun h => ?_)
        · exact wk_MM_clockRetimed_115 C R hJ73 ih _ _ _ h
        · refine z_aload_n C (pc := 107) d_MM_clockRetimed_107 0 rfl ?_
          refine z_iload_n C (pc := 108) d_MM_clockRetimed_108 2 rfl ?_
          refine m_calli (As := [.int (zi v3)]) C fy_MM_worked rfl wd_1089 (pc := 109) d_MM_clockRetimed_109 ⟨rfl, rfl, Nat.le_of_ble_eq_true rfl, Nat.le_of_ble_eq_true rfl⟩ rfl rfl (Nat.le_of_ble_eq_true rfl) h (c_MM_worked (zln E) D g ad _ _ _) (fun r41 σ40 h => ?_)
          obtain ⟨hc42, h⟩ := h
          refine z_if_ne (tgt := 119) C (pc := 112) d_MM_clockRetimed_112 (by decide) hc42 h (fun h => ?_) (fun h => ?_)
          · refine z_sub [0, 2] rfl ?_
            exact wk_MM_clockRetimed_119 C R hJ73 ih _ _ h
          · exact wk_MM_clockRetimed_115 C R hJ73 ih _ _ _ h
set_option maxHeartbeats 4000000 in
set_option maxRecDepth 100000 in
theorem wk_MM_clockRetimed_73 {E : zE} {D : va_G} {g : zG} {A : Nat → Prop} {ad : zA} {Q : Int → zS → Prop} (C : zX E b_MM_clockRetimed R_MM D g { frames := 3, cells := 0, slots := 0, locals := 73 } 5) (R : zRt E (some .int) (zQi D g ad Q A) 0 0 A) : ∀ (n : Nat) (v2 : Int) (σ : zS), lp_MM_clockRetimed_73 Q n v2 σ → zW E (zOK D A (zst E) g ad) 0 0 73 [(0, .ref (ad (0, 3))), (2, .int (zi v2))] [] σ := by
  intro n
  induction n with
  | zero =>
    intro v2 σ h
    exact h.elim
  | succ n ih =>
    intro v2 σ h
    refine z_iload_n C (pc := 73) d_MM_clockRetimed_73 1 rfl ?_
    obtain ⟨hc4, h⟩ := h
    refine z_if_eq (tgt := 134) C (pc := 74) d_MM_clockRetimed_74 (by decide) hc4 h (fun h => ?_) (fun h => ?_)
    · refine z_iconst C (pc := 134) d_MM_clockRetimed_134 ?_
      refine z_istore_n (L' := [(3, .int (zi 0)), (0, .ref (ad (0, 3))), (2, .int (zi v2))]) C (pc := 135) d_MM_clockRetimed_135 (by decide) rfl ?_
      refine z_iconst C (pc := 136) d_MM_clockRetimed_136 ?_
      refine z_istore (L' := [(4, .int (zi 0)), (3, .int (zi 0)), (0, .ref (ad (0, 3))), (2, .int (zi v2))]) C (pc := 137) d_MM_clockRetimed_137 (by decide) rfl ?_
      refine z_sub [2, 1, 0] rfl ?_
      obtain ⟨n30, h⟩ := h
      exact wk_MM_clockRetimed_139 C R n30 _ _ _ h
    · refine z_iconst C (pc := 77) d_MM_clockRetimed_77 ?_
      refine z_istore_n (L' := [(2, .int (zi 0)), (0, .ref (ad (0, 3)))]) C (pc := 78) d_MM_clockRetimed_78 (by decide) rfl ?_
      refine z_iconst C (pc := 79) d_MM_clockRetimed_79 ?_
      refine z_istore_n (L' := [(3, .int (zi 0)), (2, .int (zi 0)), (0, .ref (ad (0, 3)))]) C (pc := 80) d_MM_clockRetimed_80 (by decide) rfl ?_
      refine z_sub [2, 1, 0] rfl ?_
      obtain ⟨n43, h⟩ := h
      exact wk_MM_clockRetimed_81 C R ih n43 _ _ _ h
set_option maxHeartbeats 4000000 in
set_option maxRecDepth 100000 in
theorem wk_MM_clockRetimed_64 {E : zE} {D : va_G} {g : zG} {A : Nat → Prop} {ad : zA} {Q : Int → zS → Prop} {J12 : Int → Int → zS → Prop} (C : zX E b_MM_clockRetimed R_MM D g { frames := 3, cells := 0, slots := 0, locals := 73 } 5) (R : zRt E (some .int) (zQi D g ad Q A) 0 0 A) (hJ12 : ∀ (v1 : Int) (v2 : Int) (σ : zS), J12 v1 v2 σ → zW E (zOK D A (zst E) g ad) 0 0 12 [(0, .ref (ad (0, 3))), (1, .int (zi v1)), (2, .int (zi v2))] [] σ) (v1 : Int) (v2 : Int) (z0 : Int) (z1 : Int) (σ : zS) (h : bk_MM_clockRetimed_64 Q J12 v1 v2 z0 z1 σ) : zW E (zOK D A (zst E) g ad) 0 0 64 [(0, .ref (ad (0, 3))), (1, .int (zi v1)), (2, .int (zi v2))] [.int (zi z0), .int (zi z1), .ref (ad (7, 49))] σ := by
  unfold bk_MM_clockRetimed_64 at h
  obtain ⟨hc55, hc56, h⟩ := h
  refine m_iast C 49 149 48 rfl rfl (by decide) hc55 hc56 (pc := 64) d_MM_clockRetimed_64 ?_
  refine zN h (fun σ57 eσ57 h => ?_)
  refine z_iinc (L' := [(2, .int (zi (v2 + 1))), (0, .ref (ad (0, 3))), (1, .int (zi v1))]) C (pc := 65) d_MM_clockRetimed_65 2 rfl (by decide) rfl ?_
  refine z_goto (tgt := 12) C (pc := 68) d_MM_clockRetimed_68 (by decide) ?_
  refine z_sub [1, 2, 0] rfl ?_
  exact hJ12 _ _ _ h
set_option maxHeartbeats 4000000 in
set_option maxRecDepth 100000 in
theorem wk_MM_clockRetimed_39 {E : zE} {D : va_G} {g : zG} {A : Nat → Prop} {ad : zA} {Q : Int → zS → Prop} {J12 : Int → Int → zS → Prop} (C : zX E b_MM_clockRetimed R_MM D g { frames := 3, cells := 0, slots := 0, locals := 73 } 5) (R : zRt E (some .int) (zQi D g ad Q A) 0 0 A) (hJ12 : ∀ (v1 : Int) (v2 : Int) (σ : zS), J12 v1 v2 σ → zW E (zOK D A (zst E) g ad) 0 0 12 [(0, .ref (ad (0, 3))), (1, .int (zi v1)), (2, .int (zi v2))] [] σ) (v1 : Int) (v2 : Int) (z0 : Int) (z1 : Int) (σ : zS) (h : bk_MM_clockRetimed_39 Q J12 v1 v2 z0 z1 σ) : zW E (zOK D A (zst E) g ad) 0 0 39 [(0, .ref (ad (0, 3))), (1, .int (zi v1)), (2, .int (zi v2))] [.int (zi z0), .int (zi z1), .ref (ad (7, 48))] σ := by
  unfold bk_MM_clockRetimed_39 at h
  obtain ⟨hc48, hc49, hc50, h⟩ := h
  refine m_zast C 48 148 48 rfl rfl (by decide) hc48 hc49 hc50 (pc := 39) d_MM_clockRetimed_39 ?_
  refine zN h (fun σ51 eσ51 h => ?_)
  refine z_aload_n C (pc := 40) d_MM_clockRetimed_40 0 rfl ?_
  refine m_getA C 49 (by decide) rfl wd_753 (pc := 41) d_MM_clockRetimed_41 ?_
  refine z_iload_n C (pc := 44) d_MM_clockRetimed_44 2 rfl ?_
  refine z_aload_n C (pc := 45) d_MM_clockRetimed_45 0 rfl ?_
  refine m_getA C 48 (by decide) rfl wd_752 (pc := 46) d_MM_clockRetimed_46 ?_
  refine z_iload_n C (pc := 49) d_MM_clockRetimed_49 2 rfl ?_
  obtain ⟨hc52, hc53, h⟩ := h
  refine m_zald C 48 148 48 rfl rfl (by decide) hc52 hc53 (pc := 50) d_MM_clockRetimed_50 ?_
  obtain ⟨hc54, h⟩ := h
  refine z_if_eq (tgt := 63) C (pc := 51) d_MM_clockRetimed_51 (by decide) hc54 h (fun h => ?_) (fun h => ?_)
  · refine z_iconst C (pc := 63) d_MM_clockRetimed_63 ?_
    exact wk_MM_clockRetimed_64 C R hJ12 _ _ _ _ _ h
  · refine z_aload_n C (pc := 54) d_MM_clockRetimed_54 0 rfl ?_
    refine z_iload_n C (pc := 55) d_MM_clockRetimed_55 2 rfl ?_
    refine z_iload_n C (pc := 56) d_MM_clockRetimed_56 1 rfl ?_
    refine m_calli (As := [.int (zi v2), .int (zi v1)]) C fy_MM_entering rfl wd_1081 (pc := 57) d_MM_clockRetimed_57 ⟨rfl, rfl, Nat.le_of_ble_eq_true rfl, Nat.le_of_ble_eq_true rfl⟩ rfl rfl (Nat.le_of_ble_eq_true rfl) h (c_MM_entering (zln E) D g ad _ _ _ _) (fun r59 σ58 h => ?_)
    refine z_goto (tgt := 64) C (pc := 60) d_MM_clockRetimed_60 (by decide) ?_
    exact wk_MM_clockRetimed_64 C R hJ12 _ _ _ _ _ h
set_option maxHeartbeats 4000000 in
set_option maxRecDepth 100000 in
theorem wk_MM_clockRetimed_12 {E : zE} {D : va_G} {g : zG} {A : Nat → Prop} {ad : zA} {Q : Int → zS → Prop} (C : zX E b_MM_clockRetimed R_MM D g { frames := 3, cells := 0, slots := 0, locals := 73 } 5) (R : zRt E (some .int) (zQi D g ad Q A) 0 0 A) : ∀ (n : Nat) (v1 : Int) (v2 : Int) (σ : zS), lp_MM_clockRetimed_12 Q n v1 v2 σ → zW E (zOK D A (zst E) g ad) 0 0 12 [(0, .ref (ad (0, 3))), (1, .int (zi v1)), (2, .int (zi v2))] [] σ := by
  intro n
  induction n with
  | zero =>
    intro v1 v2 σ h
    exact h.elim
  | succ n ih =>
    intro v1 v2 σ h
    refine z_iload_n C (pc := 12) d_MM_clockRetimed_12 2 rfl ?_
    refine z_aload_n C (pc := 13) d_MM_clockRetimed_13 0 rfl ?_
    refine m_getI C 13 113 rfl (by decide) rfl wd_717 (pc := 14) d_MM_clockRetimed_14 ?_
    obtain ⟨hc2, hc3, h⟩ := h
    refine z_icmp_ge (tgt := 71) C (pc := 17) d_MM_clockRetimed_17 (by decide) hc2 hc3 h (fun h => ?_) (fun h => ?_)
    · refine z_iconst C (pc := 71) d_MM_clockRetimed_71 ?_
      refine z_istore_n (L' := [(2, .int (zi 1)), (0, .ref (ad (0, 3))), (1, .int (zi v1))]) C (pc := 72) d_MM_clockRetimed_72 (by decide) rfl ?_
      refine z_sub [1, 0] rfl ?_
      obtain ⟨n44, h⟩ := h
      exact wk_MM_clockRetimed_73 C R n44 _ _ h
    · refine z_aload_n C (pc := 20) d_MM_clockRetimed_20 0 rfl ?_
      refine m_getA C 48 (by decide) rfl wd_752 (pc := 21) d_MM_clockRetimed_21 ?_
      refine z_iload_n C (pc := 24) d_MM_clockRetimed_24 2 rfl ?_
      refine z_aload_n C (pc := 25) d_MM_clockRetimed_25 0 rfl ?_
      refine m_getA C 14 (by decide) rfl wd_718 (pc := 26) d_MM_clockRetimed_26 ?_
      refine z_iload_n C (pc := 29) d_MM_clockRetimed_29 2 rfl ?_
      obtain ⟨hc45, hc46, h⟩ := h
      refine m_iald C 14 114 48 rfl rfl (by decide) hc45 hc46 (pc := 30) d_MM_clockRetimed_30 ?_
      obtain ⟨hc47, h⟩ := h
      refine z_if_ne (tgt := 38) C (pc := 31) d_MM_clockRetimed_31 (by decide) hc47 h (fun h => ?_) (fun h => ?_)
      · refine z_iconst C (pc := 38) d_MM_clockRetimed_38 ?_
        exact wk_MM_clockRetimed_39 C R ih _ _ _ _ _ h
      · refine z_iconst C (pc := 34) d_MM_clockRetimed_34 ?_
        refine z_goto (tgt := 39) C (pc := 35) d_MM_clockRetimed_35 (by decide) ?_
        exact wk_MM_clockRetimed_39 C R ih _ _ _ _ _ h
set_option maxHeartbeats 4000000 in
set_option maxRecDepth 100000 in
theorem c_MM_clockRetimed (l : Launch) (D : va_G) (g : zG) (ad : zA) (v1 : Int) (Q : Int → zS → Prop) (σ : zS) (h : wp_MM_clockRetimed Q v1 σ) : zMi l y_MM_clockRetimed b_MM_clockRetimed 5 (some .int) { frames := 3, cells := 0, slots := 0, locals := 73 } D g ad σ [.ref (ad (0, 3)), .int (zi v1)] Q := by
  unfold wp_MM_clockRetimed at h
  refine zM_of (by decide) (Nat.le_of_ble_eq_true rfl) (fun E C R hl => ?_)
  have C : zX E b_MM_clockRetimed R_MM D g { frames := 3, cells := 0, slots := 0, locals := 73 } 5 := C
  refine z_sub (L' := [(0, .ref (ad (0, 3))), (1, .int (zi v1))]) [0, 1] rfl ?_
  refine z_aload_n C (pc := 0) d_MM_clockRetimed_0 0 rfl ?_
  refine m_getI C 24 124 rfl (by decide) rfl wd_728 (pc := 1) d_MM_clockRetimed_1 ?_
  obtain ⟨hc1, h⟩ := h
  refine z_if_ne (tgt := 10) C (pc := 4) d_MM_clockRetimed_4 (by decide) hc1 h (fun h => ?_) (fun h => ?_)
  · refine z_iconst C (pc := 10) d_MM_clockRetimed_10 ?_
    refine z_istore_n (L' := [(2, .int (zi 0)), (0, .ref (ad (0, 3))), (1, .int (zi v1))]) C (pc := 11) d_MM_clockRetimed_11 (by decide) rfl ?_
    refine z_sub [1, 2, 0] rfl ?_
    obtain ⟨n60, h⟩ := h
    exact wk_MM_clockRetimed_12 C R n60 _ _ _ h
  · refine z_bipush C (pc := 7) d_MM_clockRetimed_7 (by decide) ?_
    exact z_iret C R (pc := 9) d_MM_clockRetimed_9 h
theorem d_MM_reset_0 : decode b_MM_reset 0 = .ok (.iconst 0, 1) := by decide +kernel
theorem d_MM_reset_1 : decode b_MM_reset 1 = .ok (.istore_n 1, 1) := by decide +kernel
theorem d_MM_reset_2 : decode b_MM_reset 2 = .ok (.iload_n 1, 1) := by decide +kernel
theorem d_MM_reset_3 : decode b_MM_reset 3 = .ok (.aload_n 0, 1) := by decide +kernel
theorem d_MM_reset_4 : decode b_MM_reset 4 = .ok (.getfield 168, 3) := by decide +kernel
theorem d_MM_reset_7 : decode b_MM_reset 7 = .ok (.if_icmp .ge 21, 3) := by decide +kernel
theorem d_MM_reset_10 : decode b_MM_reset 10 = .ok (.aload_n 0, 1) := by decide +kernel
theorem d_MM_reset_11 : decode b_MM_reset 11 = .ok (.getfield 19, 3) := by decide +kernel
theorem d_MM_reset_14 : decode b_MM_reset 14 = .ok (.iload_n 1, 1) := by decide +kernel
theorem d_MM_reset_15 : decode b_MM_reset 15 = .ok (.aload_n 0, 1) := by decide +kernel
theorem d_MM_reset_16 : decode b_MM_reset 16 = .ok (.getfield 16, 3) := by decide +kernel
theorem d_MM_reset_19 : decode b_MM_reset 19 = .ok (.iload_n 1, 1) := by decide +kernel
theorem d_MM_reset_20 : decode b_MM_reset 20 = .ok (.iaload, 1) := by decide +kernel
theorem d_MM_reset_21 : decode b_MM_reset 21 = .ok (.iastore, 1) := by decide +kernel
theorem d_MM_reset_22 : decode b_MM_reset 22 = .ok (.iinc 1 1, 3) := by decide +kernel
theorem d_MM_reset_25 : decode b_MM_reset 25 = .ok (.goto (-23), 3) := by decide +kernel
theorem d_MM_reset_28 : decode b_MM_reset 28 = .ok (.iconst 0, 1) := by decide +kernel
theorem d_MM_reset_29 : decode b_MM_reset 29 = .ok (.istore_n 1, 1) := by decide +kernel
theorem d_MM_reset_30 : decode b_MM_reset 30 = .ok (.iload_n 1, 1) := by decide +kernel
theorem d_MM_reset_31 : decode b_MM_reset 31 = .ok (.sipush 196, 3) := by decide +kernel
theorem d_MM_reset_34 : decode b_MM_reset 34 = .ok (.if_icmp .ge 21, 3) := by decide +kernel
theorem d_MM_reset_37 : decode b_MM_reset 37 = .ok (.aload_n 0, 1) := by decide +kernel
theorem d_MM_reset_38 : decode b_MM_reset 38 = .ok (.getfield 108, 3) := by decide +kernel
theorem d_MM_reset_41 : decode b_MM_reset 41 = .ok (.iload_n 1, 1) := by decide +kernel
theorem d_MM_reset_42 : decode b_MM_reset 42 = .ok (.aload_n 0, 1) := by decide +kernel
theorem d_MM_reset_43 : decode b_MM_reset 43 = .ok (.getfield 105, 3) := by decide +kernel
theorem d_MM_reset_46 : decode b_MM_reset 46 = .ok (.iload_n 1, 1) := by decide +kernel
theorem d_MM_reset_47 : decode b_MM_reset 47 = .ok (.laload, 1) := by decide +kernel
theorem d_MM_reset_48 : decode b_MM_reset 48 = .ok (.lastore, 1) := by decide +kernel
theorem d_MM_reset_49 : decode b_MM_reset 49 = .ok (.iinc 1 1, 3) := by decide +kernel
theorem d_MM_reset_52 : decode b_MM_reset 52 = .ok (.goto (-22), 3) := by decide +kernel
theorem d_MM_reset_55 : decode b_MM_reset 55 = .ok (.return_, 1) := by decide +kernel
def lp_MM_reset_30 (Q : zS → Prop) : Nat → Int → zS → Prop
  | 0 => fun _ _ => False
  | n + 1 => fun v1 σ =>
    zc v1 ∧ ((196 ≤ v1 →
      Q σ) ∧
     (¬ 196 ≤ v1 →
      0 ≤ v1 ∧ v1 < 196 ∧ 
      ∀ σ8, σ8 = zup σ 140 v1 (σ 139 v1) →
      lp_MM_reset_30 Q n (v1 + 1) σ8))
def lp_MM_reset_2 (Q : zS → Prop) : Nat → Int → zS → Prop
  | 0 => fun _ _ => False
  | n + 1 => fun v1 σ =>
    zc v1 ∧ zc (σ 100 0) ∧ ((σ 100 0 ≤ v1 →
      ∃ u30, lp_MM_reset_30 Q u30 0 σ) ∧
     (¬ σ 100 0 ≤ v1 →
      0 ≤ v1 ∧ v1 < 40 ∧ 
      ∀ σ14, σ14 = zup σ 104 v1 (σ 103 v1) →
      lp_MM_reset_2 Q n (v1 + 1) σ14))
def wp_MM_reset (Q : zS → Prop) (σ : zS) : Prop :=
  ∃ u2, lp_MM_reset_2 Q u2 0 σ
set_option maxHeartbeats 4000000 in
set_option maxRecDepth 100000 in
theorem wk_MM_reset_30 {E : zE} {D : va_G} {g : zG} {A : Nat → Prop} {ad : zA} {Q : zS → Prop} (C : zX E b_MM_reset R_MM D g { frames := 0, cells := 0, slots := 0, locals := 0 } 2) (R : zRt E none (zQv D g ad Q A) 0 0 A) : ∀ (n : Nat) (v1 : Int) (σ : zS), lp_MM_reset_30 Q n v1 σ → zW E (zOK D A (zst E) g ad) 0 0 30 [(0, .ref (ad (0, 3))), (1, .int (zi v1))] [] σ := by
  intro n
  induction n with
  | zero =>
    intro v1 σ h
    exact h.elim
  | succ n ih =>
    intro v1 σ h
    refine z_iload_n C (pc := 30) d_MM_reset_30 1 rfl ?_
    refine z_sipush C (pc := 31) d_MM_reset_31 (by decide) ?_
    obtain ⟨hc3, h⟩ := h
    refine z_icmp_ge (tgt := 55) C (pc := 34) d_MM_reset_34 (by decide) hc3 (by decide) h (fun h => ?_) (fun h => ?_)
    · exact z_vret C R (pc := 55) d_MM_reset_55 h
    · refine z_aload_n C (pc := 37) d_MM_reset_37 0 rfl ?_
      refine m_getA C 40 (by decide) rfl wd_744 (pc := 38) d_MM_reset_38 ?_
      refine z_iload_n C (pc := 41) d_MM_reset_41 1 rfl ?_
      refine z_aload_n C (pc := 42) d_MM_reset_42 0 rfl ?_
      refine m_getA C 39 (by decide) rfl wd_743 (pc := 43) d_MM_reset_43 ?_
      refine z_iload_n C (pc := 46) d_MM_reset_46 1 rfl ?_
      obtain ⟨hc4, hc5, h⟩ := h
      refine m_lald C 39 139 196 rfl rfl (by decide) hc4 hc5 (pc := 47) d_MM_reset_47 ?_
      refine m_last C 40 140 196 rfl rfl (by decide) hc4 hc5 (pc := 48) d_MM_reset_48 ?_
      refine zN h (fun σ8 eσ8 h => ?_)
      refine z_iinc (L' := [(1, .int (zi (v1 + 1))), (0, .ref (ad (0, 3)))]) C (pc := 49) d_MM_reset_49 1 rfl (by decide) rfl ?_
      refine z_goto (tgt := 30) C (pc := 52) d_MM_reset_52 (by decide) ?_
      refine z_sub [1, 0] rfl ?_
      exact ih _ _ h
set_option maxHeartbeats 4000000 in
set_option maxRecDepth 100000 in
theorem wk_MM_reset_2 {E : zE} {D : va_G} {g : zG} {A : Nat → Prop} {ad : zA} {Q : zS → Prop} (C : zX E b_MM_reset R_MM D g { frames := 0, cells := 0, slots := 0, locals := 0 } 2) (R : zRt E none (zQv D g ad Q A) 0 0 A) : ∀ (n : Nat) (v1 : Int) (σ : zS), lp_MM_reset_2 Q n v1 σ → zW E (zOK D A (zst E) g ad) 0 0 2 [(0, .ref (ad (0, 3))), (1, .int (zi v1))] [] σ := by
  intro n
  induction n with
  | zero =>
    intro v1 σ h
    exact h.elim
  | succ n ih =>
    intro v1 σ h
    refine z_iload_n C (pc := 2) d_MM_reset_2 1 rfl ?_
    refine z_aload_n C (pc := 3) d_MM_reset_3 0 rfl ?_
    refine m_getI C 0 100 rfl (by decide) rfl wd_704 (pc := 4) d_MM_reset_4 ?_
    obtain ⟨hc1, hc2, h⟩ := h
    refine z_icmp_ge (tgt := 28) C (pc := 7) d_MM_reset_7 (by decide) hc1 hc2 h (fun h => ?_) (fun h => ?_)
    · refine z_iconst C (pc := 28) d_MM_reset_28 ?_
      refine z_istore_n (L' := [(1, .int (zi 0)), (0, .ref (ad (0, 3)))]) C (pc := 29) d_MM_reset_29 (by decide) rfl ?_
      refine z_sub [1, 0] rfl ?_
      obtain ⟨n9, h⟩ := h
      exact wk_MM_reset_30 C R n9 _ _ h
    · refine z_aload_n C (pc := 10) d_MM_reset_10 0 rfl ?_
      refine m_getA C 4 (by decide) rfl wd_708 (pc := 11) d_MM_reset_11 ?_
      refine z_iload_n C (pc := 14) d_MM_reset_14 1 rfl ?_
      refine z_aload_n C (pc := 15) d_MM_reset_15 0 rfl ?_
      refine m_getA C 3 (by decide) rfl wd_707 (pc := 16) d_MM_reset_16 ?_
      refine z_iload_n C (pc := 19) d_MM_reset_19 1 rfl ?_
      obtain ⟨hc10, hc11, h⟩ := h
      refine m_iald C 3 103 40 rfl rfl (by decide) hc10 hc11 (pc := 20) d_MM_reset_20 ?_
      refine m_iast C 4 104 40 rfl rfl (by decide) hc10 hc11 (pc := 21) d_MM_reset_21 ?_
      refine zN h (fun σ14 eσ14 h => ?_)
      refine z_iinc (L' := [(1, .int (zi (v1 + 1))), (0, .ref (ad (0, 3)))]) C (pc := 22) d_MM_reset_22 1 rfl (by decide) rfl ?_
      refine z_goto (tgt := 2) C (pc := 25) d_MM_reset_25 (by decide) ?_
      refine z_sub [1, 0] rfl ?_
      exact ih _ _ h
set_option maxHeartbeats 4000000 in
set_option maxRecDepth 100000 in
theorem c_MM_reset (l : Launch) (D : va_G) (g : zG) (ad : zA) (Q : zS → Prop) (σ : zS) (h : wp_MM_reset Q σ) : zMv l y_MM_reset b_MM_reset 2 none { frames := 0, cells := 0, slots := 0, locals := 0 } D g ad σ [.ref (ad (0, 3))] Q := by
  unfold wp_MM_reset at h
  refine zM_of (by decide) (Nat.le_of_ble_eq_true rfl) (fun E C R hl => ?_)
  have C : zX E b_MM_reset R_MM D g { frames := 0, cells := 0, slots := 0, locals := 0 } 2 := C
  refine z_sub (L' := [(0, .ref (ad (0, 3)))]) [0] rfl ?_
  refine z_iconst C (pc := 0) d_MM_reset_0 ?_
  refine z_istore_n (L' := [(1, .int (zi 0)), (0, .ref (ad (0, 3)))]) C (pc := 1) d_MM_reset_1 (by decide) rfl ?_
  refine z_sub [1, 0] rfl ?_
  obtain ⟨n15, h⟩ := h
  exact wk_MM_reset_2 C R n15 _ _ h
