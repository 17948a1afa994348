def wp_CX_build0 (_ : Int → zS → Prop) (_ _ _ _ _ : Int) (_ : zS) : Prop := False
theorem c_CX_build0 (l : Launch) (D : va_G) (g : zG) (ad : zA) (v1 v2 v3 v4 v5 : Int) (Q : Int → zS → Prop) (σ : zS) (h : wp_CX_build0 Q v1 v2 v3 v4 v5 σ) (sz : Nat) : zHr 4 l y_CX_build b_CX_build 16 (some (.object "CellMapper$Node")) { frames := 1, cells := 0, slots := 0, locals := 1 } D g ad σ [.ref (ad (0, 1)), .int (zi v1), zr ad 4 v2, zr ad 4 v3, zr ad 4 v4, .int (zi v5)] Q sz 0 0 := h.elim
theorem d_CX_build1_0 : decode b_CX_build 0 = .ok (.iload 5, 2) := by decide +kernel
theorem d_CX_build1_2 : decode b_CX_build 2 = .ok (.iconst 1, 1) := by decide +kernel
theorem d_CX_build1_3 : decode b_CX_build 3 = .ok (.if_icmp .ge 5, 3) := by decide +kernel
theorem d_CX_build1_6 : decode b_CX_build 6 = .ok (.aload_n 2, 1) := by decide +kernel
theorem d_CX_build1_7 : decode b_CX_build 7 = .ok (.areturn, 1) := by decide +kernel
theorem d_CX_build1_8 : decode b_CX_build 8 = .ok (.iload 5, 2) := by decide +kernel
theorem d_CX_build1_10 : decode b_CX_build 10 = .ok (.iconst 3, 1) := by decide +kernel
theorem d_CX_build1_11 : decode b_CX_build 11 = .ok (.if_icmp .ne 8, 3) := by decide +kernel
theorem d_CX_build1_14 : decode b_CX_build 14 = .ok (.aload 4, 2) := by decide +kernel
theorem d_CX_build1_16 : decode b_CX_build 16 = .ok (.goto 14, 3) := by decide +kernel
theorem d_CX_build1_19 : decode b_CX_build 19 = .ok (.iload 5, 2) := by decide +kernel
theorem d_CX_build1_21 : decode b_CX_build 21 = .ok (.iconst 2, 1) := by decide +kernel
theorem d_CX_build1_22 : decode b_CX_build 22 = .ok (.if_icmp .ne 7, 3) := by decide +kernel
theorem d_CX_build1_25 : decode b_CX_build 25 = .ok (.aload_n 3, 1) := by decide +kernel
theorem d_CX_build1_26 : decode b_CX_build 26 = .ok (.goto 4, 3) := by decide +kernel
theorem d_CX_build1_29 : decode b_CX_build 29 = .ok (.aload_n 2, 1) := by decide +kernel
theorem d_CX_build1_30 : decode b_CX_build 30 = .ok (.astore 6, 2) := by decide +kernel
theorem d_CX_build1_32 : decode b_CX_build 32 = .ok (.iconst 1, 1) := by decide +kernel
theorem d_CX_build1_33 : decode b_CX_build 33 = .ok (.iload 5, 2) := by decide +kernel
theorem d_CX_build1_35 : decode b_CX_build 35 = .ok (.iconst 1, 1) := by decide +kernel
theorem d_CX_build1_36 : decode b_CX_build 36 = .ok (.isub, 1) := by decide +kernel
theorem d_CX_build1_37 : decode b_CX_build 37 = .ok (.ishl, 1) := by decide +kernel
theorem d_CX_build1_38 : decode b_CX_build 38 = .ok (.istore 7, 2) := by decide +kernel
theorem d_CX_build1_40 : decode b_CX_build 40 = .ok (.iconst 1, 1) := by decide +kernel
theorem d_CX_build1_41 : decode b_CX_build 41 = .ok (.iload 7, 2) := by decide +kernel
theorem d_CX_build1_43 : decode b_CX_build 43 = .ok (.ishl, 1) := by decide +kernel
theorem d_CX_build1_44 : decode b_CX_build 44 = .ok (.iconst 1, 1) := by decide +kernel
theorem d_CX_build1_45 : decode b_CX_build 45 = .ok (.isub, 1) := by decide +kernel
theorem d_CX_build1_46 : decode b_CX_build 46 = .ok (.istore 8, 2) := by decide +kernel
theorem d_CX_build1_48 : decode b_CX_build 48 = .ok (.iload_n 1, 1) := by decide +kernel
theorem d_CX_build1_49 : decode b_CX_build 49 = .ok (.iload 8, 2) := by decide +kernel
theorem d_CX_build1_51 : decode b_CX_build 51 = .ok (.iand, 1) := by decide +kernel
theorem d_CX_build1_52 : decode b_CX_build 52 = .ok (.istore 9, 2) := by decide +kernel
theorem d_CX_build1_54 : decode b_CX_build 54 = .ok (.iload_n 1, 1) := by decide +kernel
theorem d_CX_build1_55 : decode b_CX_build 55 = .ok (.iload 7, 2) := by decide +kernel
theorem d_CX_build1_57 : decode b_CX_build 57 = .ok (.ishr, 1) := by decide +kernel
theorem d_CX_build1_58 : decode b_CX_build 58 = .ok (.iload 8, 2) := by decide +kernel
theorem d_CX_build1_60 : decode b_CX_build 60 = .ok (.iand, 1) := by decide +kernel
theorem d_CX_build1_61 : decode b_CX_build 61 = .ok (.istore 10, 2) := by decide +kernel
theorem d_CX_build1_63 : decode b_CX_build 63 = .ok (.iload 9, 2) := by decide +kernel
theorem d_CX_build1_65 : decode b_CX_build 65 = .ok (.iload 10, 2) := by decide +kernel
theorem d_CX_build1_67 : decode b_CX_build 67 = .ok (.if_icmp .ne 18, 3) := by decide +kernel
theorem d_CX_build1_70 : decode b_CX_build 70 = .ok (.aload_n 0, 1) := by decide +kernel
theorem d_CX_build1_71 : decode b_CX_build 71 = .ok (.iload 9, 2) := by decide +kernel
theorem d_CX_build1_73 : decode b_CX_build 73 = .ok (.aload_n 2, 1) := by decide +kernel
theorem d_CX_build1_74 : decode b_CX_build 74 = .ok (.aload_n 3, 1) := by decide +kernel
theorem d_CX_build1_75 : decode b_CX_build 75 = .ok (.aload 4, 2) := by decide +kernel
theorem d_CX_build1_77 : decode b_CX_build 77 = .ok (.iload 5, 2) := by decide +kernel
theorem d_CX_build1_79 : decode b_CX_build 79 = .ok (.iconst 1, 1) := by decide +kernel
theorem d_CX_build1_80 : decode b_CX_build 80 = .ok (.isub, 1) := by decide +kernel
theorem d_CX_build1_81 : decode b_CX_build 81 = .ok (.invokestatic 33, 3) := by decide +kernel
theorem d_CX_build1_84 : decode b_CX_build 84 = .ok (.areturn, 1) := by decide +kernel
theorem d_CX_build1_85 : decode b_CX_build 85 = .ok (.iload 9, 2) := by decide +kernel
theorem d_CX_build1_87 : decode b_CX_build 87 = .ok (.ifCond .eq 10, 3) := by decide +kernel
theorem d_CX_build1_90 : decode b_CX_build 90 = .ok (.iload 9, 2) := by decide +kernel
theorem d_CX_build1_92 : decode b_CX_build 92 = .ok (.iload 8, 2) := by decide +kernel
theorem d_CX_build1_94 : decode b_CX_build 94 = .ok (.if_icmp .ne 7, 3) := by decide +kernel
theorem d_CX_build1_97 : decode b_CX_build 97 = .ok (.aconst_null, 1) := by decide +kernel
theorem d_CX_build1_98 : decode b_CX_build 98 = .ok (.goto 17, 3) := by decide +kernel
theorem d_CX_build1_101 : decode b_CX_build 101 = .ok (.aload_n 0, 1) := by decide +kernel
theorem d_CX_build1_102 : decode b_CX_build 102 = .ok (.iload 9, 2) := by decide +kernel
theorem d_CX_build1_104 : decode b_CX_build 104 = .ok (.aload_n 2, 1) := by decide +kernel
theorem d_CX_build1_105 : decode b_CX_build 105 = .ok (.aload_n 3, 1) := by decide +kernel
theorem d_CX_build1_106 : decode b_CX_build 106 = .ok (.aload 4, 2) := by decide +kernel
theorem d_CX_build1_108 : decode b_CX_build 108 = .ok (.iload 5, 2) := by decide +kernel
theorem d_CX_build1_110 : decode b_CX_build 110 = .ok (.iconst 1, 1) := by decide +kernel
theorem d_CX_build1_111 : decode b_CX_build 111 = .ok (.isub, 1) := by decide +kernel
theorem d_CX_build1_112 : decode b_CX_build 112 = .ok (.invokestatic 33, 3) := by decide +kernel
theorem d_CX_build1_115 : decode b_CX_build 115 = .ok (.astore 11, 2) := by decide +kernel
theorem d_CX_build1_117 : decode b_CX_build 117 = .ok (.iload 10, 2) := by decide +kernel
theorem d_CX_build1_119 : decode b_CX_build 119 = .ok (.ifCond .eq 10, 3) := by decide +kernel
theorem d_CX_build1_122 : decode b_CX_build 122 = .ok (.iload 10, 2) := by decide +kernel
theorem d_CX_build1_124 : decode b_CX_build 124 = .ok (.iload 8, 2) := by decide +kernel
theorem d_CX_build1_126 : decode b_CX_build 126 = .ok (.if_icmp .ne 7, 3) := by decide +kernel
theorem d_CX_build1_129 : decode b_CX_build 129 = .ok (.aconst_null, 1) := by decide +kernel
theorem d_CX_build1_130 : decode b_CX_build 130 = .ok (.goto 17, 3) := by decide +kernel
theorem d_CX_build1_133 : decode b_CX_build 133 = .ok (.aload_n 0, 1) := by decide +kernel
theorem d_CX_build1_134 : decode b_CX_build 134 = .ok (.iload 10, 2) := by decide +kernel
theorem d_CX_build1_136 : decode b_CX_build 136 = .ok (.aload_n 2, 1) := by decide +kernel
theorem d_CX_build1_137 : decode b_CX_build 137 = .ok (.aload_n 3, 1) := by decide +kernel
theorem d_CX_build1_138 : decode b_CX_build 138 = .ok (.aload 4, 2) := by decide +kernel
theorem d_CX_build1_140 : decode b_CX_build 140 = .ok (.iload 5, 2) := by decide +kernel
theorem d_CX_build1_142 : decode b_CX_build 142 = .ok (.iconst 1, 1) := by decide +kernel
theorem d_CX_build1_143 : decode b_CX_build 143 = .ok (.isub, 1) := by decide +kernel
theorem d_CX_build1_144 : decode b_CX_build 144 = .ok (.invokestatic 33, 3) := by decide +kernel
theorem d_CX_build1_147 : decode b_CX_build 147 = .ok (.astore 12, 2) := by decide +kernel
theorem d_CX_build1_149 : decode b_CX_build 149 = .ok (.aload 11, 2) := by decide +kernel
theorem d_CX_build1_151 : decode b_CX_build 151 = .ok (.ifnonnull 25, 3) := by decide +kernel
theorem d_CX_build1_154 : decode b_CX_build 154 = .ok (.aload 12, 2) := by decide +kernel
theorem d_CX_build1_156 : decode b_CX_build 156 = .ok (.ifnonnull 20, 3) := by decide +kernel
theorem d_CX_build1_159 : decode b_CX_build 159 = .ok (.iload 9, 2) := by decide +kernel
theorem d_CX_build1_161 : decode b_CX_build 161 = .ok (.ifCond .ne 8, 3) := by decide +kernel
theorem d_CX_build1_164 : decode b_CX_build 164 = .ok (.aload 6, 2) := by decide +kernel
theorem d_CX_build1_166 : decode b_CX_build 166 = .ok (.goto 9, 3) := by decide +kernel
theorem d_CX_build1_169 : decode b_CX_build 169 = .ok (.aload_n 0, 1) := by decide +kernel
theorem d_CX_build1_170 : decode b_CX_build 170 = .ok (.aload 6, 2) := by decide +kernel
theorem d_CX_build1_172 : decode b_CX_build 172 = .ok (.invokevirtual 37, 3) := by decide +kernel
theorem d_CX_build1_175 : decode b_CX_build 175 = .ok (.areturn, 1) := by decide +kernel
theorem d_CX_build1_176 : decode b_CX_build 176 = .ok (.aload 11, 2) := by decide +kernel
theorem d_CX_build1_178 : decode b_CX_build 178 = .ok (.ifnonnull 22, 3) := by decide +kernel
theorem d_CX_build1_181 : decode b_CX_build 181 = .ok (.aload_n 0, 1) := by decide +kernel
theorem d_CX_build1_182 : decode b_CX_build 182 = .ok (.aload 6, 2) := by decide +kernel
theorem d_CX_build1_184 : decode b_CX_build 184 = .ok (.aload 12, 2) := by decide +kernel
theorem d_CX_build1_186 : decode b_CX_build 186 = .ok (.iload 9, 2) := by decide +kernel
theorem d_CX_build1_188 : decode b_CX_build 188 = .ok (.ifCond .eq 7, 3) := by decide +kernel
theorem d_CX_build1_191 : decode b_CX_build 191 = .ok (.iconst 1, 1) := by decide +kernel
theorem d_CX_build1_192 : decode b_CX_build 192 = .ok (.goto 4, 3) := by decide +kernel
theorem d_CX_build1_195 : decode b_CX_build 195 = .ok (.iconst 0, 1) := by decide +kernel
theorem d_CX_build1_196 : decode b_CX_build 196 = .ok (.invokevirtual 43, 3) := by decide +kernel
theorem d_CX_build1_199 : decode b_CX_build 199 = .ok (.areturn, 1) := by decide +kernel
theorem d_CX_build1_200 : decode b_CX_build 200 = .ok (.aload 12, 2) := by decide +kernel
theorem d_CX_build1_202 : decode b_CX_build 202 = .ok (.ifnonnull 30, 3) := by decide +kernel
theorem d_CX_build1_205 : decode b_CX_build 205 = .ok (.aload_n 0, 1) := by decide +kernel
theorem d_CX_build1_206 : decode b_CX_build 206 = .ok (.aload 6, 2) := by decide +kernel
theorem d_CX_build1_208 : decode b_CX_build 208 = .ok (.invokevirtual 37, 3) := by decide +kernel
theorem d_CX_build1_211 : decode b_CX_build 211 = .ok (.astore 13, 2) := by decide +kernel
theorem d_CX_build1_213 : decode b_CX_build 213 = .ok (.aload_n 0, 1) := by decide +kernel
theorem d_CX_build1_214 : decode b_CX_build 214 = .ok (.aload 13, 2) := by decide +kernel
theorem d_CX_build1_216 : decode b_CX_build 216 = .ok (.aload 11, 2) := by decide +kernel
theorem d_CX_build1_218 : decode b_CX_build 218 = .ok (.iload 10, 2) := by decide +kernel
theorem d_CX_build1_220 : decode b_CX_build 220 = .ok (.ifCond .eq 7, 3) := by decide +kernel
theorem d_CX_build1_223 : decode b_CX_build 223 = .ok (.iconst 1, 1) := by decide +kernel
theorem d_CX_build1_224 : decode b_CX_build 224 = .ok (.goto 4, 3) := by decide +kernel
theorem d_CX_build1_227 : decode b_CX_build 227 = .ok (.iconst 0, 1) := by decide +kernel
theorem d_CX_build1_228 : decode b_CX_build 228 = .ok (.invokevirtual 43, 3) := by decide +kernel
theorem d_CX_build1_231 : decode b_CX_build 231 = .ok (.areturn, 1) := by decide +kernel
theorem d_CX_build1_232 : decode b_CX_build 232 = .ok (.aload_n 0, 1) := by decide +kernel
theorem d_CX_build1_233 : decode b_CX_build 233 = .ok (.aload 6, 2) := by decide +kernel
theorem d_CX_build1_235 : decode b_CX_build 235 = .ok (.aload 12, 2) := by decide +kernel
theorem d_CX_build1_237 : decode b_CX_build 237 = .ok (.invokevirtual 47, 3) := by decide +kernel
theorem d_CX_build1_240 : decode b_CX_build 240 = .ok (.astore 13, 2) := by decide +kernel
theorem d_CX_build1_242 : decode b_CX_build 242 = .ok (.aload_n 0, 1) := by decide +kernel
theorem d_CX_build1_243 : decode b_CX_build 243 = .ok (.aload 6, 2) := by decide +kernel
theorem d_CX_build1_245 : decode b_CX_build 245 = .ok (.invokevirtual 37, 3) := by decide +kernel
theorem d_CX_build1_248 : decode b_CX_build 248 = .ok (.astore 14, 2) := by decide +kernel
theorem d_CX_build1_250 : decode b_CX_build 250 = .ok (.aload_n 0, 1) := by decide +kernel
theorem d_CX_build1_251 : decode b_CX_build 251 = .ok (.aload 14, 2) := by decide +kernel
theorem d_CX_build1_253 : decode b_CX_build 253 = .ok (.aload 11, 2) := by decide +kernel
theorem d_CX_build1_255 : decode b_CX_build 255 = .ok (.invokevirtual 47, 3) := by decide +kernel
theorem d_CX_build1_258 : decode b_CX_build 258 = .ok (.astore 15, 2) := by decide +kernel
theorem d_CX_build1_260 : decode b_CX_build 260 = .ok (.aload_n 0, 1) := by decide +kernel
theorem d_CX_build1_261 : decode b_CX_build 261 = .ok (.aload 13, 2) := by decide +kernel
theorem d_CX_build1_263 : decode b_CX_build 263 = .ok (.aload 15, 2) := by decide +kernel
theorem d_CX_build1_265 : decode b_CX_build 265 = .ok (.invokevirtual 47, 3) := by decide +kernel
theorem d_CX_build1_268 : decode b_CX_build 268 = .ok (.areturn, 1) := by decide +kernel
def bk_CX_build1_176 (Q : Int → zS → Prop) (v6 : Int) (v9 : Int) (v10 : Int) (v11 : Int) (v12 : Int) (σ : zS) : Prop :=
  ((v11 < 0 →
    zc v9 ∧ ((v9 = 0 →
      wp_GR_gated (fun r38 σ36 =>
        Q r38 σ36) v6 v12 0 σ) ∧
     (¬ v9 = 0 →
      wp_GR_gated (fun r41 σ39 =>
        Q r41 σ39) v6 v12 1 σ))) ∧
   (¬ v11 < 0 →
    ((v12 < 0 →
      zvn σ v11 ∧ wp_GR_inv (fun r26 σ24 =>
        zc v10 ∧ ((v10 = 0 →
          wp_GR_gated (fun r31 σ29 =>
            Q r31 σ29) r26 v11 0 σ24) ∧
         (¬ v10 = 0 →
          wp_GR_gated (fun r34 σ32 =>
            Q r34 σ32) r26 v11 1 σ24))) v6 σ) ∧
     (¬ v12 < 0 →
      zvn σ v6 ∧ zvn σ v11 ∧ wp_GR_nand (fun r9 σ7 =>
        zvn σ7 r9 ∧ zvn σ7 v11 ∧ wp_GR_inv (fun r14 σ12 =>
          zvn σ12 r9 ∧ wp_GR_nand (fun r19 σ17 =>
            wp_GR_nand (fun r23 σ21 =>
              Q r23 σ21) r9 r19 σ17) r14 v11 σ12) v6 σ7) v6 v12 σ))))
def bk_CX_build1_147 (Q : Int → zS → Prop) (v6 : Int) (v9 : Int) (v10 : Int) (v11 : Int) (z0 : Int) (σ : zS) : Prop :=
  ((v11 < 0 →
    ((z0 < 0 →
      zc v9 ∧ ((v9 = 0 →
        Q v6 σ) ∧
       (¬ v9 = 0 →
        wp_GR_inv (fun r45 σ43 =>
          Q r45 σ43) v6 σ))) ∧
     (¬ z0 < 0 →
      bk_CX_build1_176 Q v6 v9 v10 v11 z0 σ))) ∧
   (¬ v11 < 0 →
    bk_CX_build1_176 Q v6 v9 v10 v11 z0 σ))
def bk_CX_build1_129 (Q : Int → zS → Prop) (v6 : Int) (v9 : Int) (v10 : Int) (v11 : Int) (σ : zS) : Prop :=
  bk_CX_build1_147 Q v6 v9 v10 v11 (-1) σ
def bk_CX_build1_115 (Q : Int → zS → Prop) (v2 : Int) (v3 : Int) (v4 : Int) (v5 : Int) (v6 : Int) (v8 : Int) (v9 : Int) (v10 : Int) (z0 : Int) (σ : zS) : Prop :=
  zc v10 ∧ ((v10 = 0 →
    bk_CX_build1_129 Q v6 v9 v10 z0 σ) ∧
   (¬ v10 = 0 →
    zc v8 ∧ ((v10 = v8 →
      bk_CX_build1_129 Q v6 v9 v10 z0 σ) ∧
     (¬ v10 = v8 →
      zvn σ z0 ∧ zvn σ v6 ∧ wp_CX_build0 (fun r49 σ47 =>
        bk_CX_build1_147 Q v6 v9 v10 z0 r49 σ47) v10 v2 v3 v4 (v5 - 1) σ))))
def bk_CX_build1_97 (Q : Int → zS → Prop) (v2 : Int) (v3 : Int) (v4 : Int) (v5 : Int) (v6 : Int) (v8 : Int) (v9 : Int) (v10 : Int) (σ : zS) : Prop :=
  bk_CX_build1_115 Q v2 v3 v4 v5 v6 v8 v9 v10 (-1) σ
def bk_CX_build1_30 (Q : Int → zS → Prop) (v1 : Int) (v2 : Int) (v3 : Int) (v4 : Int) (v5 : Int) (z0 : Int) (σ : zS) : Prop :=
  ∀ y2, y2 = zshl 1 (v5 - 1) →
  ∀ y3, y3 = (zshl 1 y2) - 1 →
  ∀ y4, y4 = zand v1 y3 →
  ∀ y5, y5 = zand (zshr v1 y2) y3 →
  ((y4 = y5 →
    wp_CX_build0 (fun r62 σ60 =>
      Q r62 σ60) y4 v2 v3 v4 (v5 - 1) σ) ∧
   (¬ y4 = y5 →
    ((y4 = 0 →
      bk_CX_build1_97 Q v2 v3 v4 v5 z0 y3 y4 y5 σ) ∧
     (¬ y4 = 0 →
      zc y3 ∧ ((y4 = y3 →
        bk_CX_build1_97 Q v2 v3 v4 v5 z0 y3 y4 y5 σ) ∧
       (¬ y4 = y3 →
        zvn σ z0 ∧ zvn σ v2 ∧ zvn σ v3 ∧ zvn σ v4 ∧ wp_CX_build0 (fun r55 σ53 =>
          bk_CX_build1_115 Q v2 v3 v4 v5 z0 y3 y4 y5 r55 σ53) y4 v2 v3 v4 (v5 - 1) σ))))))
def wp_CX_build1 (Q : Int → zS → Prop) (v1 : Int) (v2 : Int) (v3 : Int) (v4 : Int) (v5 : Int) (σ : zS) : Prop :=
  zc v5 ∧ ((1 ≤ v5 →
    ((v5 = 3 →
      bk_CX_build1_30 Q v1 v2 v3 v4 v5 v4 σ) ∧
     (¬ v5 = 3 →
      ((v5 = 2 →
        bk_CX_build1_30 Q v1 v2 v3 v4 v5 v3 σ) ∧
       (¬ v5 = 2 →
        bk_CX_build1_30 Q v1 v2 v3 v4 v5 v2 σ))))) ∧
   (¬ 1 ≤ v5 →
    Q v2 σ))
set_option maxHeartbeats 4000000 in
set_option maxRecDepth 100000 in
theorem wk_CX_build1_176 {E : zE} {D : va_G} {g : zG} {A : Nat → Prop} {ad0 : zA} {σ0 : zS} {Q : Int → zS → Prop} (C : zX E b_CX_build R_CX D g { frames := 12, cells := 8, slots := 472, locals := 308 } 16) (R : zRt E (some (.object "CellMapper$Node")) (zJr D g ad0 σ0 4 Q A) 8 472 A) (S : zSt g A (zst E) (zst E).heap) (hA : ∀ q, (zst E).heap.size ≤ q → A q) (ad : zA) (v6 : Int) (v9 : Int) (v10 : Int) (v11 : Int) (v12 : Int) (σ : zS) (hX : zEx ad0 σ0 ad σ) (h : bk_CX_build1_176 Q v6 v9 v10 v11 v12 σ) : zW E (zOK D A (zst E) g ad) 0 0 176 [(0, .ref (ad (0, 1))), (6, zr ad 4 v6), (9, .int (zi v9)), (10, .int (zi v10)), (11, zr ad 4 v11), (12, zr ad 4 v12)] [] σ := by
  unfold bk_CX_build1_176 at h
  refine z_aloadZ C (pc := 176) d_CX_build1_176 4 rfl ?_
  refine z_ifnonnull (tgt := 200) C (pc := 178) d_CX_build1_178 (by decide) h (fun h => ?_) (fun h => ?_)
  · refine z_aloadZ C (pc := 200) d_CX_build1_200 5 rfl ?_
    refine z_ifnonnull (tgt := 232) C (pc := 202) d_CX_build1_202 (by decide) h (fun h => ?_) (fun h => ?_)
    · refine z_aload_n C (pc := 232) d_CX_build1_232 0 rfl ?_
      refine z_aloadZ C (pc := 233) d_CX_build1_233 1 rfl ?_
      refine z_aloadZ C (pc := 235) d_CX_build1_235 5 rfl ?_
      refine z_sub (L' := [(0, .ref (ad (0, 1))), (6, zr ad 4 v6), (11, zr ad 4 v11)]) [0, 1, 4] rfl ?_
      obtain ⟨hc10, hc11, h⟩ := h
      refine xa_callVr (As := [zr ad 4 v6, zr ad 4 v12]) (fun ad => [(0, .ref (ad (0, 1))), (6, zr ad 4 v6), (11, zr ad 4 v11)]) (fun ad => []) C S hA fy_GR_nand (0, 1) (zids_fix zfix_1) rfl rfl wd_359 (pc := 237) d_CX_build1_237 ⟨rfl, rfl, Nat.le_of_ble_eq_true rfl, Nat.le_of_ble_eq_true rfl⟩ ⟨Nat.le_of_ble_eq_true rfl, Nat.le_of_ble_eq_true rfl⟩ rfl rfl (Nat.le_of_ble_eq_true rfl) (fun ad' ha => ⟨by simp only [zo_ag ha zfix_1 (by decide), zr_ag (x := v6) ha hc10, zr_ag (x := v11) ha hc11], rfl⟩) h (c_GR_nand (zln E) D g ad _ _ _ _) (fun r9 σ7 ad hE8 h => ?_)
      have hX := hX.trans hE8
      refine z_astoreZ (L' := [(13, zr ad 4 r9), (0, .ref (ad (0, 1))), (6, zr ad 4 v6), (11, zr ad 4 v11)]) C (pc := 240) d_CX_build1_240 (by decide) rfl ?_
      refine z_aload_n C (pc := 242) d_CX_build1_242 1 rfl ?_
      refine z_aloadZ C (pc := 243) d_CX_build1_243 2 rfl ?_
      refine z_sub (L' := [(13, zr ad 4 r9), (0, .ref (ad (0, 1))), (11, zr ad 4 v11)]) [0, 1, 3] rfl ?_
      obtain ⟨hc15, hc16, h⟩ := h
      refine xa_callVr (As := [zr ad 4 v6]) (fun ad => [(13, zr ad 4 r9), (0, .ref (ad (0, 1))), (11, zr ad 4 v11)]) (fun ad => []) C S hA fy_GR_inv (0, 1) (zids_fix zfix_1) rfl rfl wd_336 (pc := 245) d_CX_build1_245 ⟨rfl, rfl, Nat.le_of_ble_eq_true rfl, Nat.le_of_ble_eq_true rfl⟩ ⟨Nat.le_of_ble_eq_true rfl, Nat.le_of_ble_eq_true rfl⟩ rfl rfl (Nat.le_of_ble_eq_true rfl) (fun ad' ha => ⟨by simp only [zr_ag (x := r9) ha hc15, zo_ag ha zfix_1 (by decide), zr_ag (x := v11) ha hc16], rfl⟩) h (c_GR_inv (zln E) D g ad _ _ _) (fun r14 σ12 ad hE13 h => ?_)
      have hX := hX.trans hE13
      refine z_astoreZ (L' := [(14, zr ad 4 r14), (13, zr ad 4 r9), (0, .ref (ad (0, 1))), (11, zr ad 4 v11)]) C (pc := 248) d_CX_build1_248 (by decide) (congrArg (List.cons _) (flt_eq (j := 14) rfl (List.forall_mem_singleton.mpr (zr_cat _ _ _)) rfl)) ?_
      refine z_aload_n C (pc := 250) d_CX_build1_250 2 rfl ?_
      refine z_aloadZ C (pc := 251) d_CX_build1_251 0 rfl ?_
      refine z_aloadZ C (pc := 253) d_CX_build1_253 3 rfl ?_
      refine z_sub (L' := [(13, zr ad 4 r9), (0, .ref (ad (0, 1)))]) [1, 2] rfl ?_
      obtain ⟨hc20, h⟩ := h
      refine xa_callVr (As := [zr ad 4 r14, zr ad 4 v11]) (fun ad => [(13, zr ad 4 r9), (0, .ref (ad (0, 1)))]) (fun ad => []) C S hA fy_GR_nand (0, 1) (zids_fix zfix_1) rfl rfl wd_359 (pc := 255) d_CX_build1_255 ⟨rfl, rfl, Nat.le_of_ble_eq_true rfl, Nat.le_of_ble_eq_true rfl⟩ ⟨Nat.le_of_ble_eq_true rfl, Nat.le_of_ble_eq_true rfl⟩ rfl rfl (Nat.le_of_ble_eq_true rfl) (fun ad' ha => ⟨by simp only [zr_ag (x := r9) ha hc20, zo_ag ha zfix_1 (by decide)], rfl⟩) h (c_GR_nand (zln E) D g ad _ _ _ _) (fun r19 σ17 ad hE18 h => ?_)
      have hX := hX.trans hE18
      refine z_astoreZ (L' := [(15, zr ad 4 r19), (13, zr ad 4 r9), (0, .ref (ad (0, 1)))]) C (pc := 258) d_CX_build1_258 (by decide) rfl ?_
      refine z_aload_n C (pc := 260) d_CX_build1_260 2 rfl ?_
      refine z_aloadZ C (pc := 261) d_CX_build1_261 1 rfl ?_
      refine z_aloadZ C (pc := 263) d_CX_build1_263 0 rfl ?_
      refine z_sub (L' := []) [] rfl ?_
      refine xa_callVr (As := [zr ad 4 r9, zr ad 4 r19]) (fun ad => []) (fun ad => []) C S hA fy_GR_nand (0, 1) (zids_fix zfix_1) rfl rfl wd_359 (pc := 265) d_CX_build1_265 ⟨rfl, rfl, Nat.le_of_ble_eq_true rfl, Nat.le_of_ble_eq_true rfl⟩ ⟨Nat.le_of_ble_eq_true rfl, Nat.le_of_ble_eq_true rfl⟩ rfl rfl (Nat.le_of_ble_eq_true rfl) (fun ad' ha => ⟨rfl, rfl⟩) h (c_GR_nand (zln E) D g ad _ _ _ _) (fun r23 σ21 ad hE22 h => ?_)
      have hX := hX.trans hE22
      exact za_aret C R hX (Or.inl ⟨_, rfl⟩) (pc := 268) d_CX_build1_268 h
    · refine z_aload_n C (pc := 205) d_CX_build1_205 0 rfl ?_
      refine z_aloadZ C (pc := 206) d_CX_build1_206 1 rfl ?_
      refine z_sub (L' := [(0, .ref (ad (0, 1))), (10, .int (zi v10)), (11, zr ad 4 v11)]) [0, 3, 4] rfl ?_
      obtain ⟨hc27, h⟩ := h
      refine xa_callVr (As := [zr ad 4 v6]) (fun ad => [(0, .ref (ad (0, 1))), (10, .int (zi v10)), (11, zr ad 4 v11)]) (fun ad => []) C S hA fy_GR_inv (0, 1) (zids_fix zfix_1) rfl rfl wd_336 (pc := 208) d_CX_build1_208 ⟨rfl, rfl, Nat.le_of_ble_eq_true rfl, Nat.le_of_ble_eq_true rfl⟩ ⟨Nat.le_of_ble_eq_true rfl, Nat.le_of_ble_eq_true rfl⟩ rfl rfl (Nat.le_of_ble_eq_true rfl) (fun ad' ha => ⟨by simp only [zo_ag ha zfix_1 (by decide), zr_ag (x := v11) ha hc27], rfl⟩) h (c_GR_inv (zln E) D g ad _ _ _) (fun r26 σ24 ad hE25 h => ?_)
      have hX := hX.trans hE25
      refine z_astoreZ (L' := [(13, zr ad 4 r26), (0, .ref (ad (0, 1))), (10, .int (zi v10)), (11, zr ad 4 v11)]) C (pc := 211) d_CX_build1_211 (by decide) rfl ?_
      refine z_aload_n C (pc := 213) d_CX_build1_213 1 rfl ?_
      refine z_aloadZ C (pc := 214) d_CX_build1_214 0 rfl ?_
      refine z_aloadZ C (pc := 216) d_CX_build1_216 3 rfl ?_
      refine z_iload C (pc := 218) d_CX_build1_218 2 rfl ?_
      obtain ⟨hc28, h⟩ := h
      refine z_if_eq (tgt := 227) C (pc := 220) d_CX_build1_220 (by decide) hc28 h (fun h => ?_) (fun h => ?_)
      · refine z_iconst C (pc := 227) d_CX_build1_227 ?_
        refine z_sub (L' := []) [] rfl ?_
        refine xa_callVr (As := [zr ad 4 r26, zr ad 4 v11, .int (zi 0)]) (fun ad => []) (fun ad => []) C S hA fy_GR_gated (0, 1) (zids_fix zfix_1) rfl rfl wd_348 (pc := 228) d_CX_build1_228 ⟨rfl, rfl, Nat.le_of_ble_eq_true rfl, Nat.le_of_ble_eq_true rfl⟩ ⟨Nat.le_of_ble_eq_true rfl, Nat.le_of_ble_eq_true rfl⟩ rfl rfl (Nat.le_of_ble_eq_true rfl) (fun ad' ha => ⟨rfl, rfl⟩) h (c_GR_gated (zln E) D g ad _ _ _ _ _) (fun r31 σ29 ad hE30 h => ?_)
        have hX := hX.trans hE30
        refine zW.widen (k' := 8) (n' := 472) (by decide) (by decide) ?_
        exact za_aret C R hX (Or.inl ⟨_, rfl⟩) (pc := 231) d_CX_build1_231 h
      · refine z_iconst C (pc := 223) d_CX_build1_223 ?_
        refine z_goto (tgt := 228) C (pc := 224) d_CX_build1_224 (by decide) ?_
        refine z_sub (L' := []) [] rfl ?_
        refine xa_callVr (As := [zr ad 4 r26, zr ad 4 v11, .int (zi 1)]) (fun ad => []) (fun ad => []) C S hA fy_GR_gated (0, 1) (zids_fix zfix_1) rfl rfl wd_348 (pc := 228) d_CX_build1_228 ⟨rfl, rfl, Nat.le_of_ble_eq_true rfl, Nat.le_of_ble_eq_true rfl⟩ ⟨Nat.le_of_ble_eq_true rfl, Nat.le_of_ble_eq_true rfl⟩ rfl rfl (Nat.le_of_ble_eq_true rfl) (fun ad' ha => ⟨rfl, rfl⟩) h (c_GR_gated (zln E) D g ad _ _ _ _ _) (fun r34 σ32 ad hE33 h => ?_)
        have hX := hX.trans hE33
        refine zW.widen (k' := 8) (n' := 472) (by decide) (by decide) ?_
        exact za_aret C R hX (Or.inl ⟨_, rfl⟩) (pc := 231) d_CX_build1_231 h
  · refine z_aload_n C (pc := 181) d_CX_build1_181 0 rfl ?_
    refine z_aloadZ C (pc := 182) d_CX_build1_182 1 rfl ?_
    refine z_aloadZ C (pc := 184) d_CX_build1_184 5 rfl ?_
    refine z_iload C (pc := 186) d_CX_build1_186 2 rfl ?_
    obtain ⟨hc35, h⟩ := h
    refine z_if_eq (tgt := 195) C (pc := 188) d_CX_build1_188 (by decide) hc35 h (fun h => ?_) (fun h => ?_)
    · refine z_iconst C (pc := 195) d_CX_build1_195 ?_
      refine z_sub (L' := []) [] rfl ?_
      refine xa_callVr (As := [zr ad 4 v6, zr ad 4 v12, .int (zi 0)]) (fun ad => []) (fun ad => []) C S hA fy_GR_gated (0, 1) (zids_fix zfix_1) rfl rfl wd_348 (pc := 196) d_CX_build1_196 ⟨rfl, rfl, Nat.le_of_ble_eq_true rfl, Nat.le_of_ble_eq_true rfl⟩ ⟨Nat.le_of_ble_eq_true rfl, Nat.le_of_ble_eq_true rfl⟩ rfl rfl (Nat.le_of_ble_eq_true rfl) (fun ad' ha => ⟨rfl, rfl⟩) h (c_GR_gated (zln E) D g ad _ _ _ _ _) (fun r38 σ36 ad hE37 h => ?_)
      have hX := hX.trans hE37
      refine zW.widen (k' := 8) (n' := 472) (by decide) (by decide) ?_
      exact za_aret C R hX (Or.inl ⟨_, rfl⟩) (pc := 199) d_CX_build1_199 h
    · refine z_iconst C (pc := 191) d_CX_build1_191 ?_
      refine z_goto (tgt := 196) C (pc := 192) d_CX_build1_192 (by decide) ?_
      refine z_sub (L' := []) [] rfl ?_
      refine xa_callVr (As := [zr ad 4 v6, zr ad 4 v12, .int (zi 1)]) (fun ad => []) (fun ad => []) C S hA fy_GR_gated (0, 1) (zids_fix zfix_1) rfl rfl wd_348 (pc := 196) d_CX_build1_196 ⟨rfl, rfl, Nat.le_of_ble_eq_true rfl, Nat.le_of_ble_eq_true rfl⟩ ⟨Nat.le_of_ble_eq_true rfl, Nat.le_of_ble_eq_true rfl⟩ rfl rfl (Nat.le_of_ble_eq_true rfl) (fun ad' ha => ⟨rfl, rfl⟩) h (c_GR_gated (zln E) D g ad _ _ _ _ _) (fun r41 σ39 ad hE40 h => ?_)
      have hX := hX.trans hE40
      refine zW.widen (k' := 8) (n' := 472) (by decide) (by decide) ?_
      exact za_aret C R hX (Or.inl ⟨_, rfl⟩) (pc := 199) d_CX_build1_199 h
set_option maxHeartbeats 4000000 in
set_option maxRecDepth 100000 in
theorem wk_CX_build1_147 {E : zE} {D : va_G} {g : zG} {A : Nat → Prop} {ad0 : zA} {σ0 : zS} {Q : Int → zS → Prop} (C : zX E b_CX_build R_CX D g { frames := 12, cells := 8, slots := 472, locals := 308 } 16) (R : zRt E (some (.object "CellMapper$Node")) (zJr D g ad0 σ0 4 Q A) 8 472 A) (S : zSt g A (zst E) (zst E).heap) (hA : ∀ q, (zst E).heap.size ≤ q → A q) (ad : zA) (v6 : Int) (v9 : Int) (v10 : Int) (v11 : Int) (z0 : Int) (σ : zS) (hX : zEx ad0 σ0 ad σ) (h : bk_CX_build1_147 Q v6 v9 v10 v11 z0 σ) : zW E (zOK D A (zst E) g ad) 0 0 147 [(0, .ref (ad (0, 1))), (6, zr ad 4 v6), (9, .int (zi v9)), (10, .int (zi v10)), (11, zr ad 4 v11)] [zr ad 4 z0] σ := by
  unfold bk_CX_build1_147 at h
  refine z_astoreZ (L' := [(12, zr ad 4 z0), (0, .ref (ad (0, 1))), (6, zr ad 4 v6), (9, .int (zi v9)), (10, .int (zi v10)), (11, zr ad 4 v11)]) C (pc := 147) d_CX_build1_147 (by decide) (congrArg (List.cons _) (flt_eq (j := 12) rfl (List.forall_mem_singleton.mpr (zr_cat _ _ _)) rfl)) ?_
  refine z_aloadZ C (pc := 149) d_CX_build1_149 5 rfl ?_
  refine z_ifnonnull (tgt := 176) C (pc := 151) d_CX_build1_151 (by decide) h (fun h => ?_) (fun h => ?_)
  · refine z_sub [1, 2, 3, 4, 5, 0] rfl ?_
    exact wk_CX_build1_176 C R S hA ad _ _ _ _ _ _ hX h
  · refine z_aloadZ C (pc := 154) d_CX_build1_154 0 rfl ?_
    refine z_ifnonnull (tgt := 176) C (pc := 156) d_CX_build1_156 (by decide) h (fun h => ?_) (fun h => ?_)
    · refine z_sub [1, 2, 3, 4, 5, 0] rfl ?_
      exact wk_CX_build1_176 C R S hA ad _ _ _ _ _ _ hX h
    · refine z_iload C (pc := 159) d_CX_build1_159 3 rfl ?_
      obtain ⟨hc42, h⟩ := h
      refine z_if_ne (tgt := 169) C (pc := 161) d_CX_build1_161 (by decide) hc42 h (fun h => ?_) (fun h => ?_)
      · refine z_aload_n C (pc := 169) d_CX_build1_169 1 rfl ?_
        refine z_aloadZ C (pc := 170) d_CX_build1_170 2 rfl ?_
        refine z_sub (L' := []) [] rfl ?_
        refine xa_callVr (As := [zr ad 4 v6]) (fun ad => []) (fun ad => []) C S hA fy_GR_inv (0, 1) (zids_fix zfix_1) rfl rfl wd_336 (pc := 172) d_CX_build1_172 ⟨rfl, rfl, Nat.le_of_ble_eq_true rfl, Nat.le_of_ble_eq_true rfl⟩ ⟨Nat.le_of_ble_eq_true rfl, Nat.le_of_ble_eq_true rfl⟩ rfl rfl (Nat.le_of_ble_eq_true rfl) (fun ad' ha => ⟨rfl, rfl⟩) h (c_GR_inv (zln E) D g ad _ _ _) (fun r45 σ43 ad hE44 h => ?_)
        have hX := hX.trans hE44
        refine zW.widen (k' := 8) (n' := 472) (by decide) (by decide) ?_
        exact za_aret C R hX (Or.inl ⟨_, rfl⟩) (pc := 175) d_CX_build1_175 h
      · refine z_aloadZ C (pc := 164) d_CX_build1_164 2 rfl ?_
        refine z_goto (tgt := 175) C (pc := 166) d_CX_build1_166 (by decide) ?_
        refine zW.widen (k' := 8) (n' := 472) (by decide) (by decide) ?_
        exact za_aret C R hX (Or.inl ⟨_, rfl⟩) (pc := 175) d_CX_build1_175 h
set_option maxHeartbeats 4000000 in
set_option maxRecDepth 100000 in
theorem wk_CX_build1_129 {E : zE} {D : va_G} {g : zG} {A : Nat → Prop} {ad0 : zA} {σ0 : zS} {Q : Int → zS → Prop} (C : zX E b_CX_build R_CX D g { frames := 12, cells := 8, slots := 472, locals := 308 } 16) (R : zRt E (some (.object "CellMapper$Node")) (zJr D g ad0 σ0 4 Q A) 8 472 A) (S : zSt g A (zst E) (zst E).heap) (hA : ∀ q, (zst E).heap.size ≤ q → A q) (ad : zA) (v6 : Int) (v9 : Int) (v10 : Int) (v11 : Int) (σ : zS) (hX : zEx ad0 σ0 ad σ) (h : bk_CX_build1_129 Q v6 v9 v10 v11 σ) : zW E (zOK D A (zst E) g ad) 0 0 129 [(0, .ref (ad (0, 1))), (6, zr ad 4 v6), (9, .int (zi v9)), (10, .int (zi v10)), (11, zr ad 4 v11)] [] σ := by
  unfold bk_CX_build1_129 at h
  refine z_nullZ (ad := ad) 4 C (pc := 129) d_CX_build1_129 ?_
  refine z_goto (tgt := 147) C (pc := 130) d_CX_build1_130 (by decide) ?_
  exact wk_CX_build1_147 C R S hA ad _ _ _ _ _ _ hX h
set_option maxHeartbeats 4000000 in
set_option maxRecDepth 100000 in
theorem wk_CX_build1_115 {E : zE} {D : va_G} {g : zG} {A : Nat → Prop} {ad0 : zA} {σ0 : zS} {Q : Int → zS → Prop} (C : zX E b_CX_build R_CX D g { frames := 12, cells := 8, slots := 472, locals := 308 } 16) (R : zRt E (some (.object "CellMapper$Node")) (zJr D g ad0 σ0 4 Q A) 8 472 A) (S : zSt g A (zst E) (zst E).heap) (hA : ∀ q, (zst E).heap.size ≤ q → A q) (ad : zA) (v2 : Int) (v3 : Int) (v4 : Int) (v5 : Int) (v6 : Int) (v8 : Int) (v9 : Int) (v10 : Int) (z0 : Int) (σ : zS) (hX : zEx ad0 σ0 ad σ) (h : bk_CX_build1_115 Q v2 v3 v4 v5 v6 v8 v9 v10 z0 σ) : zW E (zOK D A (zst E) g ad) 0 0 115 [(0, .ref (ad (0, 1))), (2, zr ad 4 v2), (3, zr ad 4 v3), (4, zr ad 4 v4), (5, .int (zi v5)), (6, zr ad 4 v6), (8, .int (zi v8)), (9, .int (zi v9)), (10, .int (zi v10))] [zr ad 4 z0] σ := by
  unfold bk_CX_build1_115 at h
  refine z_astoreZ (L' := [(11, zr ad 4 z0), (0, .ref (ad (0, 1))), (2, zr ad 4 v2), (3, zr ad 4 v3), (4, zr ad 4 v4), (5, .int (zi v5)), (6, zr ad 4 v6), (8, .int (zi v8)), (9, .int (zi v9)), (10, .int (zi v10))]) C (pc := 115) d_CX_build1_115 (by decide) rfl ?_
  refine z_iload C (pc := 117) d_CX_build1_117 9 rfl ?_
  obtain ⟨hc6, h⟩ := h
  refine z_if_eq (tgt := 129) C (pc := 119) d_CX_build1_119 (by decide) hc6 h (fun h => ?_) (fun h => ?_)
  · refine z_sub [1, 6, 8, 9, 0] rfl ?_
    exact wk_CX_build1_129 C R S hA ad _ _ _ _ _ hX h
  · refine z_iload C (pc := 122) d_CX_build1_122 9 rfl ?_
    refine z_iload C (pc := 124) d_CX_build1_124 7 rfl ?_
    obtain ⟨hc46, h⟩ := h
    refine z_icmp_ne (tgt := 133) C (pc := 126) d_CX_build1_126 (by decide) hc6 hc46 h (fun h => ?_) (fun h => ?_)
    · refine z_aload_n C (pc := 133) d_CX_build1_133 1 rfl ?_
      refine z_iload C (pc := 134) d_CX_build1_134 9 rfl ?_
      refine z_aloadZ_n C (pc := 136) d_CX_build1_136 2 rfl ?_
      refine z_aloadZ_n C (pc := 137) d_CX_build1_137 3 rfl ?_
      refine z_aloadZ C (pc := 138) d_CX_build1_138 4 rfl ?_
      refine z_iload C (pc := 140) d_CX_build1_140 5 rfl ?_
      refine z_iconst C (pc := 142) d_CX_build1_142 ?_
      refine z_isub C (pc := 143) d_CX_build1_143 ?_
      refine z_sub (L' := [(11, zr ad 4 z0), (0, .ref (ad (0, 1))), (6, zr ad 4 v6), (9, .int (zi v9)), (10, .int (zi v10))]) [0, 1, 6, 8, 9] rfl ?_
      obtain ⟨hc50, hc51, h⟩ := h
      refine xa_callSr (As := [.ref (ad (0, 1)), .int (zi v10), zr ad 4 v2, zr ad 4 v3, zr ad 4 v4, .int (zi (v5 - 1))]) (fun ad => [(11, zr ad 4 z0), (0, .ref (ad (0, 1))), (6, zr ad 4 v6), (9, .int (zi v9)), (10, .int (zi v10))]) (fun ad => []) C S hA fs_CX_build wd_333 (pc := 144) d_CX_build1_144 ⟨rfl, rfl, Nat.le_of_ble_eq_true rfl, Nat.le_of_ble_eq_true rfl⟩ ⟨Nat.le_of_ble_eq_true rfl, Nat.le_of_ble_eq_true rfl⟩ rfl rfl (Nat.le_of_ble_eq_true rfl) (fun ad' ha => ⟨by simp only [zr_ag (x := z0) ha hc50, zo_ag ha zfix_1 (by decide), zr_ag (x := v6) ha hc51], rfl⟩) h (c_CX_build0 (zln E) D g ad _ _ _ _ _ _ _) (fun r49 σ47 ad hE48 h => ?_)
      have hX := hX.trans hE48
      refine z_sub [1, 2, 3, 4, 0] rfl ?_
      exact wk_CX_build1_147 C R S hA ad _ _ _ _ _ _ hX h
    · refine z_sub [1, 6, 8, 9, 0] rfl ?_
      exact wk_CX_build1_129 C R S hA ad _ _ _ _ _ hX h
set_option maxHeartbeats 4000000 in
set_option maxRecDepth 100000 in
theorem wk_CX_build1_97 {E : zE} {D : va_G} {g : zG} {A : Nat → Prop} {ad0 : zA} {σ0 : zS} {Q : Int → zS → Prop} (C : zX E b_CX_build R_CX D g { frames := 12, cells := 8, slots := 472, locals := 308 } 16) (R : zRt E (some (.object "CellMapper$Node")) (zJr D g ad0 σ0 4 Q A) 8 472 A) (S : zSt g A (zst E) (zst E).heap) (hA : ∀ q, (zst E).heap.size ≤ q → A q) (ad : zA) (v2 : Int) (v3 : Int) (v4 : Int) (v5 : Int) (v6 : Int) (v8 : Int) (v9 : Int) (v10 : Int) (σ : zS) (hX : zEx ad0 σ0 ad σ) (h : bk_CX_build1_97 Q v2 v3 v4 v5 v6 v8 v9 v10 σ) : zW E (zOK D A (zst E) g ad) 0 0 97 [(0, .ref (ad (0, 1))), (2, zr ad 4 v2), (3, zr ad 4 v3), (4, zr ad 4 v4), (5, .int (zi v5)), (6, zr ad 4 v6), (8, .int (zi v8)), (9, .int (zi v9)), (10, .int (zi v10))] [] σ := by
  unfold bk_CX_build1_97 at h
  refine z_nullZ (ad := ad) 4 C (pc := 97) d_CX_build1_97 ?_
  refine z_goto (tgt := 115) C (pc := 98) d_CX_build1_98 (by decide) ?_
  exact wk_CX_build1_115 C R S hA ad _ _ _ _ _ _ _ _ _ _ hX h
set_option maxHeartbeats 4000000 in
set_option maxRecDepth 100000 in
theorem wk_CX_build1_30 {E : zE} {D : va_G} {g : zG} {A : Nat → Prop} {ad0 : zA} {σ0 : zS} {Q : Int → zS → Prop} (C : zX E b_CX_build R_CX D g { frames := 12, cells := 8, slots := 472, locals := 308 } 16) (R : zRt E (some (.object "CellMapper$Node")) (zJr D g ad0 σ0 4 Q A) 8 472 A) (S : zSt g A (zst E) (zst E).heap) (hA : ∀ q, (zst E).heap.size ≤ q → A q) (ad : zA) (v1 : Int) (v2 : Int) (v3 : Int) (v4 : Int) (v5 : Int) (z0 : Int) (σ : zS) (hX : zEx ad0 σ0 ad σ) (h : bk_CX_build1_30 Q v1 v2 v3 v4 v5 z0 σ) : zW E (zOK D A (zst E) g ad) 0 0 30 [(0, .ref (ad (0, 1))), (1, .int (zi v1)), (2, zr ad 4 v2), (3, zr ad 4 v3), (4, zr ad 4 v4), (5, .int (zi v5))] [zr ad 4 z0] σ := by
  unfold bk_CX_build1_30 at h
  refine z_astoreZ (L' := [(6, zr ad 4 z0), (0, .ref (ad (0, 1))), (1, .int (zi v1)), (2, zr ad 4 v2), (3, zr ad 4 v3), (4, zr ad 4 v4), (5, .int (zi v5))]) C (pc := 30) d_CX_build1_30 (by decide) rfl ?_
  refine z_iconst C (pc := 32) d_CX_build1_32 ?_
  refine z_iload C (pc := 33) d_CX_build1_33 6 rfl ?_
  refine z_iconst C (pc := 35) d_CX_build1_35 ?_
  refine z_isub C (pc := 36) d_CX_build1_36 ?_
  refine z_ishl C (pc := 37) d_CX_build1_37 ?_
  refine zNi h (fun y2 ey2 h => ?_)
  refine z_istore (L' := [(7, .int (zi y2)), (6, zr ad 4 z0), (0, .ref (ad (0, 1))), (1, .int (zi v1)), (2, zr ad 4 v2), (3, zr ad 4 v3), (4, zr ad 4 v4), (5, .int (zi v5))]) C (pc := 38) d_CX_build1_38 (by decide) (congrArg (List.cons _) (flt_eq (j := 7) rfl (List.forall_mem_singleton.mpr (zr_cat _ _ _)) rfl)) ?_
  refine z_iconst C (pc := 40) d_CX_build1_40 ?_
  refine z_iload C (pc := 41) d_CX_build1_41 0 rfl ?_
  refine z_ishl C (pc := 43) d_CX_build1_43 ?_
  refine z_iconst C (pc := 44) d_CX_build1_44 ?_
  refine z_isub C (pc := 45) d_CX_build1_45 ?_
  refine zNi h (fun y3 ey3 h => ?_)
  refine z_istore (L' := [(8, .int (zi y3)), (7, .int (zi y2)), (6, zr ad 4 z0), (0, .ref (ad (0, 1))), (1, .int (zi v1)), (2, zr ad 4 v2), (3, zr ad 4 v3), (4, zr ad 4 v4), (5, .int (zi v5))]) C (pc := 46) d_CX_build1_46 (by decide) rfl ?_
  refine z_iload_n C (pc := 48) d_CX_build1_48 4 rfl ?_
  refine z_iload C (pc := 49) d_CX_build1_49 0 rfl ?_
  refine z_iand C (pc := 51) d_CX_build1_51 ?_
  refine zNi h (fun y4 ey4 h => ?_)
  refine z_istore (L' := [(9, .int (zi y4)), (8, .int (zi y3)), (7, .int (zi y2)), (6, zr ad 4 z0), (0, .ref (ad (0, 1))), (1, .int (zi v1)), (2, zr ad 4 v2), (3, zr ad 4 v3), (4, zr ad 4 v4), (5, .int (zi v5))]) C (pc := 52) d_CX_build1_52 (by decide) rfl ?_
  refine z_iload_n C (pc := 54) d_CX_build1_54 5 rfl ?_
  refine z_iload C (pc := 55) d_CX_build1_55 2 rfl ?_
  refine z_ishr C (pc := 57) d_CX_build1_57 ?_
  refine z_iload C (pc := 58) d_CX_build1_58 1 rfl ?_
  refine z_iand C (pc := 60) d_CX_build1_60 ?_
  refine zNi h (fun y5 ey5 h => ?_)
  refine z_istore (L' := [(10, .int (zi y5)), (9, .int (zi y4)), (8, .int (zi y3)), (7, .int (zi y2)), (6, zr ad 4 z0), (0, .ref (ad (0, 1))), (1, .int (zi v1)), (2, zr ad 4 v2), (3, zr ad 4 v3), (4, zr ad 4 v4), (5, .int (zi v5))]) C (pc := 61) d_CX_build1_61 (by decide) rfl ?_
  refine z_iload C (pc := 63) d_CX_build1_63 1 rfl ?_
  refine z_iload C (pc := 65) d_CX_build1_65 0 rfl ?_
  refine z_icmp_ne (tgt := 85) C (pc := 67) d_CX_build1_67 (by decide) (ey4 ▸ zc_and _ _) (ey5 ▸ zc_and _ _) h (fun h => ?_) (fun h => ?_)
  · refine z_iload C (pc := 85) d_CX_build1_85 1 rfl ?_
    refine z_if_eq (tgt := 97) C (pc := 87) d_CX_build1_87 (by decide) (ey4 ▸ zc_and _ _) h (fun h => ?_) (fun h => ?_)
    · refine z_sub [5, 7, 8, 9, 10, 4, 2, 1, 0] rfl ?_
      exact wk_CX_build1_97 C R S hA ad _ _ _ _ _ _ _ _ _ hX h
    · refine z_iload C (pc := 90) d_CX_build1_90 1 rfl ?_
      refine z_iload C (pc := 92) d_CX_build1_92 2 rfl ?_
      obtain ⟨hc52, h⟩ := h
      refine z_icmp_ne (tgt := 101) C (pc := 94) d_CX_build1_94 (by decide) (ey4 ▸ zc_and _ _) hc52 h (fun h => ?_) (fun h => ?_)
      · refine z_aload_n C (pc := 101) d_CX_build1_101 5 rfl ?_
        refine z_iload C (pc := 102) d_CX_build1_102 1 rfl ?_
        refine z_aloadZ_n C (pc := 104) d_CX_build1_104 7 rfl ?_
        refine z_aloadZ_n C (pc := 105) d_CX_build1_105 8 rfl ?_
        refine z_aloadZ C (pc := 106) d_CX_build1_106 9 rfl ?_
        refine z_iload C (pc := 108) d_CX_build1_108 10 rfl ?_
        refine z_iconst C (pc := 110) d_CX_build1_110 ?_
        refine z_isub C (pc := 111) d_CX_build1_111 ?_
        refine z_sub (L' := [(10, .int (zi y5)), (9, .int (zi y4)), (8, .int (zi y3)), (6, zr ad 4 z0), (0, .ref (ad (0, 1))), (2, zr ad 4 v2), (3, zr ad 4 v3), (4, zr ad 4 v4), (5, .int (zi v5))]) [0, 1, 2, 4, 5, 7, 8, 9, 10] rfl ?_
        obtain ⟨hc56, hc57, hc58, hc59, h⟩ := h
        refine xa_callSr (As := [.ref (ad (0, 1)), .int (zi y4), zr ad 4 v2, zr ad 4 v3, zr ad 4 v4, .int (zi (v5 - 1))]) (fun ad => [(10, .int (zi y5)), (9, .int (zi y4)), (8, .int (zi y3)), (6, zr ad 4 z0), (0, .ref (ad (0, 1))), (2, zr ad 4 v2), (3, zr ad 4 v3), (4, zr ad 4 v4), (5, .int (zi v5))]) (fun ad => []) C S hA fs_CX_build wd_333 (pc := 112) d_CX_build1_112 ⟨rfl, rfl, Nat.le_of_ble_eq_true rfl, Nat.le_of_ble_eq_true rfl⟩ ⟨Nat.le_of_ble_eq_true rfl, Nat.le_of_ble_eq_true rfl⟩ rfl rfl (Nat.le_of_ble_eq_true rfl) (fun ad' ha => ⟨by simp only [zr_ag (x := z0) ha hc56, zo_ag ha zfix_1 (by decide), zr_ag (x := v2) ha hc57, zr_ag (x := v3) ha hc58, zr_ag (x := v4) ha hc59], rfl⟩) h (c_CX_build0 (zln E) D g ad _ _ _ _ _ _ _) (fun r55 σ53 ad hE54 h => ?_)
        have hX := hX.trans hE54
        refine z_sub [4, 5, 6, 7, 8, 3, 2, 1, 0] rfl ?_
        exact wk_CX_build1_115 C R S hA ad _ _ _ _ _ _ _ _ _ _ hX h
      · refine z_sub [5, 7, 8, 9, 10, 4, 2, 1, 0] rfl ?_
        exact wk_CX_build1_97 C R S hA ad _ _ _ _ _ _ _ _ _ hX h
  · refine z_aload_n C (pc := 70) d_CX_build1_70 5 rfl ?_
    refine z_iload C (pc := 71) d_CX_build1_71 1 rfl ?_
    refine z_aloadZ_n C (pc := 73) d_CX_build1_73 7 rfl ?_
    refine z_aloadZ_n C (pc := 74) d_CX_build1_74 8 rfl ?_
    refine z_aloadZ C (pc := 75) d_CX_build1_75 9 rfl ?_
    refine z_iload C (pc := 77) d_CX_build1_77 10 rfl ?_
    refine z_iconst C (pc := 79) d_CX_build1_79 ?_
    refine z_isub C (pc := 80) d_CX_build1_80 ?_
    refine z_sub (L' := []) [] rfl ?_
    refine xa_callSr (As := [.ref (ad (0, 1)), .int (zi y4), zr ad 4 v2, zr ad 4 v3, zr ad 4 v4, .int (zi (v5 - 1))]) (fun ad => []) (fun ad => []) C S hA fs_CX_build wd_333 (pc := 81) d_CX_build1_81 ⟨rfl, rfl, Nat.le_of_ble_eq_true rfl, Nat.le_of_ble_eq_true rfl⟩ ⟨Nat.le_of_ble_eq_true rfl, Nat.le_of_ble_eq_true rfl⟩ rfl rfl (Nat.le_of_ble_eq_true rfl) (fun ad' ha => ⟨rfl, rfl⟩) h (c_CX_build0 (zln E) D g ad _ _ _ _ _ _ _) (fun r62 σ60 ad hE61 h => ?_)
    have hX := hX.trans hE61
    refine zW.widen (k' := 8) (n' := 472) (by decide) (by decide) ?_
    exact za_aret C R hX (Or.inl ⟨_, rfl⟩) (pc := 84) d_CX_build1_84 h
set_option maxHeartbeats 4000000 in
set_option maxRecDepth 100000 in
theorem c_CX_build1 (l : Launch) (D : va_G) (g : zG) (ad : zA) (v1 : Int) (v2 : Int) (v3 : Int) (v4 : Int) (v5 : Int) (Q : Int → zS → Prop) (σ : zS) (h : wp_CX_build1 Q v1 v2 v3 v4 v5 σ) (sz : Nat) : zHr 4 l y_CX_build b_CX_build 16 (some (.object "CellMapper$Node")) { frames := 12, cells := 8, slots := 472, locals := 308 } D g ad σ [.ref (ad (0, 1)), .int (zi v1), zr ad 4 v2, zr ad 4 v3, zr ad 4 v4, .int (zi v5)] Q sz 8 472 := by
  unfold wp_CX_build1 at h
  refine zA_of (by decide) (by simp [lg_sl, zr_cat, kv_cat, cat_i, cat_l, cat_r]) (fun E C R S hA => ?_)
  have C : zX E b_CX_build R_CX D g { frames := 12, cells := 8, slots := 472, locals := 308 } 16 := C
  have hX : zEx ad σ ad σ := zEx.rf
  refine z_sub (L' := [(0, .ref (ad (0, 1))), (1, .int (zi v1)), (2, zr ad 4 v2), (3, zr ad 4 v3), (4, zr ad 4 v4), (5, .int (zi v5))]) [0, 1, 2, 3, 4, 5] (by simp [lv_args, lv_pick, zr_cat, kv_cat, cat_i, cat_l, cat_r]) ?_
  refine z_iload C (pc := 0) d_CX_build1_0 5 rfl ?_
  refine z_iconst C (pc := 2) d_CX_build1_2 ?_
  obtain ⟨hc1, h⟩ := h
  refine z_icmp_ge (tgt := 8) C (pc := 3) d_CX_build1_3 (by decide) hc1 (by decide) h (fun h => ?_) (fun h => ?_)
  · refine z_iload C (pc := 8) d_CX_build1_8 5 rfl ?_
    refine z_iconst C (pc := 10) d_CX_build1_10 ?_
    refine z_icmp_ne (tgt := 19) C (pc := 11) d_CX_build1_11 (by decide) hc1 (by decide) h (fun h => ?_) (fun h => ?_)
    · refine z_iload C (pc := 19) d_CX_build1_19 5 rfl ?_
      refine z_iconst C (pc := 21) d_CX_build1_21 ?_
      refine z_icmp_ne (tgt := 29) C (pc := 22) d_CX_build1_22 (by decide) hc1 (by decide) h (fun h => ?_) (fun h => ?_)
      · refine z_aloadZ_n C (pc := 29) d_CX_build1_29 2 rfl ?_
        exact wk_CX_build1_30 C R S hA ad _ _ _ _ _ _ _ hX h
      · refine z_aloadZ_n C (pc := 25) d_CX_build1_25 3 rfl ?_
        refine z_goto (tgt := 30) C (pc := 26) d_CX_build1_26 (by decide) ?_
        exact wk_CX_build1_30 C R S hA ad _ _ _ _ _ _ _ hX h
    · refine z_aloadZ C (pc := 14) d_CX_build1_14 4 rfl ?_
      refine z_goto (tgt := 30) C (pc := 16) d_CX_build1_16 (by decide) ?_
      exact wk_CX_build1_30 C R S hA ad _ _ _ _ _ _ _ hX h
  · refine z_aloadZ_n C (pc := 6) d_CX_build1_6 2 rfl ?_
    refine zW.widen (k' := 8) (n' := 472) (by decide) (by decide) ?_
    exact za_aret C R hX (Or.inl ⟨_, rfl⟩) (pc := 7) d_CX_build1_7 h
theorem d_CX_build2_0 : decode b_CX_build 0 = .ok (.iload 5, 2) := by decide +kernel
theorem d_CX_build2_2 : decode b_CX_build 2 = .ok (.iconst 1, 1) := by decide +kernel
theorem d_CX_build2_3 : decode b_CX_build 3 = .ok (.if_icmp .ge 5, 3) := by decide +kernel
theorem d_CX_build2_6 : decode b_CX_build 6 = .ok (.aload_n 2, 1) := by decide +kernel
theorem d_CX_build2_7 : decode b_CX_build 7 = .ok (.areturn, 1) := by decide +kernel
theorem d_CX_build2_8 : decode b_CX_build 8 = .ok (.iload 5, 2) := by decide +kernel
theorem d_CX_build2_10 : decode b_CX_build 10 = .ok (.iconst 3, 1) := by decide +kernel
theorem d_CX_build2_11 : decode b_CX_build 11 = .ok (.if_icmp .ne 8, 3) := by decide +kernel
theorem d_CX_build2_14 : decode b_CX_build 14 = .ok (.aload 4, 2) := by decide +kernel
theorem d_CX_build2_16 : decode b_CX_build 16 = .ok (.goto 14, 3) := by decide +kernel
theorem d_CX_build2_19 : decode b_CX_build 19 = .ok (.iload 5, 2) := by decide +kernel
theorem d_CX_build2_21 : decode b_CX_build 21 = .ok (.iconst 2, 1) := by decide +kernel
theorem d_CX_build2_22 : decode b_CX_build 22 = .ok (.if_icmp .ne 7, 3) := by decide +kernel
theorem d_CX_build2_25 : decode b_CX_build 25 = .ok (.aload_n 3, 1) := by decide +kernel
theorem d_CX_build2_26 : decode b_CX_build 26 = .ok (.goto 4, 3) := by decide +kernel
theorem d_CX_build2_29 : decode b_CX_build 29 = .ok (.aload_n 2, 1) := by decide +kernel
theorem d_CX_build2_30 : decode b_CX_build 30 = .ok (.astore 6, 2) := by decide +kernel
theorem d_CX_build2_32 : decode b_CX_build 32 = .ok (.iconst 1, 1) := by decide +kernel
theorem d_CX_build2_33 : decode b_CX_build 33 = .ok (.iload 5, 2) := by decide +kernel
theorem d_CX_build2_35 : decode b_CX_build 35 = .ok (.iconst 1, 1) := by decide +kernel
theorem d_CX_build2_36 : decode b_CX_build 36 = .ok (.isub, 1) := by decide +kernel
theorem d_CX_build2_37 : decode b_CX_build 37 = .ok (.ishl, 1) := by decide +kernel
theorem d_CX_build2_38 : decode b_CX_build 38 = .ok (.istore 7, 2) := by decide +kernel
theorem d_CX_build2_40 : decode b_CX_build 40 = .ok (.iconst 1, 1) := by decide +kernel
theorem d_CX_build2_41 : decode b_CX_build 41 = .ok (.iload 7, 2) := by decide +kernel
theorem d_CX_build2_43 : decode b_CX_build 43 = .ok (.ishl, 1) := by decide +kernel
theorem d_CX_build2_44 : decode b_CX_build 44 = .ok (.iconst 1, 1) := by decide +kernel
theorem d_CX_build2_45 : decode b_CX_build 45 = .ok (.isub, 1) := by decide +kernel
theorem d_CX_build2_46 : decode b_CX_build 46 = .ok (.istore 8, 2) := by decide +kernel
theorem d_CX_build2_48 : decode b_CX_build 48 = .ok (.iload_n 1, 1) := by decide +kernel
theorem d_CX_build2_49 : decode b_CX_build 49 = .ok (.iload 8, 2) := by decide +kernel
theorem d_CX_build2_51 : decode b_CX_build 51 = .ok (.iand, 1) := by decide +kernel
theorem d_CX_build2_52 : decode b_CX_build 52 = .ok (.istore 9, 2) := by decide +kernel
theorem d_CX_build2_54 : decode b_CX_build 54 = .ok (.iload_n 1, 1) := by decide +kernel
theorem d_CX_build2_55 : decode b_CX_build 55 = .ok (.iload 7, 2) := by decide +kernel
theorem d_CX_build2_57 : decode b_CX_build 57 = .ok (.ishr, 1) := by decide +kernel
theorem d_CX_build2_58 : decode b_CX_build 58 = .ok (.iload 8, 2) := by decide +kernel
theorem d_CX_build2_60 : decode b_CX_build 60 = .ok (.iand, 1) := by decide +kernel
theorem d_CX_build2_61 : decode b_CX_build 61 = .ok (.istore 10, 2) := by decide +kernel
theorem d_CX_build2_63 : decode b_CX_build 63 = .ok (.iload 9, 2) := by decide +kernel
theorem d_CX_build2_65 : decode b_CX_build 65 = .ok (.iload 10, 2) := by decide +kernel
theorem d_CX_build2_67 : decode b_CX_build 67 = .ok (.if_icmp .ne 18, 3) := by decide +kernel
theorem d_CX_build2_70 : decode b_CX_build 70 = .ok (.aload_n 0, 1) := by decide +kernel
theorem d_CX_build2_71 : decode b_CX_build 71 = .ok (.iload 9, 2) := by decide +kernel
theorem d_CX_build2_73 : decode b_CX_build 73 = .ok (.aload_n 2, 1) := by decide +kernel
theorem d_CX_build2_74 : decode b_CX_build 74 = .ok (.aload_n 3, 1) := by decide +kernel
theorem d_CX_build2_75 : decode b_CX_build 75 = .ok (.aload 4, 2) := by decide +kernel
theorem d_CX_build2_77 : decode b_CX_build 77 = .ok (.iload 5, 2) := by decide +kernel
theorem d_CX_build2_79 : decode b_CX_build 79 = .ok (.iconst 1, 1) := by decide +kernel
theorem d_CX_build2_80 : decode b_CX_build 80 = .ok (.isub, 1) := by decide +kernel
theorem d_CX_build2_81 : decode b_CX_build 81 = .ok (.invokestatic 33, 3) := by decide +kernel
theorem d_CX_build2_84 : decode b_CX_build 84 = .ok (.areturn, 1) := by decide +kernel
theorem d_CX_build2_85 : decode b_CX_build 85 = .ok (.iload 9, 2) := by decide +kernel
theorem d_CX_build2_87 : decode b_CX_build 87 = .ok (.ifCond .eq 10, 3) := by decide +kernel
theorem d_CX_build2_90 : decode b_CX_build 90 = .ok (.iload 9, 2) := by decide +kernel
theorem d_CX_build2_92 : decode b_CX_build 92 = .ok (.iload 8, 2) := by decide +kernel
theorem d_CX_build2_94 : decode b_CX_build 94 = .ok (.if_icmp .ne 7, 3) := by decide +kernel
theorem d_CX_build2_97 : decode b_CX_build 97 = .ok (.aconst_null, 1) := by decide +kernel
theorem d_CX_build2_98 : decode b_CX_build 98 = .ok (.goto 17, 3) := by decide +kernel
theorem d_CX_build2_101 : decode b_CX_build 101 = .ok (.aload_n 0, 1) := by decide +kernel
theorem d_CX_build2_102 : decode b_CX_build 102 = .ok (.iload 9, 2) := by decide +kernel
theorem d_CX_build2_104 : decode b_CX_build 104 = .ok (.aload_n 2, 1) := by decide +kernel
theorem d_CX_build2_105 : decode b_CX_build 105 = .ok (.aload_n 3, 1) := by decide +kernel
theorem d_CX_build2_106 : decode b_CX_build 106 = .ok (.aload 4, 2) := by decide +kernel
theorem d_CX_build2_108 : decode b_CX_build 108 = .ok (.iload 5, 2) := by decide +kernel
theorem d_CX_build2_110 : decode b_CX_build 110 = .ok (.iconst 1, 1) := by decide +kernel
theorem d_CX_build2_111 : decode b_CX_build 111 = .ok (.isub, 1) := by decide +kernel
theorem d_CX_build2_112 : decode b_CX_build 112 = .ok (.invokestatic 33, 3) := by decide +kernel
theorem d_CX_build2_115 : decode b_CX_build 115 = .ok (.astore 11, 2) := by decide +kernel
theorem d_CX_build2_117 : decode b_CX_build 117 = .ok (.iload 10, 2) := by decide +kernel
theorem d_CX_build2_119 : decode b_CX_build 119 = .ok (.ifCond .eq 10, 3) := by decide +kernel
theorem d_CX_build2_122 : decode b_CX_build 122 = .ok (.iload 10, 2) := by decide +kernel
theorem d_CX_build2_124 : decode b_CX_build 124 = .ok (.iload 8, 2) := by decide +kernel
theorem d_CX_build2_126 : decode b_CX_build 126 = .ok (.if_icmp .ne 7, 3) := by decide +kernel
theorem d_CX_build2_129 : decode b_CX_build 129 = .ok (.aconst_null, 1) := by decide +kernel
theorem d_CX_build2_130 : decode b_CX_build 130 = .ok (.goto 17, 3) := by decide +kernel
theorem d_CX_build2_133 : decode b_CX_build 133 = .ok (.aload_n 0, 1) := by decide +kernel
theorem d_CX_build2_134 : decode b_CX_build 134 = .ok (.iload 10, 2) := by decide +kernel
theorem d_CX_build2_136 : decode b_CX_build 136 = .ok (.aload_n 2, 1) := by decide +kernel
theorem d_CX_build2_137 : decode b_CX_build 137 = .ok (.aload_n 3, 1) := by decide +kernel
theorem d_CX_build2_138 : decode b_CX_build 138 = .ok (.aload 4, 2) := by decide +kernel
theorem d_CX_build2_140 : decode b_CX_build 140 = .ok (.iload 5, 2) := by decide +kernel
theorem d_CX_build2_142 : decode b_CX_build 142 = .ok (.iconst 1, 1) := by decide +kernel
theorem d_CX_build2_143 : decode b_CX_build 143 = .ok (.isub, 1) := by decide +kernel
theorem d_CX_build2_144 : decode b_CX_build 144 = .ok (.invokestatic 33, 3) := by decide +kernel
theorem d_CX_build2_147 : decode b_CX_build 147 = .ok (.astore 12, 2) := by decide +kernel
theorem d_CX_build2_149 : decode b_CX_build 149 = .ok (.aload 11, 2) := by decide +kernel
theorem d_CX_build2_151 : decode b_CX_build 151 = .ok (.ifnonnull 25, 3) := by decide +kernel
theorem d_CX_build2_154 : decode b_CX_build 154 = .ok (.aload 12, 2) := by decide +kernel
theorem d_CX_build2_156 : decode b_CX_build 156 = .ok (.ifnonnull 20, 3) := by decide +kernel
theorem d_CX_build2_159 : decode b_CX_build 159 = .ok (.iload 9, 2) := by decide +kernel
theorem d_CX_build2_161 : decode b_CX_build 161 = .ok (.ifCond .ne 8, 3) := by decide +kernel
theorem d_CX_build2_164 : decode b_CX_build 164 = .ok (.aload 6, 2) := by decide +kernel
theorem d_CX_build2_166 : decode b_CX_build 166 = .ok (.goto 9, 3) := by decide +kernel
theorem d_CX_build2_169 : decode b_CX_build 169 = .ok (.aload_n 0, 1) := by decide +kernel
theorem d_CX_build2_170 : decode b_CX_build 170 = .ok (.aload 6, 2) := by decide +kernel
theorem d_CX_build2_172 : decode b_CX_build 172 = .ok (.invokevirtual 37, 3) := by decide +kernel
theorem d_CX_build2_175 : decode b_CX_build 175 = .ok (.areturn, 1) := by decide +kernel
theorem d_CX_build2_176 : decode b_CX_build 176 = .ok (.aload 11, 2) := by decide +kernel
theorem d_CX_build2_178 : decode b_CX_build 178 = .ok (.ifnonnull 22, 3) := by decide +kernel
theorem d_CX_build2_181 : decode b_CX_build 181 = .ok (.aload_n 0, 1) := by decide +kernel
theorem d_CX_build2_182 : decode b_CX_build 182 = .ok (.aload 6, 2) := by decide +kernel
theorem d_CX_build2_184 : decode b_CX_build 184 = .ok (.aload 12, 2) := by decide +kernel
theorem d_CX_build2_186 : decode b_CX_build 186 = .ok (.iload 9, 2) := by decide +kernel
theorem d_CX_build2_188 : decode b_CX_build 188 = .ok (.ifCond .eq 7, 3) := by decide +kernel
theorem d_CX_build2_191 : decode b_CX_build 191 = .ok (.iconst 1, 1) := by decide +kernel
theorem d_CX_build2_192 : decode b_CX_build 192 = .ok (.goto 4, 3) := by decide +kernel
theorem d_CX_build2_195 : decode b_CX_build 195 = .ok (.iconst 0, 1) := by decide +kernel
theorem d_CX_build2_196 : decode b_CX_build 196 = .ok (.invokevirtual 43, 3) := by decide +kernel
theorem d_CX_build2_199 : decode b_CX_build 199 = .ok (.areturn, 1) := by decide +kernel
theorem d_CX_build2_200 : decode b_CX_build 200 = .ok (.aload 12, 2) := by decide +kernel
theorem d_CX_build2_202 : decode b_CX_build 202 = .ok (.ifnonnull 30, 3) := by decide +kernel
theorem d_CX_build2_205 : decode b_CX_build 205 = .ok (.aload_n 0, 1) := by decide +kernel
theorem d_CX_build2_206 : decode b_CX_build 206 = .ok (.aload 6, 2) := by decide +kernel
theorem d_CX_build2_208 : decode b_CX_build 208 = .ok (.invokevirtual 37, 3) := by decide +kernel
theorem d_CX_build2_211 : decode b_CX_build 211 = .ok (.astore 13, 2) := by decide +kernel
theorem d_CX_build2_213 : decode b_CX_build 213 = .ok (.aload_n 0, 1) := by decide +kernel
theorem d_CX_build2_214 : decode b_CX_build 214 = .ok (.aload 13, 2) := by decide +kernel
theorem d_CX_build2_216 : decode b_CX_build 216 = .ok (.aload 11, 2) := by decide +kernel
theorem d_CX_build2_218 : decode b_CX_build 218 = .ok (.iload 10, 2) := by decide +kernel
theorem d_CX_build2_220 : decode b_CX_build 220 = .ok (.ifCond .eq 7, 3) := by decide +kernel
theorem d_CX_build2_223 : decode b_CX_build 223 = .ok (.iconst 1, 1) := by decide +kernel
theorem d_CX_build2_224 : decode b_CX_build 224 = .ok (.goto 4, 3) := by decide +kernel
theorem d_CX_build2_227 : decode b_CX_build 227 = .ok (.iconst 0, 1) := by decide +kernel
theorem d_CX_build2_228 : decode b_CX_build 228 = .ok (.invokevirtual 43, 3) := by decide +kernel
theorem d_CX_build2_231 : decode b_CX_build 231 = .ok (.areturn, 1) := by decide +kernel
theorem d_CX_build2_232 : decode b_CX_build 232 = .ok (.aload_n 0, 1) := by decide +kernel
theorem d_CX_build2_233 : decode b_CX_build 233 = .ok (.aload 6, 2) := by decide +kernel
theorem d_CX_build2_235 : decode b_CX_build 235 = .ok (.aload 12, 2) := by decide +kernel
theorem d_CX_build2_237 : decode b_CX_build 237 = .ok (.invokevirtual 47, 3) := by decide +kernel
theorem d_CX_build2_240 : decode b_CX_build 240 = .ok (.astore 13, 2) := by decide +kernel
theorem d_CX_build2_242 : decode b_CX_build 242 = .ok (.aload_n 0, 1) := by decide +kernel
theorem d_CX_build2_243 : decode b_CX_build 243 = .ok (.aload 6, 2) := by decide +kernel
theorem d_CX_build2_245 : decode b_CX_build 245 = .ok (.invokevirtual 37, 3) := by decide +kernel
theorem d_CX_build2_248 : decode b_CX_build 248 = .ok (.astore 14, 2) := by decide +kernel
theorem d_CX_build2_250 : decode b_CX_build 250 = .ok (.aload_n 0, 1) := by decide +kernel
theorem d_CX_build2_251 : decode b_CX_build 251 = .ok (.aload 14, 2) := by decide +kernel
theorem d_CX_build2_253 : decode b_CX_build 253 = .ok (.aload 11, 2) := by decide +kernel
theorem d_CX_build2_255 : decode b_CX_build 255 = .ok (.invokevirtual 47, 3) := by decide +kernel
theorem d_CX_build2_258 : decode b_CX_build 258 = .ok (.astore 15, 2) := by decide +kernel
theorem d_CX_build2_260 : decode b_CX_build 260 = .ok (.aload_n 0, 1) := by decide +kernel
theorem d_CX_build2_261 : decode b_CX_build 261 = .ok (.aload 13, 2) := by decide +kernel
theorem d_CX_build2_263 : decode b_CX_build 263 = .ok (.aload 15, 2) := by decide +kernel
theorem d_CX_build2_265 : decode b_CX_build 265 = .ok (.invokevirtual 47, 3) := by decide +kernel
theorem d_CX_build2_268 : decode b_CX_build 268 = .ok (.areturn, 1) := by decide +kernel
def bk_CX_build2_176 (Q : Int → zS → Prop) (v6 : Int) (v9 : Int) (v10 : Int) (v11 : Int) (v12 : Int) (σ : zS) : Prop :=
  ((v11 < 0 →
    zc v9 ∧ ((v9 = 0 →
      wp_GR_gated (fun r38 σ36 =>
        Q r38 σ36) v6 v12 0 σ) ∧
     (¬ v9 = 0 →
      wp_GR_gated (fun r41 σ39 =>
        Q r41 σ39) v6 v12 1 σ))) ∧
   (¬ v11 < 0 →
    ((v12 < 0 →
      zvn σ v11 ∧ wp_GR_inv (fun r26 σ24 =>
        zc v10 ∧ ((v10 = 0 →
          wp_GR_gated (fun r31 σ29 =>
            Q r31 σ29) r26 v11 0 σ24) ∧
         (¬ v10 = 0 →
          wp_GR_gated (fun r34 σ32 =>
            Q r34 σ32) r26 v11 1 σ24))) v6 σ) ∧
     (¬ v12 < 0 →
      zvn σ v6 ∧ zvn σ v11 ∧ wp_GR_nand (fun r9 σ7 =>
        zvn σ7 r9 ∧ zvn σ7 v11 ∧ wp_GR_inv (fun r14 σ12 =>
          zvn σ12 r9 ∧ wp_GR_nand (fun r19 σ17 =>
            wp_GR_nand (fun r23 σ21 =>
              Q r23 σ21) r9 r19 σ17) r14 v11 σ12) v6 σ7) v6 v12 σ))))
def bk_CX_build2_147 (Q : Int → zS → Prop) (v6 : Int) (v9 : Int) (v10 : Int) (v11 : Int) (z0 : Int) (σ : zS) : Prop :=
  ((v11 < 0 →
    ((z0 < 0 →
      zc v9 ∧ ((v9 = 0 →
        Q v6 σ) ∧
       (¬ v9 = 0 →
        wp_GR_inv (fun r45 σ43 =>
          Q r45 σ43) v6 σ))) ∧
     (¬ z0 < 0 →
      bk_CX_build2_176 Q v6 v9 v10 v11 z0 σ))) ∧
   (¬ v11 < 0 →
    bk_CX_build2_176 Q v6 v9 v10 v11 z0 σ))
def bk_CX_build2_129 (Q : Int → zS → Prop) (v6 : Int) (v9 : Int) (v10 : Int) (v11 : Int) (σ : zS) : Prop :=
  bk_CX_build2_147 Q v6 v9 v10 v11 (-1) σ
def bk_CX_build2_115 (Q : Int → zS → Prop) (v2 : Int) (v3 : Int) (v4 : Int) (v5 : Int) (v6 : Int) (v8 : Int) (v9 : Int) (v10 : Int) (z0 : Int) (σ : zS) : Prop :=
  zc v10 ∧ ((v10 = 0 →
    bk_CX_build2_129 Q v6 v9 v10 z0 σ) ∧
   (¬ v10 = 0 →
    zc v8 ∧ ((v10 = v8 →
      bk_CX_build2_129 Q v6 v9 v10 z0 σ) ∧
     (¬ v10 = v8 →
      zvn σ z0 ∧ zvn σ v6 ∧ wp_CX_build1 (fun r49 σ47 =>
        bk_CX_build2_147 Q v6 v9 v10 z0 r49 σ47) v10 v2 v3 v4 (v5 - 1) σ))))
def bk_CX_build2_97 (Q : Int → zS → Prop) (v2 : Int) (v3 : Int) (v4 : Int) (v5 : Int) (v6 : Int) (v8 : Int) (v9 : Int) (v10 : Int) (σ : zS) : Prop :=
  bk_CX_build2_115 Q v2 v3 v4 v5 v6 v8 v9 v10 (-1) σ
def bk_CX_build2_30 (Q : Int → zS → Prop) (v1 : Int) (v2 : Int) (v3 : Int) (v4 : Int) (v5 : Int) (z0 : Int) (σ : zS) : Prop :=
  ∀ y2, y2 = zshl 1 (v5 - 1) →
  ∀ y3, y3 = (zshl 1 y2) - 1 →
  ∀ y4, y4 = zand v1 y3 →
  ∀ y5, y5 = zand (zshr v1 y2) y3 →
  ((y4 = y5 →
    wp_CX_build1 (fun r62 σ60 =>
      Q r62 σ60) y4 v2 v3 v4 (v5 - 1) σ) ∧
   (¬ y4 = y5 →
    ((y4 = 0 →
      bk_CX_build2_97 Q v2 v3 v4 v5 z0 y3 y4 y5 σ) ∧
     (¬ y4 = 0 →
      zc y3 ∧ ((y4 = y3 →
        bk_CX_build2_97 Q v2 v3 v4 v5 z0 y3 y4 y5 σ) ∧
       (¬ y4 = y3 →
        zvn σ z0 ∧ zvn σ v2 ∧ zvn σ v3 ∧ zvn σ v4 ∧ wp_CX_build1 (fun r55 σ53 =>
          bk_CX_build2_115 Q v2 v3 v4 v5 z0 y3 y4 y5 r55 σ53) y4 v2 v3 v4 (v5 - 1) σ))))))
def wp_CX_build2 (Q : Int → zS → Prop) (v1 : Int) (v2 : Int) (v3 : Int) (v4 : Int) (v5 : Int) (σ : zS) : Prop :=
  zc v5 ∧ ((1 ≤ v5 →
    ((v5 = 3 →
      bk_CX_build2_30 Q v1 v2 v3 v4 v5 v4 σ) ∧
     (¬ v5 = 3 →
      ((v5 = 2 →
        bk_CX_build2_30 Q v1 v2 v3 v4 v5 v3 σ) ∧
       (¬ v5 = 2 →
        bk_CX_build2_30 Q v1 v2 v3 v4 v5 v2 σ))))) ∧
   (¬ 1 ≤ v5 →
    Q v2 σ))
set_option maxHeartbeats 4000000 in
set_option maxRecDepth 100000 in
theorem wk_CX_build2_176 {E : zE} {D : va_G} {g : zG} {A : Nat → Prop} {ad0 : zA} {σ0 : zS} {Q : Int → zS → Prop} (C : zX E b_CX_build R_CX D g { frames := 13, cells := 24, slots := 1416, locals := 343 } 16) (R : zRt E (some (.object "CellMapper$Node")) (zJr D g ad0 σ0 4 Q A) 24 1416 A) (S : zSt g A (zst E) (zst E).heap) (hA : ∀ q, (zst E).heap.size ≤ q → A q) (ad : zA) (v6 : Int) (v9 : Int) (v10 : Int) (v11 : Int) (v12 : Int) (σ : zS) (hX : zEx ad0 σ0 ad σ) (h : bk_CX_build2_176 Q v6 v9 v10 v11 v12 σ) : zW E (zOK D A (zst E) g ad) 16 944 176 [(0, .ref (ad (0, 1))), (6, zr ad 4 v6), (9, .int (zi v9)), (10, .int (zi v10)), (11, zr ad 4 v11), (12, zr ad 4 v12)] [] σ := by
  unfold bk_CX_build2_176 at h
  refine z_aloadZ C (pc := 176) d_CX_build2_176 4 rfl ?_
  refine z_ifnonnull (tgt := 200) C (pc := 178) d_CX_build2_178 (by decide) h (fun h => ?_) (fun h => ?_)
  · refine z_aloadZ C (pc := 200) d_CX_build2_200 5 rfl ?_
    refine z_ifnonnull (tgt := 232) C (pc := 202) d_CX_build2_202 (by decide) h (fun h => ?_) (fun h => ?_)
    · refine z_aload_n C (pc := 232) d_CX_build2_232 0 rfl ?_
      refine z_aloadZ C (pc := 233) d_CX_build2_233 1 rfl ?_
      refine z_aloadZ C (pc := 235) d_CX_build2_235 5 rfl ?_
      refine z_sub (L' := [(0, .ref (ad (0, 1))), (6, zr ad 4 v6), (11, zr ad 4 v11)]) [0, 1, 4] rfl ?_
      obtain ⟨hc10, hc11, h⟩ := h
      refine xa_callVr (As := [zr ad 4 v6, zr ad 4 v12]) (fun ad => [(0, .ref (ad (0, 1))), (6, zr ad 4 v6), (11, zr ad 4 v11)]) (fun ad => []) C S hA fy_GR_nand (0, 1) (zids_fix zfix_1) rfl rfl wd_359 (pc := 237) d_CX_build2_237 ⟨rfl, rfl, Nat.le_of_ble_eq_true rfl, Nat.le_of_ble_eq_true rfl⟩ ⟨Nat.le_of_ble_eq_true rfl, Nat.le_of_ble_eq_true rfl⟩ rfl rfl (Nat.le_of_ble_eq_true rfl) (fun ad' ha => ⟨by simp only [zo_ag ha zfix_1 (by decide), zr_ag (x := v6) ha hc10, zr_ag (x := v11) ha hc11], rfl⟩) h (c_GR_nand (zln E) D g ad _ _ _ _) (fun r9 σ7 ad hE8 h => ?_)
      have hX := hX.trans hE8
      refine z_astoreZ (L' := [(13, zr ad 4 r9), (0, .ref (ad (0, 1))), (6, zr ad 4 v6), (11, zr ad 4 v11)]) C (pc := 240) d_CX_build2_240 (by decide) rfl ?_
      refine z_aload_n C (pc := 242) d_CX_build2_242 1 rfl ?_
      refine z_aloadZ C (pc := 243) d_CX_build2_243 2 rfl ?_
      refine z_sub (L' := [(13, zr ad 4 r9), (0, .ref (ad (0, 1))), (11, zr ad 4 v11)]) [0, 1, 3] rfl ?_
      obtain ⟨hc15, hc16, h⟩ := h
      refine xa_callVr (As := [zr ad 4 v6]) (fun ad => [(13, zr ad 4 r9), (0, .ref (ad (0, 1))), (11, zr ad 4 v11)]) (fun ad => []) C S hA fy_GR_inv (0, 1) (zids_fix zfix_1) rfl rfl wd_336 (pc := 245) d_CX_build2_245 ⟨rfl, rfl, Nat.le_of_ble_eq_true rfl, Nat.le_of_ble_eq_true rfl⟩ ⟨Nat.le_of_ble_eq_true rfl, Nat.le_of_ble_eq_true rfl⟩ rfl rfl (Nat.le_of_ble_eq_true rfl) (fun ad' ha => ⟨by simp only [zr_ag (x := r9) ha hc15, zo_ag ha zfix_1 (by decide), zr_ag (x := v11) ha hc16], rfl⟩) h (c_GR_inv (zln E) D g ad _ _ _) (fun r14 σ12 ad hE13 h => ?_)
      have hX := hX.trans hE13
      refine z_astoreZ (L' := [(14, zr ad 4 r14), (13, zr ad 4 r9), (0, .ref (ad (0, 1))), (11, zr ad 4 v11)]) C (pc := 248) d_CX_build2_248 (by decide) (congrArg (List.cons _) (flt_eq (j := 14) rfl (List.forall_mem_singleton.mpr (zr_cat _ _ _)) rfl)) ?_
      refine z_aload_n C (pc := 250) d_CX_build2_250 2 rfl ?_
      refine z_aloadZ C (pc := 251) d_CX_build2_251 0 rfl ?_
      refine z_aloadZ C (pc := 253) d_CX_build2_253 3 rfl ?_
      refine z_sub (L' := [(13, zr ad 4 r9), (0, .ref (ad (0, 1)))]) [1, 2] rfl ?_
      obtain ⟨hc20, h⟩ := h
      refine xa_callVr (As := [zr ad 4 r14, zr ad 4 v11]) (fun ad => [(13, zr ad 4 r9), (0, .ref (ad (0, 1)))]) (fun ad => []) C S hA fy_GR_nand (0, 1) (zids_fix zfix_1) rfl rfl wd_359 (pc := 255) d_CX_build2_255 ⟨rfl, rfl, Nat.le_of_ble_eq_true rfl, Nat.le_of_ble_eq_true rfl⟩ ⟨Nat.le_of_ble_eq_true rfl, Nat.le_of_ble_eq_true rfl⟩ rfl rfl (Nat.le_of_ble_eq_true rfl) (fun ad' ha => ⟨by simp only [zr_ag (x := r9) ha hc20, zo_ag ha zfix_1 (by decide)], rfl⟩) h (c_GR_nand (zln E) D g ad _ _ _ _) (fun r19 σ17 ad hE18 h => ?_)
      have hX := hX.trans hE18
      refine z_astoreZ (L' := [(15, zr ad 4 r19), (13, zr ad 4 r9), (0, .ref (ad (0, 1)))]) C (pc := 258) d_CX_build2_258 (by decide) rfl ?_
      refine z_aload_n C (pc := 260) d_CX_build2_260 2 rfl ?_
      refine z_aloadZ C (pc := 261) d_CX_build2_261 1 rfl ?_
      refine z_aloadZ C (pc := 263) d_CX_build2_263 0 rfl ?_
      refine z_sub (L' := []) [] rfl ?_
      refine xa_callVr (As := [zr ad 4 r9, zr ad 4 r19]) (fun ad => []) (fun ad => []) C S hA fy_GR_nand (0, 1) (zids_fix zfix_1) rfl rfl wd_359 (pc := 265) d_CX_build2_265 ⟨rfl, rfl, Nat.le_of_ble_eq_true rfl, Nat.le_of_ble_eq_true rfl⟩ ⟨Nat.le_of_ble_eq_true rfl, Nat.le_of_ble_eq_true rfl⟩ rfl rfl (Nat.le_of_ble_eq_true rfl) (fun ad' ha => ⟨rfl, rfl⟩) h (c_GR_nand (zln E) D g ad _ _ _ _) (fun r23 σ21 ad hE22 h => ?_)
      have hX := hX.trans hE22
      exact za_aret C R hX (Or.inl ⟨_, rfl⟩) (pc := 268) d_CX_build2_268 h
    · refine z_aload_n C (pc := 205) d_CX_build2_205 0 rfl ?_
      refine z_aloadZ C (pc := 206) d_CX_build2_206 1 rfl ?_
      refine z_sub (L' := [(0, .ref (ad (0, 1))), (10, .int (zi v10)), (11, zr ad 4 v11)]) [0, 3, 4] rfl ?_
      obtain ⟨hc27, h⟩ := h
      refine xa_callVr (As := [zr ad 4 v6]) (fun ad => [(0, .ref (ad (0, 1))), (10, .int (zi v10)), (11, zr ad 4 v11)]) (fun ad => []) C S hA fy_GR_inv (0, 1) (zids_fix zfix_1) rfl rfl wd_336 (pc := 208) d_CX_build2_208 ⟨rfl, rfl, Nat.le_of_ble_eq_true rfl, Nat.le_of_ble_eq_true rfl⟩ ⟨Nat.le_of_ble_eq_true rfl, Nat.le_of_ble_eq_true rfl⟩ rfl rfl (Nat.le_of_ble_eq_true rfl) (fun ad' ha => ⟨by simp only [zo_ag ha zfix_1 (by decide), zr_ag (x := v11) ha hc27], rfl⟩) h (c_GR_inv (zln E) D g ad _ _ _) (fun r26 σ24 ad hE25 h => ?_)
      have hX := hX.trans hE25
      refine z_astoreZ (L' := [(13, zr ad 4 r26), (0, .ref (ad (0, 1))), (10, .int (zi v10)), (11, zr ad 4 v11)]) C (pc := 211) d_CX_build2_211 (by decide) rfl ?_
      refine z_aload_n C (pc := 213) d_CX_build2_213 1 rfl ?_
      refine z_aloadZ C (pc := 214) d_CX_build2_214 0 rfl ?_
      refine z_aloadZ C (pc := 216) d_CX_build2_216 3 rfl ?_
      refine z_iload C (pc := 218) d_CX_build2_218 2 rfl ?_
      obtain ⟨hc28, h⟩ := h
      refine z_if_eq (tgt := 227) C (pc := 220) d_CX_build2_220 (by decide) hc28 h (fun h => ?_) (fun h => ?_)
      · refine z_iconst C (pc := 227) d_CX_build2_227 ?_
        refine z_sub (L' := []) [] rfl ?_
        refine xa_callVr (As := [zr ad 4 r26, zr ad 4 v11, .int (zi 0)]) (fun ad => []) (fun ad => []) C S hA fy_GR_gated (0, 1) (zids_fix zfix_1) rfl rfl wd_348 (pc := 228) d_CX_build2_228 ⟨rfl, rfl, Nat.le_of_ble_eq_true rfl, Nat.le_of_ble_eq_true rfl⟩ ⟨Nat.le_of_ble_eq_true rfl, Nat.le_of_ble_eq_true rfl⟩ rfl rfl (Nat.le_of_ble_eq_true rfl) (fun ad' ha => ⟨rfl, rfl⟩) h (c_GR_gated (zln E) D g ad _ _ _ _ _) (fun r31 σ29 ad hE30 h => ?_)
        have hX := hX.trans hE30
        refine zW.widen (k' := 24) (n' := 1416) (by decide) (by decide) ?_
        exact za_aret C R hX (Or.inl ⟨_, rfl⟩) (pc := 231) d_CX_build2_231 h
      · refine z_iconst C (pc := 223) d_CX_build2_223 ?_
        refine z_goto (tgt := 228) C (pc := 224) d_CX_build2_224 (by decide) ?_
        refine z_sub (L' := []) [] rfl ?_
        refine xa_callVr (As := [zr ad 4 r26, zr ad 4 v11, .int (zi 1)]) (fun ad => []) (fun ad => []) C S hA fy_GR_gated (0, 1) (zids_fix zfix_1) rfl rfl wd_348 (pc := 228) d_CX_build2_228 ⟨rfl, rfl, Nat.le_of_ble_eq_true rfl, Nat.le_of_ble_eq_true rfl⟩ ⟨Nat.le_of_ble_eq_true rfl, Nat.le_of_ble_eq_true rfl⟩ rfl rfl (Nat.le_of_ble_eq_true rfl) (fun ad' ha => ⟨rfl, rfl⟩) h (c_GR_gated (zln E) D g ad _ _ _ _ _) (fun r34 σ32 ad hE33 h => ?_)
        have hX := hX.trans hE33
        refine zW.widen (k' := 24) (n' := 1416) (by decide) (by decide) ?_
        exact za_aret C R hX (Or.inl ⟨_, rfl⟩) (pc := 231) d_CX_build2_231 h
  · refine z_aload_n C (pc := 181) d_CX_build2_181 0 rfl ?_
    refine z_aloadZ C (pc := 182) d_CX_build2_182 1 rfl ?_
    refine z_aloadZ C (pc := 184) d_CX_build2_184 5 rfl ?_
    refine z_iload C (pc := 186) d_CX_build2_186 2 rfl ?_
    obtain ⟨hc35, h⟩ := h
    refine z_if_eq (tgt := 195) C (pc := 188) d_CX_build2_188 (by decide) hc35 h (fun h => ?_) (fun h => ?_)
    · refine z_iconst C (pc := 195) d_CX_build2_195 ?_
      refine z_sub (L' := []) [] rfl ?_
      refine xa_callVr (As := [zr ad 4 v6, zr ad 4 v12, .int (zi 0)]) (fun ad => []) (fun ad => []) C S hA fy_GR_gated (0, 1) (zids_fix zfix_1) rfl rfl wd_348 (pc := 196) d_CX_build2_196 ⟨rfl, rfl, Nat.le_of_ble_eq_true rfl, Nat.le_of_ble_eq_true rfl⟩ ⟨Nat.le_of_ble_eq_true rfl, Nat.le_of_ble_eq_true rfl⟩ rfl rfl (Nat.le_of_ble_eq_true rfl) (fun ad' ha => ⟨rfl, rfl⟩) h (c_GR_gated (zln E) D g ad _ _ _ _ _) (fun r38 σ36 ad hE37 h => ?_)
      have hX := hX.trans hE37
      refine zW.widen (k' := 24) (n' := 1416) (by decide) (by decide) ?_
      exact za_aret C R hX (Or.inl ⟨_, rfl⟩) (pc := 199) d_CX_build2_199 h
    · refine z_iconst C (pc := 191) d_CX_build2_191 ?_
      refine z_goto (tgt := 196) C (pc := 192) d_CX_build2_192 (by decide) ?_
      refine z_sub (L' := []) [] rfl ?_
      refine xa_callVr (As := [zr ad 4 v6, zr ad 4 v12, .int (zi 1)]) (fun ad => []) (fun ad => []) C S hA fy_GR_gated (0, 1) (zids_fix zfix_1) rfl rfl wd_348 (pc := 196) d_CX_build2_196 ⟨rfl, rfl, Nat.le_of_ble_eq_true rfl, Nat.le_of_ble_eq_true rfl⟩ ⟨Nat.le_of_ble_eq_true rfl, Nat.le_of_ble_eq_true rfl⟩ rfl rfl (Nat.le_of_ble_eq_true rfl) (fun ad' ha => ⟨rfl, rfl⟩) h (c_GR_gated (zln E) D g ad _ _ _ _ _) (fun r41 σ39 ad hE40 h => ?_)
      have hX := hX.trans hE40
      refine zW.widen (k' := 24) (n' := 1416) (by decide) (by decide) ?_
      exact za_aret C R hX (Or.inl ⟨_, rfl⟩) (pc := 199) d_CX_build2_199 h
set_option maxHeartbeats 4000000 in
set_option maxRecDepth 100000 in
theorem wk_CX_build2_147 {E : zE} {D : va_G} {g : zG} {A : Nat → Prop} {ad0 : zA} {σ0 : zS} {Q : Int → zS → Prop} (C : zX E b_CX_build R_CX D g { frames := 13, cells := 24, slots := 1416, locals := 343 } 16) (R : zRt E (some (.object "CellMapper$Node")) (zJr D g ad0 σ0 4 Q A) 24 1416 A) (S : zSt g A (zst E) (zst E).heap) (hA : ∀ q, (zst E).heap.size ≤ q → A q) (ad : zA) (v6 : Int) (v9 : Int) (v10 : Int) (v11 : Int) (z0 : Int) (σ : zS) (hX : zEx ad0 σ0 ad σ) (h : bk_CX_build2_147 Q v6 v9 v10 v11 z0 σ) : zW E (zOK D A (zst E) g ad) 16 944 147 [(0, .ref (ad (0, 1))), (6, zr ad 4 v6), (9, .int (zi v9)), (10, .int (zi v10)), (11, zr ad 4 v11)] [zr ad 4 z0] σ := by
  unfold bk_CX_build2_147 at h
  refine z_astoreZ (L' := [(12, zr ad 4 z0), (0, .ref (ad (0, 1))), (6, zr ad 4 v6), (9, .int (zi v9)), (10, .int (zi v10)), (11, zr ad 4 v11)]) C (pc := 147) d_CX_build2_147 (by decide) (congrArg (List.cons _) (flt_eq (j := 12) rfl (List.forall_mem_singleton.mpr (zr_cat _ _ _)) rfl)) ?_
  refine z_aloadZ C (pc := 149) d_CX_build2_149 5 rfl ?_
  refine z_ifnonnull (tgt := 176) C (pc := 151) d_CX_build2_151 (by decide) h (fun h => ?_) (fun h => ?_)
  · refine z_sub [1, 2, 3, 4, 5, 0] rfl ?_
    exact wk_CX_build2_176 C R S hA ad _ _ _ _ _ _ hX h
  · refine z_aloadZ C (pc := 154) d_CX_build2_154 0 rfl ?_
    refine z_ifnonnull (tgt := 176) C (pc := 156) d_CX_build2_156 (by decide) h (fun h => ?_) (fun h => ?_)
    · refine z_sub [1, 2, 3, 4, 5, 0] rfl ?_
      exact wk_CX_build2_176 C R S hA ad _ _ _ _ _ _ hX h
    · refine z_iload C (pc := 159) d_CX_build2_159 3 rfl ?_
      obtain ⟨hc42, h⟩ := h
      refine z_if_ne (tgt := 169) C (pc := 161) d_CX_build2_161 (by decide) hc42 h (fun h => ?_) (fun h => ?_)
      · refine z_aload_n C (pc := 169) d_CX_build2_169 1 rfl ?_
        refine z_aloadZ C (pc := 170) d_CX_build2_170 2 rfl ?_
        refine z_sub (L' := []) [] rfl ?_
        refine xa_callVr (As := [zr ad 4 v6]) (fun ad => []) (fun ad => []) C S hA fy_GR_inv (0, 1) (zids_fix zfix_1) rfl rfl wd_336 (pc := 172) d_CX_build2_172 ⟨rfl, rfl, Nat.le_of_ble_eq_true rfl, Nat.le_of_ble_eq_true rfl⟩ ⟨Nat.le_of_ble_eq_true rfl, Nat.le_of_ble_eq_true rfl⟩ rfl rfl (Nat.le_of_ble_eq_true rfl) (fun ad' ha => ⟨rfl, rfl⟩) h (c_GR_inv (zln E) D g ad _ _ _) (fun r45 σ43 ad hE44 h => ?_)
        have hX := hX.trans hE44
        refine zW.widen (k' := 24) (n' := 1416) (by decide) (by decide) ?_
        exact za_aret C R hX (Or.inl ⟨_, rfl⟩) (pc := 175) d_CX_build2_175 h
      · refine z_aloadZ C (pc := 164) d_CX_build2_164 2 rfl ?_
        refine z_goto (tgt := 175) C (pc := 166) d_CX_build2_166 (by decide) ?_
        refine zW.widen (k' := 24) (n' := 1416) (by decide) (by decide) ?_
        exact za_aret C R hX (Or.inl ⟨_, rfl⟩) (pc := 175) d_CX_build2_175 h
set_option maxHeartbeats 4000000 in
set_option maxRecDepth 100000 in
theorem wk_CX_build2_129 {E : zE} {D : va_G} {g : zG} {A : Nat → Prop} {ad0 : zA} {σ0 : zS} {Q : Int → zS → Prop} (C : zX E b_CX_build R_CX D g { frames := 13, cells := 24, slots := 1416, locals := 343 } 16) (R : zRt E (some (.object "CellMapper$Node")) (zJr D g ad0 σ0 4 Q A) 24 1416 A) (S : zSt g A (zst E) (zst E).heap) (hA : ∀ q, (zst E).heap.size ≤ q → A q) (ad : zA) (v6 : Int) (v9 : Int) (v10 : Int) (v11 : Int) (σ : zS) (hX : zEx ad0 σ0 ad σ) (h : bk_CX_build2_129 Q v6 v9 v10 v11 σ) : zW E (zOK D A (zst E) g ad) 8 472 129 [(0, .ref (ad (0, 1))), (6, zr ad 4 v6), (9, .int (zi v9)), (10, .int (zi v10)), (11, zr ad 4 v11)] [] σ := by
  unfold bk_CX_build2_129 at h
  refine z_nullZ (ad := ad) 4 C (pc := 129) d_CX_build2_129 ?_
  refine z_goto (tgt := 147) C (pc := 130) d_CX_build2_130 (by decide) ?_
  refine zW.widen (k' := 16) (n' := 944) (by decide) (by decide) ?_
  exact wk_CX_build2_147 C R S hA ad _ _ _ _ _ _ hX h
set_option maxHeartbeats 4000000 in
set_option maxRecDepth 100000 in
theorem wk_CX_build2_115 {E : zE} {D : va_G} {g : zG} {A : Nat → Prop} {ad0 : zA} {σ0 : zS} {Q : Int → zS → Prop} (C : zX E b_CX_build R_CX D g { frames := 13, cells := 24, slots := 1416, locals := 343 } 16) (R : zRt E (some (.object "CellMapper$Node")) (zJr D g ad0 σ0 4 Q A) 24 1416 A) (S : zSt g A (zst E) (zst E).heap) (hA : ∀ q, (zst E).heap.size ≤ q → A q) (ad : zA) (v2 : Int) (v3 : Int) (v4 : Int) (v5 : Int) (v6 : Int) (v8 : Int) (v9 : Int) (v10 : Int) (z0 : Int) (σ : zS) (hX : zEx ad0 σ0 ad σ) (h : bk_CX_build2_115 Q v2 v3 v4 v5 v6 v8 v9 v10 z0 σ) : zW E (zOK D A (zst E) g ad) 8 472 115 [(0, .ref (ad (0, 1))), (2, zr ad 4 v2), (3, zr ad 4 v3), (4, zr ad 4 v4), (5, .int (zi v5)), (6, zr ad 4 v6), (8, .int (zi v8)), (9, .int (zi v9)), (10, .int (zi v10))] [zr ad 4 z0] σ := by
  unfold bk_CX_build2_115 at h
  refine z_astoreZ (L' := [(11, zr ad 4 z0), (0, .ref (ad (0, 1))), (2, zr ad 4 v2), (3, zr ad 4 v3), (4, zr ad 4 v4), (5, .int (zi v5)), (6, zr ad 4 v6), (8, .int (zi v8)), (9, .int (zi v9)), (10, .int (zi v10))]) C (pc := 115) d_CX_build2_115 (by decide) rfl ?_
  refine z_iload C (pc := 117) d_CX_build2_117 9 rfl ?_
  obtain ⟨hc6, h⟩ := h
  refine z_if_eq (tgt := 129) C (pc := 119) d_CX_build2_119 (by decide) hc6 h (fun h => ?_) (fun h => ?_)
  · refine z_sub [1, 6, 8, 9, 0] rfl ?_
    exact wk_CX_build2_129 C R S hA ad _ _ _ _ _ hX h
  · refine z_iload C (pc := 122) d_CX_build2_122 9 rfl ?_
    refine z_iload C (pc := 124) d_CX_build2_124 7 rfl ?_
    obtain ⟨hc46, h⟩ := h
    refine z_icmp_ne (tgt := 133) C (pc := 126) d_CX_build2_126 (by decide) hc6 hc46 h (fun h => ?_) (fun h => ?_)
    · refine z_aload_n C (pc := 133) d_CX_build2_133 1 rfl ?_
      refine z_iload C (pc := 134) d_CX_build2_134 9 rfl ?_
      refine z_aloadZ_n C (pc := 136) d_CX_build2_136 2 rfl ?_
      refine z_aloadZ_n C (pc := 137) d_CX_build2_137 3 rfl ?_
      refine z_aloadZ C (pc := 138) d_CX_build2_138 4 rfl ?_
      refine z_iload C (pc := 140) d_CX_build2_140 5 rfl ?_
      refine z_iconst C (pc := 142) d_CX_build2_142 ?_
      refine z_isub C (pc := 143) d_CX_build2_143 ?_
      refine z_sub (L' := [(11, zr ad 4 z0), (0, .ref (ad (0, 1))), (6, zr ad 4 v6), (9, .int (zi v9)), (10, .int (zi v10))]) [0, 1, 6, 8, 9] rfl ?_
      obtain ⟨hc50, hc51, h⟩ := h
      refine xa_callSr (As := [.ref (ad (0, 1)), .int (zi v10), zr ad 4 v2, zr ad 4 v3, zr ad 4 v4, .int (zi (v5 - 1))]) (fun ad => [(11, zr ad 4 z0), (0, .ref (ad (0, 1))), (6, zr ad 4 v6), (9, .int (zi v9)), (10, .int (zi v10))]) (fun ad => []) C S hA fs_CX_build wd_333 (pc := 144) d_CX_build2_144 ⟨rfl, rfl, Nat.le_of_ble_eq_true rfl, Nat.le_of_ble_eq_true rfl⟩ ⟨Nat.le_of_ble_eq_true rfl, Nat.le_of_ble_eq_true rfl⟩ rfl rfl (Nat.le_of_ble_eq_true rfl) (fun ad' ha => ⟨by simp only [zr_ag (x := z0) ha hc50, zo_ag ha zfix_1 (by decide), zr_ag (x := v6) ha hc51], rfl⟩) h (c_CX_build1 (zln E) D g ad _ _ _ _ _ _ _) (fun r49 σ47 ad hE48 h => ?_)
      have hX := hX.trans hE48
      refine z_sub [1, 2, 3, 4, 0] rfl ?_
      exact wk_CX_build2_147 C R S hA ad _ _ _ _ _ _ hX h
    · refine z_sub [1, 6, 8, 9, 0] rfl ?_
      exact wk_CX_build2_129 C R S hA ad _ _ _ _ _ hX h
set_option maxHeartbeats 4000000 in
set_option maxRecDepth 100000 in
theorem wk_CX_build2_97 {E : zE} {D : va_G} {g : zG} {A : Nat → Prop} {ad0 : zA} {σ0 : zS} {Q : Int → zS → Prop} (C : zX E b_CX_build R_CX D g { frames := 13, cells := 24, slots := 1416, locals := 343 } 16) (R : zRt E (some (.object "CellMapper$Node")) (zJr D g ad0 σ0 4 Q A) 24 1416 A) (S : zSt g A (zst E) (zst E).heap) (hA : ∀ q, (zst E).heap.size ≤ q → A q) (ad : zA) (v2 : Int) (v3 : Int) (v4 : Int) (v5 : Int) (v6 : Int) (v8 : Int) (v9 : Int) (v10 : Int) (σ : zS) (hX : zEx ad0 σ0 ad σ) (h : bk_CX_build2_97 Q v2 v3 v4 v5 v6 v8 v9 v10 σ) : zW E (zOK D A (zst E) g ad) 0 0 97 [(0, .ref (ad (0, 1))), (2, zr ad 4 v2), (3, zr ad 4 v3), (4, zr ad 4 v4), (5, .int (zi v5)), (6, zr ad 4 v6), (8, .int (zi v8)), (9, .int (zi v9)), (10, .int (zi v10))] [] σ := by
  unfold bk_CX_build2_97 at h
  refine z_nullZ (ad := ad) 4 C (pc := 97) d_CX_build2_97 ?_
  refine z_goto (tgt := 115) C (pc := 98) d_CX_build2_98 (by decide) ?_
  refine zW.widen (k' := 8) (n' := 472) (by decide) (by decide) ?_
  exact wk_CX_build2_115 C R S hA ad _ _ _ _ _ _ _ _ _ _ hX h
set_option maxHeartbeats 4000000 in
set_option maxRecDepth 100000 in
theorem wk_CX_build2_30 {E : zE} {D : va_G} {g : zG} {A : Nat → Prop} {ad0 : zA} {σ0 : zS} {Q : Int → zS → Prop} (C : zX E b_CX_build R_CX D g { frames := 13, cells := 24, slots := 1416, locals := 343 } 16) (R : zRt E (some (.object "CellMapper$Node")) (zJr D g ad0 σ0 4 Q A) 24 1416 A) (S : zSt g A (zst E) (zst E).heap) (hA : ∀ q, (zst E).heap.size ≤ q → A q) (ad : zA) (v1 : Int) (v2 : Int) (v3 : Int) (v4 : Int) (v5 : Int) (z0 : Int) (σ : zS) (hX : zEx ad0 σ0 ad σ) (h : bk_CX_build2_30 Q v1 v2 v3 v4 v5 z0 σ) : zW E (zOK D A (zst E) g ad) 0 0 30 [(0, .ref (ad (0, 1))), (1, .int (zi v1)), (2, zr ad 4 v2), (3, zr ad 4 v3), (4, zr ad 4 v4), (5, .int (zi v5))] [zr ad 4 z0] σ := by
  unfold bk_CX_build2_30 at h
  refine z_astoreZ (L' := [(6, zr ad 4 z0), (0, .ref (ad (0, 1))), (1, .int (zi v1)), (2, zr ad 4 v2), (3, zr ad 4 v3), (4, zr ad 4 v4), (5, .int (zi v5))]) C (pc := 30) d_CX_build2_30 (by decide) rfl ?_
  refine z_iconst C (pc := 32) d_CX_build2_32 ?_
  refine z_iload C (pc := 33) d_CX_build2_33 6 rfl ?_
  refine z_iconst C (pc := 35) d_CX_build2_35 ?_
  refine z_isub C (pc := 36) d_CX_build2_36 ?_
  refine z_ishl C (pc := 37) d_CX_build2_37 ?_
  refine zNi h (fun y2 ey2 h => ?_)
  refine z_istore (L' := [(7, .int (zi y2)), (6, zr ad 4 z0), (0, .ref (ad (0, 1))), (1, .int (zi v1)), (2, zr ad 4 v2), (3, zr ad 4 v3), (4, zr ad 4 v4), (5, .int (zi v5))]) C (pc := 38) d_CX_build2_38 (by decide) (congrArg (List.cons _) (flt_eq (j := 7) rfl (List.forall_mem_singleton.mpr (zr_cat _ _ _)) rfl)) ?_
  refine z_iconst C (pc := 40) d_CX_build2_40 ?_
  refine z_iload C (pc := 41) d_CX_build2_41 0 rfl ?_
  refine z_ishl C (pc := 43) d_CX_build2_43 ?_
  refine z_iconst C (pc := 44) d_CX_build2_44 ?_
  refine z_isub C (pc := 45) d_CX_build2_45 ?_
  refine zNi h (fun y3 ey3 h => ?_)
  refine z_istore (L' := [(8, .int (zi y3)), (7, .int (zi y2)), (6, zr ad 4 z0), (0, .ref (ad (0, 1))), (1, .int (zi v1)), (2, zr ad 4 v2), (3, zr ad 4 v3), (4, zr ad 4 v4), (5, .int (zi v5))]) C (pc := 46) d_CX_build2_46 (by decide) rfl ?_
  refine z_iload_n C (pc := 48) d_CX_build2_48 4 rfl ?_
  refine z_iload C (pc := 49) d_CX_build2_49 0 rfl ?_
  refine z_iand C (pc := 51) d_CX_build2_51 ?_
  refine zNi h (fun y4 ey4 h => ?_)
  refine z_istore (L' := [(9, .int (zi y4)), (8, .int (zi y3)), (7, .int (zi y2)), (6, zr ad 4 z0), (0, .ref (ad (0, 1))), (1, .int (zi v1)), (2, zr ad 4 v2), (3, zr ad 4 v3), (4, zr ad 4 v4), (5, .int (zi v5))]) C (pc := 52) d_CX_build2_52 (by decide) rfl ?_
  refine z_iload_n C (pc := 54) d_CX_build2_54 5 rfl ?_
  refine z_iload C (pc := 55) d_CX_build2_55 2 rfl ?_
  refine z_ishr C (pc := 57) d_CX_build2_57 ?_
  refine z_iload C (pc := 58) d_CX_build2_58 1 rfl ?_
  refine z_iand C (pc := 60) d_CX_build2_60 ?_
  refine zNi h (fun y5 ey5 h => ?_)
  refine z_istore (L' := [(10, .int (zi y5)), (9, .int (zi y4)), (8, .int (zi y3)), (7, .int (zi y2)), (6, zr ad 4 z0), (0, .ref (ad (0, 1))), (1, .int (zi v1)), (2, zr ad 4 v2), (3, zr ad 4 v3), (4, zr ad 4 v4), (5, .int (zi v5))]) C (pc := 61) d_CX_build2_61 (by decide) rfl ?_
  refine z_iload C (pc := 63) d_CX_build2_63 1 rfl ?_
  refine z_iload C (pc := 65) d_CX_build2_65 0 rfl ?_
  refine z_icmp_ne (tgt := 85) C (pc := 67) d_CX_build2_67 (by decide) (ey4 ▸ zc_and _ _) (ey5 ▸ zc_and _ _) h (fun h => ?_) (fun h => ?_)
  · refine z_iload C (pc := 85) d_CX_build2_85 1 rfl ?_
    refine z_if_eq (tgt := 97) C (pc := 87) d_CX_build2_87 (by decide) (ey4 ▸ zc_and _ _) h (fun h => ?_) (fun h => ?_)
    · refine z_sub [5, 7, 8, 9, 10, 4, 2, 1, 0] rfl ?_
      exact wk_CX_build2_97 C R S hA ad _ _ _ _ _ _ _ _ _ hX h
    · refine z_iload C (pc := 90) d_CX_build2_90 1 rfl ?_
      refine z_iload C (pc := 92) d_CX_build2_92 2 rfl ?_
      obtain ⟨hc52, h⟩ := h
      refine z_icmp_ne (tgt := 101) C (pc := 94) d_CX_build2_94 (by decide) (ey4 ▸ zc_and _ _) hc52 h (fun h => ?_) (fun h => ?_)
      · refine z_aload_n C (pc := 101) d_CX_build2_101 5 rfl ?_
        refine z_iload C (pc := 102) d_CX_build2_102 1 rfl ?_
        refine z_aloadZ_n C (pc := 104) d_CX_build2_104 7 rfl ?_
        refine z_aloadZ_n C (pc := 105) d_CX_build2_105 8 rfl ?_
        refine z_aloadZ C (pc := 106) d_CX_build2_106 9 rfl ?_
        refine z_iload C (pc := 108) d_CX_build2_108 10 rfl ?_
        refine z_iconst C (pc := 110) d_CX_build2_110 ?_
        refine z_isub C (pc := 111) d_CX_build2_111 ?_
        refine z_sub (L' := [(10, .int (zi y5)), (9, .int (zi y4)), (8, .int (zi y3)), (6, zr ad 4 z0), (0, .ref (ad (0, 1))), (2, zr ad 4 v2), (3, zr ad 4 v3), (4, zr ad 4 v4), (5, .int (zi v5))]) [0, 1, 2, 4, 5, 7, 8, 9, 10] rfl ?_
        obtain ⟨hc56, hc57, hc58, hc59, h⟩ := h
        refine xa_callSr (As := [.ref (ad (0, 1)), .int (zi y4), zr ad 4 v2, zr ad 4 v3, zr ad 4 v4, .int (zi (v5 - 1))]) (fun ad => [(10, .int (zi y5)), (9, .int (zi y4)), (8, .int (zi y3)), (6, zr ad 4 z0), (0, .ref (ad (0, 1))), (2, zr ad 4 v2), (3, zr ad 4 v3), (4, zr ad 4 v4), (5, .int (zi v5))]) (fun ad => []) C S hA fs_CX_build wd_333 (pc := 112) d_CX_build2_112 ⟨rfl, rfl, Nat.le_of_ble_eq_true rfl, Nat.le_of_ble_eq_true rfl⟩ ⟨Nat.le_of_ble_eq_true rfl, Nat.le_of_ble_eq_true rfl⟩ rfl rfl (Nat.le_of_ble_eq_true rfl) (fun ad' ha => ⟨by simp only [zr_ag (x := z0) ha hc56, zo_ag ha zfix_1 (by decide), zr_ag (x := v2) ha hc57, zr_ag (x := v3) ha hc58, zr_ag (x := v4) ha hc59], rfl⟩) h (c_CX_build1 (zln E) D g ad _ _ _ _ _ _ _) (fun r55 σ53 ad hE54 h => ?_)
        have hX := hX.trans hE54
        refine z_sub [4, 5, 6, 7, 8, 3, 2, 1, 0] rfl ?_
        exact wk_CX_build2_115 C R S hA ad _ _ _ _ _ _ _ _ _ _ hX h
      · refine z_sub [5, 7, 8, 9, 10, 4, 2, 1, 0] rfl ?_
        exact wk_CX_build2_97 C R S hA ad _ _ _ _ _ _ _ _ _ hX h
  · refine z_aload_n C (pc := 70) d_CX_build2_70 5 rfl ?_
    refine z_iload C (pc := 71) d_CX_build2_71 1 rfl ?_
    refine z_aloadZ_n C (pc := 73) d_CX_build2_73 7 rfl ?_
    refine z_aloadZ_n C (pc := 74) d_CX_build2_74 8 rfl ?_
    refine z_aloadZ C (pc := 75) d_CX_build2_75 9 rfl ?_
    refine z_iload C (pc := 77) d_CX_build2_77 10 rfl ?_
    refine z_iconst C (pc := 79) d_CX_build2_79 ?_
    refine z_isub C (pc := 80) d_CX_build2_80 ?_
    refine z_sub (L' := []) [] rfl ?_
    refine xa_callSr (As := [.ref (ad (0, 1)), .int (zi y4), zr ad 4 v2, zr ad 4 v3, zr ad 4 v4, .int (zi (v5 - 1))]) (fun ad => []) (fun ad => []) C S hA fs_CX_build wd_333 (pc := 81) d_CX_build2_81 ⟨rfl, rfl, Nat.le_of_ble_eq_true rfl, Nat.le_of_ble_eq_true rfl⟩ ⟨Nat.le_of_ble_eq_true rfl, Nat.le_of_ble_eq_true rfl⟩ rfl rfl (Nat.le_of_ble_eq_true rfl) (fun ad' ha => ⟨rfl, rfl⟩) h (c_CX_build1 (zln E) D g ad _ _ _ _ _ _ _) (fun r62 σ60 ad hE61 h => ?_)
    have hX := hX.trans hE61
    refine zW.widen (k' := 24) (n' := 1416) (by decide) (by decide) ?_
    exact za_aret C R hX (Or.inl ⟨_, rfl⟩) (pc := 84) d_CX_build2_84 h
set_option maxHeartbeats 4000000 in
set_option maxRecDepth 100000 in
theorem c_CX_build2 (l : Launch) (D : va_G) (g : zG) (ad : zA) (v1 : Int) (v2 : Int) (v3 : Int) (v4 : Int) (v5 : Int) (Q : Int → zS → Prop) (σ : zS) (h : wp_CX_build2 Q v1 v2 v3 v4 v5 σ) (sz : Nat) : zHr 4 l y_CX_build b_CX_build 16 (some (.object "CellMapper$Node")) { frames := 13, cells := 24, slots := 1416, locals := 343 } D g ad σ [.ref (ad (0, 1)), .int (zi v1), zr ad 4 v2, zr ad 4 v3, zr ad 4 v4, .int (zi v5)] Q sz 24 1416 := by
  unfold wp_CX_build2 at h
  refine zA_of (by decide) (by simp [lg_sl, zr_cat, kv_cat, cat_i, cat_l, cat_r]) (fun E C R S hA => ?_)
  have C : zX E b_CX_build R_CX D g { frames := 13, cells := 24, slots := 1416, locals := 343 } 16 := C
  have hX : zEx ad σ ad σ := zEx.rf
  refine z_sub (L' := [(0, .ref (ad (0, 1))), (1, .int (zi v1)), (2, zr ad 4 v2), (3, zr ad 4 v3), (4, zr ad 4 v4), (5, .int (zi v5))]) [0, 1, 2, 3, 4, 5] (by simp [lv_args, lv_pick, zr_cat, kv_cat, cat_i, cat_l, cat_r]) ?_
  refine z_iload C (pc := 0) d_CX_build2_0 5 rfl ?_
  refine z_iconst C (pc := 2) d_CX_build2_2 ?_
  obtain ⟨hc1, h⟩ := h
  refine z_icmp_ge (tgt := 8) C (pc := 3) d_CX_build2_3 (by decide) hc1 (by decide) h (fun h => ?_) (fun h => ?_)
  · refine z_iload C (pc := 8) d_CX_build2_8 5 rfl ?_
    refine z_iconst C (pc := 10) d_CX_build2_10 ?_
    refine z_icmp_ne (tgt := 19) C (pc := 11) d_CX_build2_11 (by decide) hc1 (by decide) h (fun h => ?_) (fun h => ?_)
    · refine z_iload C (pc := 19) d_CX_build2_19 5 rfl ?_
      refine z_iconst C (pc := 21) d_CX_build2_21 ?_
      refine z_icmp_ne (tgt := 29) C (pc := 22) d_CX_build2_22 (by decide) hc1 (by decide) h (fun h => ?_) (fun h => ?_)
      · refine z_aloadZ_n C (pc := 29) d_CX_build2_29 2 rfl ?_
        exact wk_CX_build2_30 C R S hA ad _ _ _ _ _ _ _ hX h
      · refine z_aloadZ_n C (pc := 25) d_CX_build2_25 3 rfl ?_
        refine z_goto (tgt := 30) C (pc := 26) d_CX_build2_26 (by decide) ?_
        exact wk_CX_build2_30 C R S hA ad _ _ _ _ _ _ _ hX h
    · refine z_aloadZ C (pc := 14) d_CX_build2_14 4 rfl ?_
      refine z_goto (tgt := 30) C (pc := 16) d_CX_build2_16 (by decide) ?_
      exact wk_CX_build2_30 C R S hA ad _ _ _ _ _ _ _ hX h
  · refine z_aloadZ_n C (pc := 6) d_CX_build2_6 2 rfl ?_
    refine zW.widen (k' := 24) (n' := 1416) (by decide) (by decide) ?_
    exact za_aret C R hX (Or.inl ⟨_, rfl⟩) (pc := 7) d_CX_build2_7 h
theorem d_CX_build3_0 : decode b_CX_build 0 = .ok (.iload 5, 2) := by decide +kernel
theorem d_CX_build3_2 : decode b_CX_build 2 = .ok (.iconst 1, 1) := by decide +kernel
theorem d_CX_build3_3 : decode b_CX_build 3 = .ok (.if_icmp .ge 5, 3) := by decide +kernel
theorem d_CX_build3_6 : decode b_CX_build 6 = .ok (.aload_n 2, 1) := by decide +kernel
theorem d_CX_build3_7 : decode b_CX_build 7 = .ok (.areturn, 1) := by decide +kernel
theorem d_CX_build3_8 : decode b_CX_build 8 = .ok (.iload 5, 2) := by decide +kernel
theorem d_CX_build3_10 : decode b_CX_build 10 = .ok (.iconst 3, 1) := by decide +kernel
theorem d_CX_build3_11 : decode b_CX_build 11 = .ok (.if_icmp .ne 8, 3) := by decide +kernel
theorem d_CX_build3_14 : decode b_CX_build 14 = .ok (.aload 4, 2) := by decide +kernel
theorem d_CX_build3_16 : decode b_CX_build 16 = .ok (.goto 14, 3) := by decide +kernel
theorem d_CX_build3_19 : decode b_CX_build 19 = .ok (.iload 5, 2) := by decide +kernel
theorem d_CX_build3_21 : decode b_CX_build 21 = .ok (.iconst 2, 1) := by decide +kernel
theorem d_CX_build3_22 : decode b_CX_build 22 = .ok (.if_icmp .ne 7, 3) := by decide +kernel
theorem d_CX_build3_25 : decode b_CX_build 25 = .ok (.aload_n 3, 1) := by decide +kernel
theorem d_CX_build3_26 : decode b_CX_build 26 = .ok (.goto 4, 3) := by decide +kernel
theorem d_CX_build3_29 : decode b_CX_build 29 = .ok (.aload_n 2, 1) := by decide +kernel
theorem d_CX_build3_30 : decode b_CX_build 30 = .ok (.astore 6, 2) := by decide +kernel
theorem d_CX_build3_32 : decode b_CX_build 32 = .ok (.iconst 1, 1) := by decide +kernel
theorem d_CX_build3_33 : decode b_CX_build 33 = .ok (.iload 5, 2) := by decide +kernel
theorem d_CX_build3_35 : decode b_CX_build 35 = .ok (.iconst 1, 1) := by decide +kernel
theorem d_CX_build3_36 : decode b_CX_build 36 = .ok (.isub, 1) := by decide +kernel
theorem d_CX_build3_37 : decode b_CX_build 37 = .ok (.ishl, 1) := by decide +kernel
theorem d_CX_build3_38 : decode b_CX_build 38 = .ok (.istore 7, 2) := by decide +kernel
theorem d_CX_build3_40 : decode b_CX_build 40 = .ok (.iconst 1, 1) := by decide +kernel
theorem d_CX_build3_41 : decode b_CX_build 41 = .ok (.iload 7, 2) := by decide +kernel
theorem d_CX_build3_43 : decode b_CX_build 43 = .ok (.ishl, 1) := by decide +kernel
theorem d_CX_build3_44 : decode b_CX_build 44 = .ok (.iconst 1, 1) := by decide +kernel
theorem d_CX_build3_45 : decode b_CX_build 45 = .ok (.isub, 1) := by decide +kernel
theorem d_CX_build3_46 : decode b_CX_build 46 = .ok (.istore 8, 2) := by decide +kernel
theorem d_CX_build3_48 : decode b_CX_build 48 = .ok (.iload_n 1, 1) := by decide +kernel
theorem d_CX_build3_49 : decode b_CX_build 49 = .ok (.iload 8, 2) := by decide +kernel
theorem d_CX_build3_51 : decode b_CX_build 51 = .ok (.iand, 1) := by decide +kernel
theorem d_CX_build3_52 : decode b_CX_build 52 = .ok (.istore 9, 2) := by decide +kernel
theorem d_CX_build3_54 : decode b_CX_build 54 = .ok (.iload_n 1, 1) := by decide +kernel
theorem d_CX_build3_55 : decode b_CX_build 55 = .ok (.iload 7, 2) := by decide +kernel
theorem d_CX_build3_57 : decode b_CX_build 57 = .ok (.ishr, 1) := by decide +kernel
theorem d_CX_build3_58 : decode b_CX_build 58 = .ok (.iload 8, 2) := by decide +kernel
theorem d_CX_build3_60 : decode b_CX_build 60 = .ok (.iand, 1) := by decide +kernel
theorem d_CX_build3_61 : decode b_CX_build 61 = .ok (.istore 10, 2) := by decide +kernel
theorem d_CX_build3_63 : decode b_CX_build 63 = .ok (.iload 9, 2) := by decide +kernel
theorem d_CX_build3_65 : decode b_CX_build 65 = .ok (.iload 10, 2) := by decide +kernel
theorem d_CX_build3_67 : decode b_CX_build 67 = .ok (.if_icmp .ne 18, 3) := by decide +kernel
theorem d_CX_build3_70 : decode b_CX_build 70 = .ok (.aload_n 0, 1) := by decide +kernel
theorem d_CX_build3_71 : decode b_CX_build 71 = .ok (.iload 9, 2) := by decide +kernel
theorem d_CX_build3_73 : decode b_CX_build 73 = .ok (.aload_n 2, 1) := by decide +kernel
theorem d_CX_build3_74 : decode b_CX_build 74 = .ok (.aload_n 3, 1) := by decide +kernel
theorem d_CX_build3_75 : decode b_CX_build 75 = .ok (.aload 4, 2) := by decide +kernel
theorem d_CX_build3_77 : decode b_CX_build 77 = .ok (.iload 5, 2) := by decide +kernel
theorem d_CX_build3_79 : decode b_CX_build 79 = .ok (.iconst 1, 1) := by decide +kernel
theorem d_CX_build3_80 : decode b_CX_build 80 = .ok (.isub, 1) := by decide +kernel
theorem d_CX_build3_81 : decode b_CX_build 81 = .ok (.invokestatic 33, 3) := by decide +kernel
theorem d_CX_build3_84 : decode b_CX_build 84 = .ok (.areturn, 1) := by decide +kernel
theorem d_CX_build3_85 : decode b_CX_build 85 = .ok (.iload 9, 2) := by decide +kernel
theorem d_CX_build3_87 : decode b_CX_build 87 = .ok (.ifCond .eq 10, 3) := by decide +kernel
theorem d_CX_build3_90 : decode b_CX_build 90 = .ok (.iload 9, 2) := by decide +kernel
theorem d_CX_build3_92 : decode b_CX_build 92 = .ok (.iload 8, 2) := by decide +kernel
theorem d_CX_build3_94 : decode b_CX_build 94 = .ok (.if_icmp .ne 7, 3) := by decide +kernel
theorem d_CX_build3_97 : decode b_CX_build 97 = .ok (.aconst_null, 1) := by decide +kernel
theorem d_CX_build3_98 : decode b_CX_build 98 = .ok (.goto 17, 3) := by decide +kernel
theorem d_CX_build3_101 : decode b_CX_build 101 = .ok (.aload_n 0, 1) := by decide +kernel
theorem d_CX_build3_102 : decode b_CX_build 102 = .ok (.iload 9, 2) := by decide +kernel
theorem d_CX_build3_104 : decode b_CX_build 104 = .ok (.aload_n 2, 1) := by decide +kernel
theorem d_CX_build3_105 : decode b_CX_build 105 = .ok (.aload_n 3, 1) := by decide +kernel
theorem d_CX_build3_106 : decode b_CX_build 106 = .ok (.aload 4, 2) := by decide +kernel
theorem d_CX_build3_108 : decode b_CX_build 108 = .ok (.iload 5, 2) := by decide +kernel
theorem d_CX_build3_110 : decode b_CX_build 110 = .ok (.iconst 1, 1) := by decide +kernel
theorem d_CX_build3_111 : decode b_CX_build 111 = .ok (.isub, 1) := by decide +kernel
theorem d_CX_build3_112 : decode b_CX_build 112 = .ok (.invokestatic 33, 3) := by decide +kernel
theorem d_CX_build3_115 : decode b_CX_build 115 = .ok (.astore 11, 2) := by decide +kernel
theorem d_CX_build3_117 : decode b_CX_build 117 = .ok (.iload 10, 2) := by decide +kernel
theorem d_CX_build3_119 : decode b_CX_build 119 = .ok (.ifCond .eq 10, 3) := by decide +kernel
theorem d_CX_build3_122 : decode b_CX_build 122 = .ok (.iload 10, 2) := by decide +kernel
theorem d_CX_build3_124 : decode b_CX_build 124 = .ok (.iload 8, 2) := by decide +kernel
theorem d_CX_build3_126 : decode b_CX_build 126 = .ok (.if_icmp .ne 7, 3) := by decide +kernel
theorem d_CX_build3_129 : decode b_CX_build 129 = .ok (.aconst_null, 1) := by decide +kernel
theorem d_CX_build3_130 : decode b_CX_build 130 = .ok (.goto 17, 3) := by decide +kernel
theorem d_CX_build3_133 : decode b_CX_build 133 = .ok (.aload_n 0, 1) := by decide +kernel
theorem d_CX_build3_134 : decode b_CX_build 134 = .ok (.iload 10, 2) := by decide +kernel
theorem d_CX_build3_136 : decode b_CX_build 136 = .ok (.aload_n 2, 1) := by decide +kernel
theorem d_CX_build3_137 : decode b_CX_build 137 = .ok (.aload_n 3, 1) := by decide +kernel
theorem d_CX_build3_138 : decode b_CX_build 138 = .ok (.aload 4, 2) := by decide +kernel
theorem d_CX_build3_140 : decode b_CX_build 140 = .ok (.iload 5, 2) := by decide +kernel
theorem d_CX_build3_142 : decode b_CX_build 142 = .ok (.iconst 1, 1) := by decide +kernel
theorem d_CX_build3_143 : decode b_CX_build 143 = .ok (.isub, 1) := by decide +kernel
theorem d_CX_build3_144 : decode b_CX_build 144 = .ok (.invokestatic 33, 3) := by decide +kernel
theorem d_CX_build3_147 : decode b_CX_build 147 = .ok (.astore 12, 2) := by decide +kernel
theorem d_CX_build3_149 : decode b_CX_build 149 = .ok (.aload 11, 2) := by decide +kernel
theorem d_CX_build3_151 : decode b_CX_build 151 = .ok (.ifnonnull 25, 3) := by decide +kernel
theorem d_CX_build3_154 : decode b_CX_build 154 = .ok (.aload 12, 2) := by decide +kernel
theorem d_CX_build3_156 : decode b_CX_build 156 = .ok (.ifnonnull 20, 3) := by decide +kernel
theorem d_CX_build3_159 : decode b_CX_build 159 = .ok (.iload 9, 2) := by decide +kernel
theorem d_CX_build3_161 : decode b_CX_build 161 = .ok (.ifCond .ne 8, 3) := by decide +kernel
theorem d_CX_build3_164 : decode b_CX_build 164 = .ok (.aload 6, 2) := by decide +kernel
theorem d_CX_build3_166 : decode b_CX_build 166 = .ok (.goto 9, 3) := by decide +kernel
theorem d_CX_build3_169 : decode b_CX_build 169 = .ok (.aload_n 0, 1) := by decide +kernel
theorem d_CX_build3_170 : decode b_CX_build 170 = .ok (.aload 6, 2) := by decide +kernel
theorem d_CX_build3_172 : decode b_CX_build 172 = .ok (.invokevirtual 37, 3) := by decide +kernel
theorem d_CX_build3_175 : decode b_CX_build 175 = .ok (.areturn, 1) := by decide +kernel
theorem d_CX_build3_176 : decode b_CX_build 176 = .ok (.aload 11, 2) := by decide +kernel
theorem d_CX_build3_178 : decode b_CX_build 178 = .ok (.ifnonnull 22, 3) := by decide +kernel
theorem d_CX_build3_181 : decode b_CX_build 181 = .ok (.aload_n 0, 1) := by decide +kernel
theorem d_CX_build3_182 : decode b_CX_build 182 = .ok (.aload 6, 2) := by decide +kernel
theorem d_CX_build3_184 : decode b_CX_build 184 = .ok (.aload 12, 2) := by decide +kernel
theorem d_CX_build3_186 : decode b_CX_build 186 = .ok (.iload 9, 2) := by decide +kernel
theorem d_CX_build3_188 : decode b_CX_build 188 = .ok (.ifCond .eq 7, 3) := by decide +kernel
theorem d_CX_build3_191 : decode b_CX_build 191 = .ok (.iconst 1, 1) := by decide +kernel
theorem d_CX_build3_192 : decode b_CX_build 192 = .ok (.goto 4, 3) := by decide +kernel
theorem d_CX_build3_195 : decode b_CX_build 195 = .ok (.iconst 0, 1) := by decide +kernel
theorem d_CX_build3_196 : decode b_CX_build 196 = .ok (.invokevirtual 43, 3) := by decide +kernel
theorem d_CX_build3_199 : decode b_CX_build 199 = .ok (.areturn, 1) := by decide +kernel
theorem d_CX_build3_200 : decode b_CX_build 200 = .ok (.aload 12, 2) := by decide +kernel
theorem d_CX_build3_202 : decode b_CX_build 202 = .ok (.ifnonnull 30, 3) := by decide +kernel
theorem d_CX_build3_205 : decode b_CX_build 205 = .ok (.aload_n 0, 1) := by decide +kernel
theorem d_CX_build3_206 : decode b_CX_build 206 = .ok (.aload 6, 2) := by decide +kernel
theorem d_CX_build3_208 : decode b_CX_build 208 = .ok (.invokevirtual 37, 3) := by decide +kernel
theorem d_CX_build3_211 : decode b_CX_build 211 = .ok (.astore 13, 2) := by decide +kernel
theorem d_CX_build3_213 : decode b_CX_build 213 = .ok (.aload_n 0, 1) := by decide +kernel
theorem d_CX_build3_214 : decode b_CX_build 214 = .ok (.aload 13, 2) := by decide +kernel
theorem d_CX_build3_216 : decode b_CX_build 216 = .ok (.aload 11, 2) := by decide +kernel
theorem d_CX_build3_218 : decode b_CX_build 218 = .ok (.iload 10, 2) := by decide +kernel
theorem d_CX_build3_220 : decode b_CX_build 220 = .ok (.ifCond .eq 7, 3) := by decide +kernel
theorem d_CX_build3_223 : decode b_CX_build 223 = .ok (.iconst 1, 1) := by decide +kernel
theorem d_CX_build3_224 : decode b_CX_build 224 = .ok (.goto 4, 3) := by decide +kernel
theorem d_CX_build3_227 : decode b_CX_build 227 = .ok (.iconst 0, 1) := by decide +kernel
theorem d_CX_build3_228 : decode b_CX_build 228 = .ok (.invokevirtual 43, 3) := by decide +kernel
theorem d_CX_build3_231 : decode b_CX_build 231 = .ok (.areturn, 1) := by decide +kernel
theorem d_CX_build3_232 : decode b_CX_build 232 = .ok (.aload_n 0, 1) := by decide +kernel
theorem d_CX_build3_233 : decode b_CX_build 233 = .ok (.aload 6, 2) := by decide +kernel
theorem d_CX_build3_235 : decode b_CX_build 235 = .ok (.aload 12, 2) := by decide +kernel
theorem d_CX_build3_237 : decode b_CX_build 237 = .ok (.invokevirtual 47, 3) := by decide +kernel
theorem d_CX_build3_240 : decode b_CX_build 240 = .ok (.astore 13, 2) := by decide +kernel
theorem d_CX_build3_242 : decode b_CX_build 242 = .ok (.aload_n 0, 1) := by decide +kernel
theorem d_CX_build3_243 : decode b_CX_build 243 = .ok (.aload 6, 2) := by decide +kernel
theorem d_CX_build3_245 : decode b_CX_build 245 = .ok (.invokevirtual 37, 3) := by decide +kernel
theorem d_CX_build3_248 : decode b_CX_build 248 = .ok (.astore 14, 2) := by decide +kernel
theorem d_CX_build3_250 : decode b_CX_build 250 = .ok (.aload_n 0, 1) := by decide +kernel
theorem d_CX_build3_251 : decode b_CX_build 251 = .ok (.aload 14, 2) := by decide +kernel
theorem d_CX_build3_253 : decode b_CX_build 253 = .ok (.aload 11, 2) := by decide +kernel
theorem d_CX_build3_255 : decode b_CX_build 255 = .ok (.invokevirtual 47, 3) := by decide +kernel
theorem d_CX_build3_258 : decode b_CX_build 258 = .ok (.astore 15, 2) := by decide +kernel
theorem d_CX_build3_260 : decode b_CX_build 260 = .ok (.aload_n 0, 1) := by decide +kernel
theorem d_CX_build3_261 : decode b_CX_build 261 = .ok (.aload 13, 2) := by decide +kernel
theorem d_CX_build3_263 : decode b_CX_build 263 = .ok (.aload 15, 2) := by decide +kernel
theorem d_CX_build3_265 : decode b_CX_build 265 = .ok (.invokevirtual 47, 3) := by decide +kernel
theorem d_CX_build3_268 : decode b_CX_build 268 = .ok (.areturn, 1) := by decide +kernel
def bk_CX_build3_176 (Q : Int → zS → Prop) (v6 : Int) (v9 : Int) (v10 : Int) (v11 : Int) (v12 : Int) (σ : zS) : Prop :=
  ((v11 < 0 →
    zc v9 ∧ ((v9 = 0 →
      wp_GR_gated (fun r38 σ36 =>
        Q r38 σ36) v6 v12 0 σ) ∧
     (¬ v9 = 0 →
      wp_GR_gated (fun r41 σ39 =>
        Q r41 σ39) v6 v12 1 σ))) ∧
   (¬ v11 < 0 →
    ((v12 < 0 →
      zvn σ v11 ∧ wp_GR_inv (fun r26 σ24 =>
        zc v10 ∧ ((v10 = 0 →
          wp_GR_gated (fun r31 σ29 =>
            Q r31 σ29) r26 v11 0 σ24) ∧
         (¬ v10 = 0 →
          wp_GR_gated (fun r34 σ32 =>
            Q r34 σ32) r26 v11 1 σ24))) v6 σ) ∧
     (¬ v12 < 0 →
      zvn σ v6 ∧ zvn σ v11 ∧ wp_GR_nand (fun r9 σ7 =>
        zvn σ7 r9 ∧ zvn σ7 v11 ∧ wp_GR_inv (fun r14 σ12 =>
          zvn σ12 r9 ∧ wp_GR_nand (fun r19 σ17 =>
            wp_GR_nand (fun r23 σ21 =>
              Q r23 σ21) r9 r19 σ17) r14 v11 σ12) v6 σ7) v6 v12 σ))))
def bk_CX_build3_147 (Q : Int → zS → Prop) (v6 : Int) (v9 : Int) (v10 : Int) (v11 : Int) (z0 : Int) (σ : zS) : Prop :=
  ((v11 < 0 →
    ((z0 < 0 →
      zc v9 ∧ ((v9 = 0 →
        Q v6 σ) ∧
       (¬ v9 = 0 →
        wp_GR_inv (fun r45 σ43 =>
          Q r45 σ43) v6 σ))) ∧
     (¬ z0 < 0 →
      bk_CX_build3_176 Q v6 v9 v10 v11 z0 σ))) ∧
   (¬ v11 < 0 →
    bk_CX_build3_176 Q v6 v9 v10 v11 z0 σ))
def bk_CX_build3_129 (Q : Int → zS → Prop) (v6 : Int) (v9 : Int) (v10 : Int) (v11 : Int) (σ : zS) : Prop :=
  bk_CX_build3_147 Q v6 v9 v10 v11 (-1) σ
def bk_CX_build3_115 (Q : Int → zS → Prop) (v2 : Int) (v3 : Int) (v4 : Int) (v5 : Int) (v6 : Int) (v8 : Int) (v9 : Int) (v10 : Int) (z0 : Int) (σ : zS) : Prop :=
  zc v10 ∧ ((v10 = 0 →
    bk_CX_build3_129 Q v6 v9 v10 z0 σ) ∧
   (¬ v10 = 0 →
    zc v8 ∧ ((v10 = v8 →
      bk_CX_build3_129 Q v6 v9 v10 z0 σ) ∧
     (¬ v10 = v8 →
      zvn σ z0 ∧ zvn σ v6 ∧ wp_CX_build2 (fun r49 σ47 =>
        bk_CX_build3_147 Q v6 v9 v10 z0 r49 σ47) v10 v2 v3 v4 (v5 - 1) σ))))
def bk_CX_build3_97 (Q : Int → zS → Prop) (v2 : Int) (v3 : Int) (v4 : Int) (v5 : Int) (v6 : Int) (v8 : Int) (v9 : Int) (v10 : Int) (σ : zS) : Prop :=
  bk_CX_build3_115 Q v2 v3 v4 v5 v6 v8 v9 v10 (-1) σ
def bk_CX_build3_30 (Q : Int → zS → Prop) (v1 : Int) (v2 : Int) (v3 : Int) (v4 : Int) (v5 : Int) (z0 : Int) (σ : zS) : Prop :=
  ∀ y2, y2 = zshl 1 (v5 - 1) →
  ∀ y3, y3 = (zshl 1 y2) - 1 →
  ∀ y4, y4 = zand v1 y3 →
  ∀ y5, y5 = zand (zshr v1 y2) y3 →
  ((y4 = y5 →
    wp_CX_build2 (fun r62 σ60 =>
      Q r62 σ60) y4 v2 v3 v4 (v5 - 1) σ) ∧
   (¬ y4 = y5 →
    ((y4 = 0 →
      bk_CX_build3_97 Q v2 v3 v4 v5 z0 y3 y4 y5 σ) ∧
     (¬ y4 = 0 →
      zc y3 ∧ ((y4 = y3 →
        bk_CX_build3_97 Q v2 v3 v4 v5 z0 y3 y4 y5 σ) ∧
       (¬ y4 = y3 →
        zvn σ z0 ∧ zvn σ v2 ∧ zvn σ v3 ∧ zvn σ v4 ∧ wp_CX_build2 (fun r55 σ53 =>
          bk_CX_build3_115 Q v2 v3 v4 v5 z0 y3 y4 y5 r55 σ53) y4 v2 v3 v4 (v5 - 1) σ))))))
def wp_CX_build3 (Q : Int → zS → Prop) (v1 : Int) (v2 : Int) (v3 : Int) (v4 : Int) (v5 : Int) (σ : zS) : Prop :=
  zc v5 ∧ ((1 ≤ v5 →
    ((v5 = 3 →
      bk_CX_build3_30 Q v1 v2 v3 v4 v5 v4 σ) ∧
     (¬ v5 = 3 →
      ((v5 = 2 →
        bk_CX_build3_30 Q v1 v2 v3 v4 v5 v3 σ) ∧
       (¬ v5 = 2 →
        bk_CX_build3_30 Q v1 v2 v3 v4 v5 v2 σ))))) ∧
   (¬ 1 ≤ v5 →
    Q v2 σ))
set_option maxHeartbeats 4000000 in
set_option maxRecDepth 100000 in
theorem wk_CX_build3_176 {E : zE} {D : va_G} {g : zG} {A : Nat → Prop} {ad0 : zA} {σ0 : zS} {Q : Int → zS → Prop} (C : zX E b_CX_build R_CX D g { frames := 14, cells := 56, slots := 3304, locals := 378 } 16) (R : zRt E (some (.object "CellMapper$Node")) (zJr D g ad0 σ0 4 Q A) 56 3304 A) (S : zSt g A (zst E) (zst E).heap) (hA : ∀ q, (zst E).heap.size ≤ q → A q) (ad : zA) (v6 : Int) (v9 : Int) (v10 : Int) (v11 : Int) (v12 : Int) (σ : zS) (hX : zEx ad0 σ0 ad σ) (h : bk_CX_build3_176 Q v6 v9 v10 v11 v12 σ) : zW E (zOK D A (zst E) g ad) 48 2832 176 [(0, .ref (ad (0, 1))), (6, zr ad 4 v6), (9, .int (zi v9)), (10, .int (zi v10)), (11, zr ad 4 v11), (12, zr ad 4 v12)] [] σ := by
  unfold bk_CX_build3_176 at h
  refine z_aloadZ C (pc := 176) d_CX_build3_176 4 rfl ?_
  refine z_ifnonnull (tgt := 200) C (pc := 178) d_CX_build3_178 (by decide) h (fun h => ?_) (fun h => ?_)
  · refine z_aloadZ C (pc := 200) d_CX_build3_200 5 rfl ?_
    refine z_ifnonnull (tgt := 232) C (pc := 202) d_CX_build3_202 (by decide) h (fun h => ?_) (fun h => ?_)
    · refine z_aload_n C (pc := 232) d_CX_build3_232 0 rfl ?_
      refine z_aloadZ C (pc := 233) d_CX_build3_233 1 rfl ?_
      refine z_aloadZ C (pc := 235) d_CX_build3_235 5 rfl ?_
      refine z_sub (L' := [(0, .ref (ad (0, 1))), (6, zr ad 4 v6), (11, zr ad 4 v11)]) [0, 1, 4] rfl ?_
      obtain ⟨hc10, hc11, h⟩ := h
      refine xa_callVr (As := [zr ad 4 v6, zr ad 4 v12]) (fun ad => [(0, .ref (ad (0, 1))), (6, zr ad 4 v6), (11, zr ad 4 v11)]) (fun ad => []) C S hA fy_GR_nand (0, 1) (zids_fix zfix_1) rfl rfl wd_359 (pc := 237) d_CX_build3_237 ⟨rfl, rfl, Nat.le_of_ble_eq_true rfl, Nat.le_of_ble_eq_true rfl⟩ ⟨Nat.le_of_ble_eq_true rfl, Nat.le_of_ble_eq_true rfl⟩ rfl rfl (Nat.le_of_ble_eq_true rfl) (fun ad' ha => ⟨by simp only [zo_ag ha zfix_1 (by decide), zr_ag (x := v6) ha hc10, zr_ag (x := v11) ha hc11], rfl⟩) h (c_GR_nand (zln E) D g ad _ _ _ _) (fun r9 σ7 ad hE8 h => ?_)
      have hX := hX.trans hE8
      refine z_astoreZ (L' := [(13, zr ad 4 r9), (0, .ref (ad (0, 1))), (6, zr ad 4 v6), (11, zr ad 4 v11)]) C (pc := 240) d_CX_build3_240 (by decide) rfl ?_
      refine z_aload_n C (pc := 242) d_CX_build3_242 1 rfl ?_
      refine z_aloadZ C (pc := 243) d_CX_build3_243 2 rfl ?_
      refine z_sub (L' := [(13, zr ad 4 r9), (0, .ref (ad (0, 1))), (11, zr ad 4 v11)]) [0, 1, 3] rfl ?_
      obtain ⟨hc15, hc16, h⟩ := h
      refine xa_callVr (As := [zr ad 4 v6]) (fun ad => [(13, zr ad 4 r9), (0, .ref (ad (0, 1))), (11, zr ad 4 v11)]) (fun ad => []) C S hA fy_GR_inv (0, 1) (zids_fix zfix_1) rfl rfl wd_336 (pc := 245) d_CX_build3_245 ⟨rfl, rfl, Nat.le_of_ble_eq_true rfl, Nat.le_of_ble_eq_true rfl⟩ ⟨Nat.le_of_ble_eq_true rfl, Nat.le_of_ble_eq_true rfl⟩ rfl rfl (Nat.le_of_ble_eq_true rfl) (fun ad' ha => ⟨by simp only [zr_ag (x := r9) ha hc15, zo_ag ha zfix_1 (by decide), zr_ag (x := v11) ha hc16], rfl⟩) h (c_GR_inv (zln E) D g ad _ _ _) (fun r14 σ12 ad hE13 h => ?_)
      have hX := hX.trans hE13
      refine z_astoreZ (L' := [(14, zr ad 4 r14), (13, zr ad 4 r9), (0, .ref (ad (0, 1))), (11, zr ad 4 v11)]) C (pc := 248) d_CX_build3_248 (by decide) (congrArg (List.cons _) (flt_eq (j := 14) rfl (List.forall_mem_singleton.mpr (zr_cat _ _ _)) rfl)) ?_
      refine z_aload_n C (pc := 250) d_CX_build3_250 2 rfl ?_
      refine z_aloadZ C (pc := 251) d_CX_build3_251 0 rfl ?_
      refine z_aloadZ C (pc := 253) d_CX_build3_253 3 rfl ?_
      refine z_sub (L' := [(13, zr ad 4 r9), (0, .ref (ad (0, 1)))]) [1, 2] rfl ?_
      obtain ⟨hc20, h⟩ := h
      refine xa_callVr (As := [zr ad 4 r14, zr ad 4 v11]) (fun ad => [(13, zr ad 4 r9), (0, .ref (ad (0, 1)))]) (fun ad => []) C S hA fy_GR_nand (0, 1) (zids_fix zfix_1) rfl rfl wd_359 (pc := 255) d_CX_build3_255 ⟨rfl, rfl, Nat.le_of_ble_eq_true rfl, Nat.le_of_ble_eq_true rfl⟩ ⟨Nat.le_of_ble_eq_true rfl, Nat.le_of_ble_eq_true rfl⟩ rfl rfl (Nat.le_of_ble_eq_true rfl) (fun ad' ha => ⟨by simp only [zr_ag (x := r9) ha hc20, zo_ag ha zfix_1 (by decide)], rfl⟩) h (c_GR_nand (zln E) D g ad _ _ _ _) (fun r19 σ17 ad hE18 h => ?_)
      have hX := hX.trans hE18
      refine z_astoreZ (L' := [(15, zr ad 4 r19), (13, zr ad 4 r9), (0, .ref (ad (0, 1)))]) C (pc := 258) d_CX_build3_258 (by decide) rfl ?_
      refine z_aload_n C (pc := 260) d_CX_build3_260 2 rfl ?_
      refine z_aloadZ C (pc := 261) d_CX_build3_261 1 rfl ?_
      refine z_aloadZ C (pc := 263) d_CX_build3_263 0 rfl ?_
      refine z_sub (L' := []) [] rfl ?_
      refine xa_callVr (As := [zr ad 4 r9, zr ad 4 r19]) (fun ad => []) (fun ad => []) C S hA fy_GR_nand (0, 1) (zids_fix zfix_1) rfl rfl wd_359 (pc := 265) d_CX_build3_265 ⟨rfl, rfl, Nat.le_of_ble_eq_true rfl, Nat.le_of_ble_eq_true rfl⟩ ⟨Nat.le_of_ble_eq_true rfl, Nat.le_of_ble_eq_true rfl⟩ rfl rfl (Nat.le_of_ble_eq_true rfl) (fun ad' ha => ⟨rfl, rfl⟩) h (c_GR_nand (zln E) D g ad _ _ _ _) (fun r23 σ21 ad hE22 h => ?_)
      have hX := hX.trans hE22
      exact za_aret C R hX (Or.inl ⟨_, rfl⟩) (pc := 268) d_CX_build3_268 h
    · refine z_aload_n C (pc := 205) d_CX_build3_205 0 rfl ?_
      refine z_aloadZ C (pc := 206) d_CX_build3_206 1 rfl ?_
      refine z_sub (L' := [(0, .ref (ad (0, 1))), (10, .int (zi v10)), (11, zr ad 4 v11)]) [0, 3, 4] rfl ?_
      obtain ⟨hc27, h⟩ := h
      refine xa_callVr (As := [zr ad 4 v6]) (fun ad => [(0, .ref (ad (0, 1))), (10, .int (zi v10)), (11, zr ad 4 v11)]) (fun ad => []) C S hA fy_GR_inv (0, 1) (zids_fix zfix_1) rfl rfl wd_336 (pc := 208) d_CX_build3_208 ⟨rfl, rfl, Nat.le_of_ble_eq_true rfl, Nat.le_of_ble_eq_true rfl⟩ ⟨Nat.le_of_ble_eq_true rfl, Nat.le_of_ble_eq_true rfl⟩ rfl rfl (Nat.le_of_ble_eq_true rfl) (fun ad' ha => ⟨by simp only [zo_ag ha zfix_1 (by decide), zr_ag (x := v11) ha hc27], rfl⟩) h (c_GR_inv (zln E) D g ad _ _ _) (fun r26 σ24 ad hE25 h => ?_)
      have hX := hX.trans hE25
      refine z_astoreZ (L' := [(13, zr ad 4 r26), (0, .ref (ad (0, 1))), (10, .int (zi v10)), (11, zr ad 4 v11)]) C (pc := 211) d_CX_build3_211 (by decide) rfl ?_
      refine z_aload_n C (pc := 213) d_CX_build3_213 1 rfl ?_
      refine z_aloadZ C (pc := 214) d_CX_build3_214 0 rfl ?_
      refine z_aloadZ C (pc := 216) d_CX_build3_216 3 rfl ?_
      refine z_iload C (pc := 218) d_CX_build3_218 2 rfl ?_
      obtain ⟨hc28, h⟩ := h
      refine z_if_eq (tgt := 227) C (pc := 220) d_CX_build3_220 (by decide) hc28 h (fun h => ?_) (fun h => ?_)
      · refine z_iconst C (pc := 227) d_CX_build3_227 ?_
        refine z_sub (L' := []) [] rfl ?_
        refine xa_callVr (As := [zr ad 4 r26, zr ad 4 v11, .int (zi 0)]) (fun ad => []) (fun ad => []) C S hA fy_GR_gated (0, 1) (zids_fix zfix_1) rfl rfl wd_348 (pc := 228) d_CX_build3_228 ⟨rfl, rfl, Nat.le_of_ble_eq_true rfl, Nat.le_of_ble_eq_true rfl⟩ ⟨Nat.le_of_ble_eq_true rfl, Nat.le_of_ble_eq_true rfl⟩ rfl rfl (Nat.le_of_ble_eq_true rfl) (fun ad' ha => ⟨rfl, rfl⟩) h (c_GR_gated (zln E) D g ad _ _ _ _ _) (fun r31 σ29 ad hE30 h => ?_)
        have hX := hX.trans hE30
        refine zW.widen (k' := 56) (n' := 3304) (by decide) (by decide) ?_
        exact za_aret C R hX (Or.inl ⟨_, rfl⟩) (pc := 231) d_CX_build3_231 h
      · refine z_iconst C (pc := 223) d_CX_build3_223 ?_
        refine z_goto (tgt := 228) C (pc := 224) d_CX_build3_224 (by decide) ?_
        refine z_sub (L' := []) [] rfl ?_
        refine xa_callVr (As := [zr ad 4 r26, zr ad 4 v11, .int (zi 1)]) (fun ad => []) (fun ad => []) C S hA fy_GR_gated (0, 1) (zids_fix zfix_1) rfl rfl wd_348 (pc := 228) d_CX_build3_228 ⟨rfl, rfl, Nat.le_of_ble_eq_true rfl, Nat.le_of_ble_eq_true rfl⟩ ⟨Nat.le_of_ble_eq_true rfl, Nat.le_of_ble_eq_true rfl⟩ rfl rfl (Nat.le_of_ble_eq_true rfl) (fun ad' ha => ⟨rfl, rfl⟩) h (c_GR_gated (zln E) D g ad _ _ _ _ _) (fun r34 σ32 ad hE33 h => ?_)
        have hX := hX.trans hE33
        refine zW.widen (k' := 56) (n' := 3304) (by decide) (by decide) ?_
        exact za_aret C R hX (Or.inl ⟨_, rfl⟩) (pc := 231) d_CX_build3_231 h
  · refine z_aload_n C (pc := 181) d_CX_build3_181 0 rfl ?_
    refine z_aloadZ C (pc := 182) d_CX_build3_182 1 rfl ?_
    refine z_aloadZ C (pc := 184) d_CX_build3_184 5 rfl ?_
    refine z_iload C (pc := 186) d_CX_build3_186 2 rfl ?_
    obtain ⟨hc35, h⟩ := h
    refine z_if_eq (tgt := 195) C (pc := 188) d_CX_build3_188 (by decide) hc35 h (fun h => ?_) (fun h => ?_)
    · refine z_iconst C (pc := 195) d_CX_build3_195 ?_
      refine z_sub (L' := []) [] rfl ?_
      refine xa_callVr (As := [zr ad 4 v6, zr ad 4 v12, .int (zi 0)]) (fun ad => []) (fun ad => []) C S hA fy_GR_gated (0, 1) (zids_fix zfix_1) rfl rfl wd_348 (pc := 196) d_CX_build3_196 ⟨rfl, rfl, Nat.le_of_ble_eq_true rfl, Nat.le_of_ble_eq_true rfl⟩ ⟨Nat.le_of_ble_eq_true rfl, Nat.le_of_ble_eq_true rfl⟩ rfl rfl (Nat.le_of_ble_eq_true rfl) (fun ad' ha => ⟨rfl, rfl⟩) h (c_GR_gated (zln E) D g ad _ _ _ _ _) (fun r38 σ36 ad hE37 h => ?_)
      have hX := hX.trans hE37
      refine zW.widen (k' := 56) (n' := 3304) (by decide) (by decide) ?_
      exact za_aret C R hX (Or.inl ⟨_, rfl⟩) (pc := 199) d_CX_build3_199 h
    · refine z_iconst C (pc := 191) d_CX_build3_191 ?_
      refine z_goto (tgt := 196) C (pc := 192) d_CX_build3_192 (by decide) ?_
      refine z_sub (L' := []) [] rfl ?_
      refine xa_callVr (As := [zr ad 4 v6, zr ad 4 v12, .int (zi 1)]) (fun ad => []) (fun ad => []) C S hA fy_GR_gated (0, 1) (zids_fix zfix_1) rfl rfl wd_348 (pc := 196) d_CX_build3_196 ⟨rfl, rfl, Nat.le_of_ble_eq_true rfl, Nat.le_of_ble_eq_true rfl⟩ ⟨Nat.le_of_ble_eq_true rfl, Nat.le_of_ble_eq_true rfl⟩ rfl rfl (Nat.le_of_ble_eq_true rfl) (fun ad' ha => ⟨rfl, rfl⟩) h (c_GR_gated (zln E) D g ad _ _ _ _ _) (fun r41 σ39 ad hE40 h => ?_)
      have hX := hX.trans hE40
      refine zW.widen (k' := 56) (n' := 3304) (by decide) (by decide) ?_
      exact za_aret C R hX (Or.inl ⟨_, rfl⟩) (pc := 199) d_CX_build3_199 h
set_option maxHeartbeats 4000000 in
set_option maxRecDepth 100000 in
theorem wk_CX_build3_147 {E : zE} {D : va_G} {g : zG} {A : Nat → Prop} {ad0 : zA} {σ0 : zS} {Q : Int → zS → Prop} (C : zX E b_CX_build R_CX D g { frames := 14, cells := 56, slots := 3304, locals := 378 } 16) (R : zRt E (some (.object "CellMapper$Node")) (zJr D g ad0 σ0 4 Q A) 56 3304 A) (S : zSt g A (zst E) (zst E).heap) (hA : ∀ q, (zst E).heap.size ≤ q → A q) (ad : zA) (v6 : Int) (v9 : Int) (v10 : Int) (v11 : Int) (z0 : Int) (σ : zS) (hX : zEx ad0 σ0 ad σ) (h : bk_CX_build3_147 Q v6 v9 v10 v11 z0 σ) : zW E (zOK D A (zst E) g ad) 48 2832 147 [(0, .ref (ad (0, 1))), (6, zr ad 4 v6), (9, .int (zi v9)), (10, .int (zi v10)), (11, zr ad 4 v11)] [zr ad 4 z0] σ := by
  unfold bk_CX_build3_147 at h
  refine z_astoreZ (L' := [(12, zr ad 4 z0), (0, .ref (ad (0, 1))), (6, zr ad 4 v6), (9, .int (zi v9)), (10, .int (zi v10)), (11, zr ad 4 v11)]) C (pc := 147) d_CX_build3_147 (by decide) (congrArg (List.cons _) (flt_eq (j := 12) rfl (List.forall_mem_singleton.mpr (zr_cat _ _ _)) rfl)) ?_
  refine z_aloadZ C (pc := 149) d_CX_build3_149 5 rfl ?_
  refine z_ifnonnull (tgt := 176) C (pc := 151) d_CX_build3_151 (by decide) h (fun h => ?_) (fun h => ?_)
  · refine z_sub [1, 2, 3, 4, 5, 0] rfl ?_
    exact wk_CX_build3_176 C R S hA ad _ _ _ _ _ _ hX h
  · refine z_aloadZ C (pc := 154) d_CX_build3_154 0 rfl ?_
    refine z_ifnonnull (tgt := 176) C (pc := 156) d_CX_build3_156 (by decide) h (fun h => ?_) (fun h => ?_)
    · refine z_sub [1, 2, 3, 4, 5, 0] rfl ?_
      exact wk_CX_build3_176 C R S hA ad _ _ _ _ _ _ hX h
    · refine z_iload C (pc := 159) d_CX_build3_159 3 rfl ?_
      obtain ⟨hc42, h⟩ := h
      refine z_if_ne (tgt := 169) C (pc := 161) d_CX_build3_161 (by decide) hc42 h (fun h => ?_) (fun h => ?_)
      · refine z_aload_n C (pc := 169) d_CX_build3_169 1 rfl ?_
        refine z_aloadZ C (pc := 170) d_CX_build3_170 2 rfl ?_
        refine z_sub (L' := []) [] rfl ?_
        refine xa_callVr (As := [zr ad 4 v6]) (fun ad => []) (fun ad => []) C S hA fy_GR_inv (0, 1) (zids_fix zfix_1) rfl rfl wd_336 (pc := 172) d_CX_build3_172 ⟨rfl, rfl, Nat.le_of_ble_eq_true rfl, Nat.le_of_ble_eq_true rfl⟩ ⟨Nat.le_of_ble_eq_true rfl, Nat.le_of_ble_eq_true rfl⟩ rfl rfl (Nat.le_of_ble_eq_true rfl) (fun ad' ha => ⟨rfl, rfl⟩) h (c_GR_inv (zln E) D g ad _ _ _) (fun r45 σ43 ad hE44 h => ?_)
        have hX := hX.trans hE44
        refine zW.widen (k' := 56) (n' := 3304) (by decide) (by decide) ?_
        exact za_aret C R hX (Or.inl ⟨_, rfl⟩) (pc := 175) d_CX_build3_175 h
      · refine z_aloadZ C (pc := 164) d_CX_build3_164 2 rfl ?_
        refine z_goto (tgt := 175) C (pc := 166) d_CX_build3_166 (by decide) ?_
        refine zW.widen (k' := 56) (n' := 3304) (by decide) (by decide) ?_
        exact za_aret C R hX (Or.inl ⟨_, rfl⟩) (pc := 175) d_CX_build3_175 h
set_option maxHeartbeats 4000000 in
set_option maxRecDepth 100000 in
theorem wk_CX_build3_129 {E : zE} {D : va_G} {g : zG} {A : Nat → Prop} {ad0 : zA} {σ0 : zS} {Q : Int → zS → Prop} (C : zX E b_CX_build R_CX D g { frames := 14, cells := 56, slots := 3304, locals := 378 } 16) (R : zRt E (some (.object "CellMapper$Node")) (zJr D g ad0 σ0 4 Q A) 56 3304 A) (S : zSt g A (zst E) (zst E).heap) (hA : ∀ q, (zst E).heap.size ≤ q → A q) (ad : zA) (v6 : Int) (v9 : Int) (v10 : Int) (v11 : Int) (σ : zS) (hX : zEx ad0 σ0 ad σ) (h : bk_CX_build3_129 Q v6 v9 v10 v11 σ) : zW E (zOK D A (zst E) g ad) 24 1416 129 [(0, .ref (ad (0, 1))), (6, zr ad 4 v6), (9, .int (zi v9)), (10, .int (zi v10)), (11, zr ad 4 v11)] [] σ := by
  unfold bk_CX_build3_129 at h
  refine z_nullZ (ad := ad) 4 C (pc := 129) d_CX_build3_129 ?_
  refine z_goto (tgt := 147) C (pc := 130) d_CX_build3_130 (by decide) ?_
  refine zW.widen (k' := 48) (n' := 2832) (by decide) (by decide) ?_
  exact wk_CX_build3_147 C R S hA ad _ _ _ _ _ _ hX h
set_option maxHeartbeats 4000000 in
set_option maxRecDepth 100000 in
theorem wk_CX_build3_115 {E : zE} {D : va_G} {g : zG} {A : Nat → Prop} {ad0 : zA} {σ0 : zS} {Q : Int → zS → Prop} (C : zX E b_CX_build R_CX D g { frames := 14, cells := 56, slots := 3304, locals := 378 } 16) (R : zRt E (some (.object "CellMapper$Node")) (zJr D g ad0 σ0 4 Q A) 56 3304 A) (S : zSt g A (zst E) (zst E).heap) (hA : ∀ q, (zst E).heap.size ≤ q → A q) (ad : zA) (v2 : Int) (v3 : Int) (v4 : Int) (v5 : Int) (v6 : Int) (v8 : Int) (v9 : Int) (v10 : Int) (z0 : Int) (σ : zS) (hX : zEx ad0 σ0 ad σ) (h : bk_CX_build3_115 Q v2 v3 v4 v5 v6 v8 v9 v10 z0 σ) : zW E (zOK D A (zst E) g ad) 24 1416 115 [(0, .ref (ad (0, 1))), (2, zr ad 4 v2), (3, zr ad 4 v3), (4, zr ad 4 v4), (5, .int (zi v5)), (6, zr ad 4 v6), (8, .int (zi v8)), (9, .int (zi v9)), (10, .int (zi v10))] [zr ad 4 z0] σ := by
  unfold bk_CX_build3_115 at h
  refine z_astoreZ (L' := [(11, zr ad 4 z0), (0, .ref (ad (0, 1))), (2, zr ad 4 v2), (3, zr ad 4 v3), (4, zr ad 4 v4), (5, .int (zi v5)), (6, zr ad 4 v6), (8, .int (zi v8)), (9, .int (zi v9)), (10, .int (zi v10))]) C (pc := 115) d_CX_build3_115 (by decide) rfl ?_
  refine z_iload C (pc := 117) d_CX_build3_117 9 rfl ?_
  obtain ⟨hc6, h⟩ := h
  refine z_if_eq (tgt := 129) C (pc := 119) d_CX_build3_119 (by decide) hc6 h (fun h => ?_) (fun h => ?_)
  · refine z_sub [1, 6, 8, 9, 0] rfl ?_
    exact wk_CX_build3_129 C R S hA ad _ _ _ _ _ hX h
  · refine z_iload C (pc := 122) d_CX_build3_122 9 rfl ?_
    refine z_iload C (pc := 124) d_CX_build3_124 7 rfl ?_
    obtain ⟨hc46, h⟩ := h
    refine z_icmp_ne (tgt := 133) C (pc := 126) d_CX_build3_126 (by decide) hc6 hc46 h (fun h => ?_) (fun h => ?_)
    · refine z_aload_n C (pc := 133) d_CX_build3_133 1 rfl ?_
      refine z_iload C (pc := 134) d_CX_build3_134 9 rfl ?_
      refine z_aloadZ_n C (pc := 136) d_CX_build3_136 2 rfl ?_
      refine z_aloadZ_n C (pc := 137) d_CX_build3_137 3 rfl ?_
      refine z_aloadZ C (pc := 138) d_CX_build3_138 4 rfl ?_
      refine z_iload C (pc := 140) d_CX_build3_140 5 rfl ?_
      refine z_iconst C (pc := 142) d_CX_build3_142 ?_
      refine z_isub C (pc := 143) d_CX_build3_143 ?_
      refine z_sub (L' := [(11, zr ad 4 z0), (0, .ref (ad (0, 1))), (6, zr ad 4 v6), (9, .int (zi v9)), (10, .int (zi v10))]) [0, 1, 6, 8, 9] rfl ?_
      obtain ⟨hc50, hc51, h⟩ := h
      refine xa_callSr (As := [.ref (ad (0, 1)), .int (zi v10), zr ad 4 v2, zr ad 4 v3, zr ad 4 v4, .int (zi (v5 - 1))]) (fun ad => [(11, zr ad 4 z0), (0, .ref (ad (0, 1))), (6, zr ad 4 v6), (9, .int (zi v9)), (10, .int (zi v10))]) (fun ad => []) C S hA fs_CX_build wd_333 (pc := 144) d_CX_build3_144 ⟨rfl, rfl, Nat.le_of_ble_eq_true rfl, Nat.le_of_ble_eq_true rfl⟩ ⟨Nat.le_of_ble_eq_true rfl, Nat.le_of_ble_eq_true rfl⟩ rfl rfl (Nat.le_of_ble_eq_true rfl) (fun ad' ha => ⟨by simp only [zr_ag (x := z0) ha hc50, zo_ag ha zfix_1 (by decide), zr_ag (x := v6) ha hc51], rfl⟩) h (c_CX_build2 (zln E) D g ad _ _ _ _ _ _ _) (fun r49 σ47 ad hE48 h => ?_)
      have hX := hX.trans hE48
      refine z_sub [1, 2, 3, 4, 0] rfl ?_
      exact wk_CX_build3_147 C R S hA ad _ _ _ _ _ _ hX h
    · refine z_sub [1, 6, 8, 9, 0] rfl ?_
      exact wk_CX_build3_129 C R S hA ad _ _ _ _ _ hX h
set_option maxHeartbeats 4000000 in
set_option maxRecDepth 100000 in
theorem wk_CX_build3_97 {E : zE} {D : va_G} {g : zG} {A : Nat → Prop} {ad0 : zA} {σ0 : zS} {Q : Int → zS → Prop} (C : zX E b_CX_build R_CX D g { frames := 14, cells := 56, slots := 3304, locals := 378 } 16) (R : zRt E (some (.object "CellMapper$Node")) (zJr D g ad0 σ0 4 Q A) 56 3304 A) (S : zSt g A (zst E) (zst E).heap) (hA : ∀ q, (zst E).heap.size ≤ q → A q) (ad : zA) (v2 : Int) (v3 : Int) (v4 : Int) (v5 : Int) (v6 : Int) (v8 : Int) (v9 : Int) (v10 : Int) (σ : zS) (hX : zEx ad0 σ0 ad σ) (h : bk_CX_build3_97 Q v2 v3 v4 v5 v6 v8 v9 v10 σ) : zW E (zOK D A (zst E) g ad) 0 0 97 [(0, .ref (ad (0, 1))), (2, zr ad 4 v2), (3, zr ad 4 v3), (4, zr ad 4 v4), (5, .int (zi v5)), (6, zr ad 4 v6), (8, .int (zi v8)), (9, .int (zi v9)), (10, .int (zi v10))] [] σ := by
  unfold bk_CX_build3_97 at h
  refine z_nullZ (ad := ad) 4 C (pc := 97) d_CX_build3_97 ?_
  refine z_goto (tgt := 115) C (pc := 98) d_CX_build3_98 (by decide) ?_
  refine zW.widen (k' := 24) (n' := 1416) (by decide) (by decide) ?_
  exact wk_CX_build3_115 C R S hA ad _ _ _ _ _ _ _ _ _ _ hX h
set_option maxHeartbeats 4000000 in
set_option maxRecDepth 100000 in
theorem wk_CX_build3_30 {E : zE} {D : va_G} {g : zG} {A : Nat → Prop} {ad0 : zA} {σ0 : zS} {Q : Int → zS → Prop} (C : zX E b_CX_build R_CX D g { frames := 14, cells := 56, slots := 3304, locals := 378 } 16) (R : zRt E (some (.object "CellMapper$Node")) (zJr D g ad0 σ0 4 Q A) 56 3304 A) (S : zSt g A (zst E) (zst E).heap) (hA : ∀ q, (zst E).heap.size ≤ q → A q) (ad : zA) (v1 : Int) (v2 : Int) (v3 : Int) (v4 : Int) (v5 : Int) (z0 : Int) (σ : zS) (hX : zEx ad0 σ0 ad σ) (h : bk_CX_build3_30 Q v1 v2 v3 v4 v5 z0 σ) : zW E (zOK D A (zst E) g ad) 0 0 30 [(0, .ref (ad (0, 1))), (1, .int (zi v1)), (2, zr ad 4 v2), (3, zr ad 4 v3), (4, zr ad 4 v4), (5, .int (zi v5))] [zr ad 4 z0] σ := by
  unfold bk_CX_build3_30 at h
  refine z_astoreZ (L' := [(6, zr ad 4 z0), (0, .ref (ad (0, 1))), (1, .int (zi v1)), (2, zr ad 4 v2), (3, zr ad 4 v3), (4, zr ad 4 v4), (5, .int (zi v5))]) C (pc := 30) d_CX_build3_30 (by decide) rfl ?_
  refine z_iconst C (pc := 32) d_CX_build3_32 ?_
  refine z_iload C (pc := 33) d_CX_build3_33 6 rfl ?_
  refine z_iconst C (pc := 35) d_CX_build3_35 ?_
  refine z_isub C (pc := 36) d_CX_build3_36 ?_
  refine z_ishl C (pc := 37) d_CX_build3_37 ?_
  refine zNi h (fun y2 ey2 h => ?_)
  refine z_istore (L' := [(7, .int (zi y2)), (6, zr ad 4 z0), (0, .ref (ad (0, 1))), (1, .int (zi v1)), (2, zr ad 4 v2), (3, zr ad 4 v3), (4, zr ad 4 v4), (5, .int (zi v5))]) C (pc := 38) d_CX_build3_38 (by decide) (congrArg (List.cons _) (flt_eq (j := 7) rfl (List.forall_mem_singleton.mpr (zr_cat _ _ _)) rfl)) ?_
  refine z_iconst C (pc := 40) d_CX_build3_40 ?_
  refine z_iload C (pc := 41) d_CX_build3_41 0 rfl ?_
  refine z_ishl C (pc := 43) d_CX_build3_43 ?_
  refine z_iconst C (pc := 44) d_CX_build3_44 ?_
  refine z_isub C (pc := 45) d_CX_build3_45 ?_
  refine zNi h (fun y3 ey3 h => ?_)
  refine z_istore (L' := [(8, .int (zi y3)), (7, .int (zi y2)), (6, zr ad 4 z0), (0, .ref (ad (0, 1))), (1, .int (zi v1)), (2, zr ad 4 v2), (3, zr ad 4 v3), (4, zr ad 4 v4), (5, .int (zi v5))]) C (pc := 46) d_CX_build3_46 (by decide) rfl ?_
  refine z_iload_n C (pc := 48) d_CX_build3_48 4 rfl ?_
  refine z_iload C (pc := 49) d_CX_build3_49 0 rfl ?_
  refine z_iand C (pc := 51) d_CX_build3_51 ?_
  refine zNi h (fun y4 ey4 h => ?_)
  refine z_istore (L' := [(9, .int (zi y4)), (8, .int (zi y3)), (7, .int (zi y2)), (6, zr ad 4 z0), (0, .ref (ad (0, 1))), (1, .int (zi v1)), (2, zr ad 4 v2), (3, zr ad 4 v3), (4, zr ad 4 v4), (5, .int (zi v5))]) C (pc := 52) d_CX_build3_52 (by decide) rfl ?_
  refine z_iload_n C (pc := 54) d_CX_build3_54 5 rfl ?_
  refine z_iload C (pc := 55) d_CX_build3_55 2 rfl ?_
  refine z_ishr C (pc := 57) d_CX_build3_57 ?_
  refine z_iload C (pc := 58) d_CX_build3_58 1 rfl ?_
  refine z_iand C (pc := 60) d_CX_build3_60 ?_
  refine zNi h (fun y5 ey5 h => ?_)
  refine z_istore (L' := [(10, .int (zi y5)), (9, .int (zi y4)), (8, .int (zi y3)), (7, .int (zi y2)), (6, zr ad 4 z0), (0, .ref (ad (0, 1))), (1, .int (zi v1)), (2, zr ad 4 v2), (3, zr ad 4 v3), (4, zr ad 4 v4), (5, .int (zi v5))]) C (pc := 61) d_CX_build3_61 (by decide) rfl ?_
  refine z_iload C (pc := 63) d_CX_build3_63 1 rfl ?_
  refine z_iload C (pc := 65) d_CX_build3_65 0 rfl ?_
  refine z_icmp_ne (tgt := 85) C (pc := 67) d_CX_build3_67 (by decide) (ey4 ▸ zc_and _ _) (ey5 ▸ zc_and _ _) h (fun h => ?_) (fun h => ?_)
  · refine z_iload C (pc := 85) d_CX_build3_85 1 rfl ?_
    refine z_if_eq (tgt := 97) C (pc := 87) d_CX_build3_87 (by decide) (ey4 ▸ zc_and _ _) h (fun h => ?_) (fun h => ?_)
    · refine z_sub [5, 7, 8, 9, 10, 4, 2, 1, 0] rfl ?_
      exact wk_CX_build3_97 C R S hA ad _ _ _ _ _ _ _ _ _ hX h
    · refine z_iload C (pc := 90) d_CX_build3_90 1 rfl ?_
      refine z_iload C (pc := 92) d_CX_build3_92 2 rfl ?_
      obtain ⟨hc52, h⟩ := h
      refine z_icmp_ne (tgt := 101) C (pc := 94) d_CX_build3_94 (by decide) (ey4 ▸ zc_and _ _) hc52 h (fun h => ?_) (fun h => ?_)
      · refine z_aload_n C (pc := 101) d_CX_build3_101 5 rfl ?_
        refine z_iload C (pc := 102) d_CX_build3_102 1 rfl ?_
        refine z_aloadZ_n C (pc := 104) d_CX_build3_104 7 rfl ?_
        refine z_aloadZ_n C (pc := 105) d_CX_build3_105 8 rfl ?_
        refine z_aloadZ C (pc := 106) d_CX_build3_106 9 rfl ?_
        refine z_iload C (pc := 108) d_CX_build3_108 10 rfl ?_
        refine z_iconst C (pc := 110) d_CX_build3_110 ?_
        refine z_isub C (pc := 111) d_CX_build3_111 ?_
        refine z_sub (L' := [(10, .int (zi y5)), (9, .int (zi y4)), (8, .int (zi y3)), (6, zr ad 4 z0), (0, .ref (ad (0, 1))), (2, zr ad 4 v2), (3, zr ad 4 v3), (4, zr ad 4 v4), (5, .int (zi v5))]) [0, 1, 2, 4, 5, 7, 8, 9, 10] rfl ?_
        obtain ⟨hc56, hc57, hc58, hc59, h⟩ := h
        refine xa_callSr (As := [.ref (ad (0, 1)), .int (zi y4), zr ad 4 v2, zr ad 4 v3, zr ad 4 v4, .int (zi (v5 - 1))]) (fun ad => [(10, .int (zi y5)), (9, .int (zi y4)), (8, .int (zi y3)), (6, zr ad 4 z0), (0, .ref (ad (0, 1))), (2, zr ad 4 v2), (3, zr ad 4 v3), (4, zr ad 4 v4), (5, .int (zi v5))]) (fun ad => []) C S hA fs_CX_build wd_333 (pc := 112) d_CX_build3_112 ⟨rfl, rfl, Nat.le_of_ble_eq_true rfl, Nat.le_of_ble_eq_true rfl⟩ ⟨Nat.le_of_ble_eq_true rfl, Nat.le_of_ble_eq_true rfl⟩ rfl rfl (Nat.le_of_ble_eq_true rfl) (fun ad' ha => ⟨by simp only [zr_ag (x := z0) ha hc56, zo_ag ha zfix_1 (by decide), zr_ag (x := v2) ha hc57, zr_ag (x := v3) ha hc58, zr_ag (x := v4) ha hc59], rfl⟩) h (c_CX_build2 (zln E) D g ad _ _ _ _ _ _ _) (fun r55 σ53 ad hE54 h => ?_)
        have hX := hX.trans hE54
        refine z_sub [4, 5, 6, 7, 8, 3, 2, 1, 0] rfl ?_
        exact wk_CX_build3_115 C R S hA ad _ _ _ _ _ _ _ _ _ _ hX h
      · refine z_sub [5, 7, 8, 9, 10, 4, 2, 1, 0] rfl ?_
        exact wk_CX_build3_97 C R S hA ad _ _ _ _ _ _ _ _ _ hX h
  · refine z_aload_n C (pc := 70) d_CX_build3_70 5 rfl ?_
    refine z_iload C (pc := 71) d_CX_build3_71 1 rfl ?_
    refine z_aloadZ_n C (pc := 73) d_CX_build3_73 7 rfl ?_
    refine z_aloadZ_n C (pc := 74) d_CX_build3_74 8 rfl ?_
    refine z_aloadZ C (pc := 75) d_CX_build3_75 9 rfl ?_
    refine z_iload C (pc := 77) d_CX_build3_77 10 rfl ?_
    refine z_iconst C (pc := 79) d_CX_build3_79 ?_
    refine z_isub C (pc := 80) d_CX_build3_80 ?_
    refine z_sub (L' := []) [] rfl ?_
    refine xa_callSr (As := [.ref (ad (0, 1)), .int (zi y4), zr ad 4 v2, zr ad 4 v3, zr ad 4 v4, .int (zi (v5 - 1))]) (fun ad => []) (fun ad => []) C S hA fs_CX_build wd_333 (pc := 81) d_CX_build3_81 ⟨rfl, rfl, Nat.le_of_ble_eq_true rfl, Nat.le_of_ble_eq_true rfl⟩ ⟨Nat.le_of_ble_eq_true rfl, Nat.le_of_ble_eq_true rfl⟩ rfl rfl (Nat.le_of_ble_eq_true rfl) (fun ad' ha => ⟨rfl, rfl⟩) h (c_CX_build2 (zln E) D g ad _ _ _ _ _ _ _) (fun r62 σ60 ad hE61 h => ?_)
    have hX := hX.trans hE61
    refine zW.widen (k' := 56) (n' := 3304) (by decide) (by decide) ?_
    exact za_aret C R hX (Or.inl ⟨_, rfl⟩) (pc := 84) d_CX_build3_84 h
set_option maxHeartbeats 4000000 in
set_option maxRecDepth 100000 in
theorem c_CX_build3 (l : Launch) (D : va_G) (g : zG) (ad : zA) (v1 : Int) (v2 : Int) (v3 : Int) (v4 : Int) (v5 : Int) (Q : Int → zS → Prop) (σ : zS) (h : wp_CX_build3 Q v1 v2 v3 v4 v5 σ) (sz : Nat) : zHr 4 l y_CX_build b_CX_build 16 (some (.object "CellMapper$Node")) { frames := 14, cells := 56, slots := 3304, locals := 378 } D g ad σ [.ref (ad (0, 1)), .int (zi v1), zr ad 4 v2, zr ad 4 v3, zr ad 4 v4, .int (zi v5)] Q sz 56 3304 := by
  unfold wp_CX_build3 at h
  refine zA_of (by decide) (by simp [lg_sl, zr_cat, kv_cat, cat_i, cat_l, cat_r]) (fun E C R S hA => ?_)
  have C : zX E b_CX_build R_CX D g { frames := 14, cells := 56, slots := 3304, locals := 378 } 16 := C
  have hX : zEx ad σ ad σ := zEx.rf
  refine z_sub (L' := [(0, .ref (ad (0, 1))), (1, .int (zi v1)), (2, zr ad 4 v2), (3, zr ad 4 v3), (4, zr ad 4 v4), (5, .int (zi v5))]) [0, 1, 2, 3, 4, 5] (by simp [lv_args, lv_pick, zr_cat, kv_cat, cat_i, cat_l, cat_r]) ?_
  refine z_iload C (pc := 0) d_CX_build3_0 5 rfl ?_
  refine z_iconst C (pc := 2) d_CX_build3_2 ?_
  obtain ⟨hc1, h⟩ := h
  refine z_icmp_ge (tgt := 8) C (pc := 3) d_CX_build3_3 (by decide) hc1 (by decide) h (fun h => ?_) (fun h => ?_)
  · refine z_iload C (pc := 8) d_CX_build3_8 5 rfl ?_
    refine z_iconst C (pc := 10) d_CX_build3_10 ?_
    refine z_icmp_ne (tgt := 19) C (pc := 11) d_CX_build3_11 (by decide) hc1 (by decide) h (fun h => ?_) (fun h => ?_)
    · refine z_iload C (pc := 19) d_CX_build3_19 5 rfl ?_
      refine z_iconst C (pc := 21) d_CX_build3_21 ?_
      refine z_icmp_ne (tgt := 29) C (pc := 22) d_CX_build3_22 (by decide) hc1 (by decide) h (fun h => ?_) (fun h => ?_)
      · refine z_aloadZ_n C (pc := 29) d_CX_build3_29 2 rfl ?_
        exact wk_CX_build3_30 C R S hA ad _ _ _ _ _ _ _ hX h
      · refine z_aloadZ_n C (pc := 25) d_CX_build3_25 3 rfl ?_
        refine z_goto (tgt := 30) C (pc := 26) d_CX_build3_26 (by decide) ?_
        exact wk_CX_build3_30 C R S hA ad _ _ _ _ _ _ _ hX h
    · refine z_aloadZ C (pc := 14) d_CX_build3_14 4 rfl ?_
      refine z_goto (tgt := 30) C (pc := 16) d_CX_build3_16 (by decide) ?_
      exact wk_CX_build3_30 C R S hA ad _ _ _ _ _ _ _ hX h
  · refine z_aloadZ_n C (pc := 6) d_CX_build3_6 2 rfl ?_
    refine zW.widen (k' := 56) (n' := 3304) (by decide) (by decide) ?_
    exact za_aret C R hX (Or.inl ⟨_, rfl⟩) (pc := 7) d_CX_build3_7 h
