theorem d_MM_retime_0 : decode b_MM_retime 0 = .ok (.iconst 0, 1) := by decide +kernel
theorem d_MM_retime_1 : decode b_MM_retime 1 = .ok (.istore_n 1, 1) := by decide +kernel
theorem d_MM_retime_2 : decode b_MM_retime 2 = .ok (.iload_n 1, 1) := by decide +kernel
theorem d_MM_retime_3 : decode b_MM_retime 3 = .ok (.bipush 48, 2) := by decide +kernel
theorem d_MM_retime_5 : decode b_MM_retime 5 = .ok (.if_icmp .ge 16, 3) := by decide +kernel
theorem d_MM_retime_8 : decode b_MM_retime 8 = .ok (.aload_n 0, 1) := by decide +kernel
theorem d_MM_retime_9 : decode b_MM_retime 9 = .ok (.getfield 123, 3) := by decide +kernel
theorem d_MM_retime_12 : decode b_MM_retime 12 = .ok (.iload_n 1, 1) := by decide +kernel
theorem d_MM_retime_13 : decode b_MM_retime 13 = .ok (.iconst 0, 1) := by decide +kernel
theorem d_MM_retime_14 : decode b_MM_retime 14 = .ok (.iastore, 1) := by decide +kernel
theorem d_MM_retime_15 : decode b_MM_retime 15 = .ok (.iinc 1 1, 3) := by decide +kernel
theorem d_MM_retime_18 : decode b_MM_retime 18 = .ok (.goto (-16), 3) := by decide +kernel
theorem d_MM_retime_21 : decode b_MM_retime 21 = .ok (.iconst 1, 1) := by decide +kernel
theorem d_MM_retime_22 : decode b_MM_retime 22 = .ok (.istore_n 1, 1) := by decide +kernel
theorem d_MM_retime_23 : decode b_MM_retime 23 = .ok (.iload_n 1, 1) := by decide +kernel
theorem d_MM_retime_24 : decode b_MM_retime 24 = .ok (.ifCond .eq 51, 3) := by decide +kernel
theorem d_MM_retime_27 : decode b_MM_retime 27 = .ok (.iconst 0, 1) := by decide +kernel
theorem d_MM_retime_28 : decode b_MM_retime 28 = .ok (.istore_n 1, 1) := by decide +kernel
theorem d_MM_retime_29 : decode b_MM_retime 29 = .ok (.iconst 0, 1) := by decide +kernel
theorem d_MM_retime_30 : decode b_MM_retime 30 = .ok (.istore_n 2, 1) := by decide +kernel
theorem d_MM_retime_31 : decode b_MM_retime 31 = .ok (.iload_n 2, 1) := by decide +kernel
theorem d_MM_retime_32 : decode b_MM_retime 32 = .ok (.aload_n 0, 1) := by decide +kernel
theorem d_MM_retime_33 : decode b_MM_retime 33 = .ok (.getfield 135, 3) := by decide +kernel
theorem d_MM_retime_36 : decode b_MM_retime 36 = .ok (.if_icmp .ge 36, 3) := by decide +kernel
theorem d_MM_retime_39 : decode b_MM_retime 39 = .ok (.aload_n 0, 1) := by decide +kernel
theorem d_MM_retime_40 : decode b_MM_retime 40 = .ok (.getfield 83, 3) := by decide +kernel
theorem d_MM_retime_43 : decode b_MM_retime 43 = .ok (.iload_n 2, 1) := by decide +kernel
theorem d_MM_retime_44 : decode b_MM_retime 44 = .ok (.baload, 1) := by decide +kernel
theorem d_MM_retime_45 : decode b_MM_retime 45 = .ok (.ifCond .eq 11, 3) := by decide +kernel
theorem d_MM_retime_48 : decode b_MM_retime 48 = .ok (.aload_n 0, 1) := by decide +kernel
theorem d_MM_retime_49 : decode b_MM_retime 49 = .ok (.iload_n 2, 1) := by decide +kernel
theorem d_MM_retime_50 : decode b_MM_retime 50 = .ok (.invokevirtual 262, 3) := by decide +kernel
theorem d_MM_retime_53 : decode b_MM_retime 53 = .ok (.ifCond .ne 7, 3) := by decide +kernel
theorem d_MM_retime_56 : decode b_MM_retime 56 = .ok (.iload_n 1, 1) := by decide +kernel
theorem d_MM_retime_57 : decode b_MM_retime 57 = .ok (.ifCond .eq 7, 3) := by decide +kernel
theorem d_MM_retime_60 : decode b_MM_retime 60 = .ok (.iconst 1, 1) := by decide +kernel
theorem d_MM_retime_61 : decode b_MM_retime 61 = .ok (.goto 4, 3) := by decide +kernel
theorem d_MM_retime_64 : decode b_MM_retime 64 = .ok (.iconst 0, 1) := by decide +kernel
theorem d_MM_retime_65 : decode b_MM_retime 65 = .ok (.istore_n 1, 1) := by decide +kernel
theorem d_MM_retime_66 : decode b_MM_retime 66 = .ok (.iinc 2 1, 3) := by decide +kernel
theorem d_MM_retime_69 : decode b_MM_retime 69 = .ok (.goto (-38), 3) := by decide +kernel
theorem d_MM_retime_72 : decode b_MM_retime 72 = .ok (.goto (-49), 3) := by decide +kernel
theorem d_MM_retime_75 : decode b_MM_retime 75 = .ok (.iconst 0, 1) := by decide +kernel
theorem d_MM_retime_76 : decode b_MM_retime 76 = .ok (.istore_n 2, 1) := by decide +kernel
theorem d_MM_retime_77 : decode b_MM_retime 77 = .ok (.iload_n 2, 1) := by decide +kernel
theorem d_MM_retime_78 : decode b_MM_retime 78 = .ok (.sipush 196, 3) := by decide +kernel
theorem d_MM_retime_81 : decode b_MM_retime 81 = .ok (.if_icmp .ge 144, 3) := by decide +kernel
theorem d_MM_retime_84 : decode b_MM_retime 84 = .ok (.aload_n 0, 1) := by decide +kernel
theorem d_MM_retime_85 : decode b_MM_retime 85 = .ok (.getfield 92, 3) := by decide +kernel
theorem d_MM_retime_88 : decode b_MM_retime 88 = .ok (.iload_n 2, 1) := by decide +kernel
theorem d_MM_retime_89 : decode b_MM_retime 89 = .ok (.iaload, 1) := by decide +kernel
theorem d_MM_retime_90 : decode b_MM_retime 90 = .ok (.ifCond .lt 129, 3) := by decide +kernel
theorem d_MM_retime_93 : decode b_MM_retime 93 = .ok (.iload_n 2, 1) := by decide +kernel
theorem d_MM_retime_94 : decode b_MM_retime 94 = .ok (.sipush 192, 3) := by decide +kernel
theorem d_MM_retime_97 : decode b_MM_retime 97 = .ok (.if_icmp .ge 14, 3) := by decide +kernel
theorem d_MM_retime_100 : decode b_MM_retime 100 = .ok (.aload_n 0, 1) := by decide +kernel
theorem d_MM_retime_101 : decode b_MM_retime 101 = .ok (.getfield 117, 3) := by decide +kernel
theorem d_MM_retime_104 : decode b_MM_retime 104 = .ok (.iload_n 2, 1) := by decide +kernel
theorem d_MM_retime_105 : decode b_MM_retime 105 = .ok (.iconst 4, 1) := by decide +kernel
theorem d_MM_retime_106 : decode b_MM_retime 106 = .ok (.idiv, 1) := by decide +kernel
theorem d_MM_retime_107 : decode b_MM_retime 107 = .ok (.iaload, 1) := by decide +kernel
theorem d_MM_retime_108 : decode b_MM_retime 108 = .ok (.goto 4, 3) := by decide +kernel
theorem d_MM_retime_111 : decode b_MM_retime 111 = .ok (.iconst 0, 1) := by decide +kernel
theorem d_MM_retime_112 : decode b_MM_retime 112 = .ok (.istore_n 3, 1) := by decide +kernel
theorem d_MM_retime_113 : decode b_MM_retime 113 = .ok (.aload_n 0, 1) := by decide +kernel
theorem d_MM_retime_114 : decode b_MM_retime 114 = .ok (.getfield 95, 3) := by decide +kernel
theorem d_MM_retime_117 : decode b_MM_retime 117 = .ok (.iload_n 2, 1) := by decide +kernel
theorem d_MM_retime_118 : decode b_MM_retime 118 = .ok (.iaload, 1) := by decide +kernel
theorem d_MM_retime_119 : decode b_MM_retime 119 = .ok (.aload_n 0, 1) := by decide +kernel
theorem d_MM_retime_120 : decode b_MM_retime 120 = .ok (.getfield 83, 3) := by decide +kernel
theorem d_MM_retime_123 : decode b_MM_retime 123 = .ok (.aload_n 0, 1) := by decide +kernel
theorem d_MM_retime_124 : decode b_MM_retime 124 = .ok (.getfield 92, 3) := by decide +kernel
theorem d_MM_retime_127 : decode b_MM_retime 127 = .ok (.iload_n 2, 1) := by decide +kernel
theorem d_MM_retime_128 : decode b_MM_retime 128 = .ok (.iaload, 1) := by decide +kernel
theorem d_MM_retime_129 : decode b_MM_retime 129 = .ok (.baload, 1) := by decide +kernel
theorem d_MM_retime_130 : decode b_MM_retime 130 = .ok (.ifCond .eq 17, 3) := by decide +kernel
theorem d_MM_retime_133 : decode b_MM_retime 133 = .ok (.aload_n 0, 1) := by decide +kernel
theorem d_MM_retime_134 : decode b_MM_retime 134 = .ok (.getfield 117, 3) := by decide +kernel
theorem d_MM_retime_137 : decode b_MM_retime 137 = .ok (.aload_n 0, 1) := by decide +kernel
theorem d_MM_retime_138 : decode b_MM_retime 138 = .ok (.getfield 92, 3) := by decide +kernel
theorem d_MM_retime_141 : decode b_MM_retime 141 = .ok (.iload_n 2, 1) := by decide +kernel
theorem d_MM_retime_142 : decode b_MM_retime 142 = .ok (.iaload, 1) := by decide +kernel
theorem d_MM_retime_143 : decode b_MM_retime 143 = .ok (.iaload, 1) := by decide +kernel
theorem d_MM_retime_144 : decode b_MM_retime 144 = .ok (.goto 4, 3) := by decide +kernel
theorem d_MM_retime_147 : decode b_MM_retime 147 = .ok (.iconst 0, 1) := by decide +kernel
theorem d_MM_retime_148 : decode b_MM_retime 148 = .ok (.iadd, 1) := by decide +kernel
theorem d_MM_retime_149 : decode b_MM_retime 149 = .ok (.istore 4, 2) := by decide +kernel
theorem d_MM_retime_151 : decode b_MM_retime 151 = .ok (.aload_n 0, 1) := by decide +kernel
theorem d_MM_retime_152 : decode b_MM_retime 152 = .ok (.getfield 102, 3) := by decide +kernel
theorem d_MM_retime_155 : decode b_MM_retime 155 = .ok (.iload_n 2, 1) := by decide +kernel
theorem d_MM_retime_156 : decode b_MM_retime 156 = .ok (.iload 4, 2) := by decide +kernel
theorem d_MM_retime_158 : decode b_MM_retime 158 = .ok (.iload_n 3, 1) := by decide +kernel
theorem d_MM_retime_159 : decode b_MM_retime 159 = .ok (.isub, 1) := by decide +kernel
theorem d_MM_retime_160 : decode b_MM_retime 160 = .ok (.iastore, 1) := by decide +kernel
theorem d_MM_retime_161 : decode b_MM_retime 161 = .ok (.aload_n 0, 1) := by decide +kernel
theorem d_MM_retime_162 : decode b_MM_retime 162 = .ok (.getfield 105, 3) := by decide +kernel
theorem d_MM_retime_165 : decode b_MM_retime 165 = .ok (.iload_n 2, 1) := by decide +kernel
theorem d_MM_retime_166 : decode b_MM_retime 166 = .ok (.lconst 0, 1) := by decide +kernel
theorem d_MM_retime_167 : decode b_MM_retime 167 = .ok (.lastore, 1) := by decide +kernel
theorem d_MM_retime_168 : decode b_MM_retime 168 = .ok (.iload_n 3, 1) := by decide +kernel
theorem d_MM_retime_169 : decode b_MM_retime 169 = .ok (.istore 5, 2) := by decide +kernel
theorem d_MM_retime_171 : decode b_MM_retime 171 = .ok (.iload 5, 2) := by decide +kernel
theorem d_MM_retime_173 : decode b_MM_retime 173 = .ok (.iload 4, 2) := by decide +kernel
theorem d_MM_retime_175 : decode b_MM_retime 175 = .ok (.if_icmp .ge 32, 3) := by decide +kernel
theorem d_MM_retime_178 : decode b_MM_retime 178 = .ok (.aload_n 0, 1) := by decide +kernel
theorem d_MM_retime_179 : decode b_MM_retime 179 = .ok (.getfield 105, 3) := by decide +kernel
theorem d_MM_retime_182 : decode b_MM_retime 182 = .ok (.iload_n 2, 1) := by decide +kernel
theorem d_MM_retime_183 : decode b_MM_retime 183 = .ok (.aload_n 0, 1) := by decide +kernel
theorem d_MM_retime_184 : decode b_MM_retime 184 = .ok (.getfield 105, 3) := by decide +kernel
theorem d_MM_retime_187 : decode b_MM_retime 187 = .ok (.iload_n 2, 1) := by decide +kernel
theorem d_MM_retime_188 : decode b_MM_retime 188 = .ok (.laload, 1) := by decide +kernel
theorem d_MM_retime_189 : decode b_MM_retime 189 = .ok (.iconst 1, 1) := by decide +kernel
theorem d_MM_retime_190 : decode b_MM_retime 190 = .ok (.lshl, 1) := by decide +kernel
theorem d_MM_retime_191 : decode b_MM_retime 191 = .ok (.aload_n 0, 1) := by decide +kernel
theorem d_MM_retime_192 : decode b_MM_retime 192 = .ok (.iload_n 2, 1) := by decide +kernel
theorem d_MM_retime_193 : decode b_MM_retime 193 = .ok (.iload 5, 2) := by decide +kernel
theorem d_MM_retime_195 : decode b_MM_retime 195 = .ok (.invokevirtual 256, 3) := by decide +kernel
theorem d_MM_retime_198 : decode b_MM_retime 198 = .ok (.i2l, 1) := by decide +kernel
theorem d_MM_retime_199 : decode b_MM_retime 199 = .ok (.lor, 1) := by decide +kernel
theorem d_MM_retime_200 : decode b_MM_retime 200 = .ok (.lastore, 1) := by decide +kernel
theorem d_MM_retime_201 : decode b_MM_retime 201 = .ok (.iinc 5 1, 3) := by decide +kernel
theorem d_MM_retime_204 : decode b_MM_retime 204 = .ok (.goto (-33), 3) := by decide +kernel
theorem d_MM_retime_207 : decode b_MM_retime 207 = .ok (.aload_n 0, 1) := by decide +kernel
theorem d_MM_retime_208 : decode b_MM_retime 208 = .ok (.getfield 108, 3) := by decide +kernel
theorem d_MM_retime_211 : decode b_MM_retime 211 = .ok (.iload_n 2, 1) := by decide +kernel
theorem d_MM_retime_212 : decode b_MM_retime 212 = .ok (.aload_n 0, 1) := by decide +kernel
theorem d_MM_retime_213 : decode b_MM_retime 213 = .ok (.getfield 105, 3) := by decide +kernel
theorem d_MM_retime_216 : decode b_MM_retime 216 = .ok (.iload_n 2, 1) := by decide +kernel
theorem d_MM_retime_217 : decode b_MM_retime 217 = .ok (.laload, 1) := by decide +kernel
theorem d_MM_retime_218 : decode b_MM_retime 218 = .ok (.lastore, 1) := by decide +kernel
theorem d_MM_retime_219 : decode b_MM_retime 219 = .ok (.iinc 2 1, 3) := by decide +kernel
theorem d_MM_retime_222 : decode b_MM_retime 222 = .ok (.goto (-145), 3) := by decide +kernel
theorem d_MM_retime_225 : decode b_MM_retime 225 = .ok (.return_, 1) := by decide +kernel
def lp_MM_retime_171 (Q : zS → Prop) (J77 : Int → zS → Prop) : Nat → Int → Int → Int → zS → Prop
  | 0 => fun _ _ _ _ => False
  | n + 1 => fun v2 v4 v5 σ =>
    zc v5 ∧ zc v4 ∧ ((v4 ≤ v5 →
      0 ≤ v2 ∧ v2 < 196 ∧ 
      ∀ σ27, σ27 = zup σ 140 v2 (σ 139 v2) →
      J77 (v2 + 1) σ27) ∧
     (¬ v4 ≤ v5 →
      0 ≤ v2 ∧ v2 < 196 ∧ 
      wp_MM_comes (fun r31 σ30 =>
        zc r31 ∧ 
        ∀ σ35, σ35 = zup σ30 139 v2 (zlor (zlshl (σ 139 v2) 1) r31) →
        lp_MM_retime_171 Q J77 n v2 v4 (v5 + 1) σ35) v2 v5 σ))
def bk_MM_retime_148 (Q : zS → Prop) (J77 : Int → zS → Prop) (v2 : Int) (v3 : Int) (z0 : Int) (z1 : Int) (σ : zS) : Prop :=
  ∀ y14, y14 = z1 + z0 →
  0 ≤ v2 ∧ v2 < 196 ∧ ∀ σ17, σ17 = zup σ 138 v2 (y14 - v3) →
  ∀ σ20, σ20 = zup σ17 139 v2 0 →
  ∃ u171, lp_MM_retime_171 Q J77 u171 v2 y14 v3 σ20
def bk_MM_retime_112 (Q : zS → Prop) (J77 : Int → zS → Prop) (v2 : Int) (z0 : Int) (σ : zS) : Prop :=
  0 ≤ v2 ∧ v2 < 196 ∧ 
  0 ≤ σ 135 v2 ∧ σ 135 v2 < 48 ∧ 
  zc (σ 131 (σ 135 v2)) ∧ ((σ 131 (σ 135 v2) = 0 →
    bk_MM_retime_148 Q J77 v2 z0 0 (σ 136 v2) σ) ∧
   (¬ σ 131 (σ 135 v2) = 0 →
    bk_MM_retime_148 Q J77 v2 z0 (σ 143 (σ 135 v2)) (σ 136 v2) σ))
def lp_MM_retime_77 (Q : zS → Prop) : Nat → Int → zS → Prop
  | 0 => fun _ _ => False
  | n + 1 => fun v2 σ =>
    zc v2 ∧ ((196 ≤ v2 →
      Q σ) ∧
     (¬ 196 ≤ v2 →
      0 ≤ v2 ∧ v2 < 196 ∧ 
      zc (σ 135 v2) ∧ ((σ 135 v2 < 0 →
        lp_MM_retime_77 Q n (v2 + 1) σ) ∧
       (¬ σ 135 v2 < 0 →
        ((192 ≤ v2 →
          bk_MM_retime_112 Q (lp_MM_retime_77 Q n) v2 0 σ) ∧
         (¬ 192 ≤ v2 →
          0 ≤ v2 ∧ 
          0 ≤ v2 / 4 ∧ v2 / 4 < 48 ∧ 
          bk_MM_retime_112 Q (lp_MM_retime_77 Q n) v2 (σ 143 (v2 / 4)) σ))))))
def bk_MM_retime_65 (Q : zS → Prop) (J23 : Int → zS → Prop) (J31 : Int → Int → zS → Prop) (v2 : Int) (z0 : Int) (σ : zS) : Prop :=
  J31 z0 (v2 + 1) σ
def bk_MM_retime_60 (Q : zS → Prop) (J23 : Int → zS → Prop) (J31 : Int → Int → zS → Prop) (v2 : Int) (σ : zS) : Prop :=
  bk_MM_retime_65 Q J23 J31 v2 1 σ
def bk_MM_retime_56 (Q : zS → Prop) (J23 : Int → zS → Prop) (J31 : Int → Int → zS → Prop) (v1 : Int) (v2 : Int) (σ : zS) : Prop :=
  zc v1 ∧ ((v1 = 0 →
    bk_MM_retime_65 Q J23 J31 v2 0 σ) ∧
   (¬ v1 = 0 →
    bk_MM_retime_60 Q J23 J31 v2 σ))
def lp_MM_retime_31 (Q : zS → Prop) (J23 : Int → zS → Prop) : Nat → Int → Int → zS → Prop
  | 0 => fun _ _ _ => False
  | n + 1 => fun v1 v2 σ =>
    zc v2 ∧ zc (σ 113 0) ∧ ((σ 113 0 ≤ v2 →
      J23 v1 σ) ∧
     (¬ σ 113 0 ≤ v2 →
      0 ≤ v2 ∧ v2 < 48 ∧ 
      zc (σ 131 v2) ∧ ((σ 131 v2 = 0 →
        bk_MM_retime_56 Q J23 (lp_MM_retime_31 Q J23 n) v1 v2 σ) ∧
       (¬ σ 131 v2 = 0 →
        wp_MM_give (fun r52 σ51 =>
          zc r52 ∧ ((r52 = 0 →
            bk_MM_retime_56 Q J23 (lp_MM_retime_31 Q J23 n) v1 v2 σ51) ∧
           (¬ r52 = 0 →
            bk_MM_retime_60 Q J23 (lp_MM_retime_31 Q J23 n) v2 σ51))) v2 σ))))
def lp_MM_retime_23 (Q : zS → Prop) : Nat → Int → zS → Prop
  | 0 => fun _ _ => False
  | n + 1 => fun v1 σ =>
    zc v1 ∧ ((v1 = 0 →
      ∃ u77, lp_MM_retime_77 Q u77 0 σ) ∧
     (¬ v1 = 0 →
      ∃ u31, lp_MM_retime_31 Q (lp_MM_retime_23 Q n) u31 0 0 σ))
def lp_MM_retime_2 (Q : zS → Prop) : Nat → Int → zS → Prop
  | 0 => fun _ _ => False
  | n + 1 => fun v1 σ =>
    zc v1 ∧ ((48 ≤ v1 →
      ∃ u23, lp_MM_retime_23 Q u23 1 σ) ∧
     (¬ 48 ≤ v1 →
      0 ≤ v1 ∧ v1 < 48 ∧ ∀ σ58, σ58 = zup σ 147 v1 0 →
      lp_MM_retime_2 Q n (v1 + 1) σ58))
def wp_MM_retime (Q : zS → Prop) (σ : zS) : Prop :=
  ∃ u2, lp_MM_retime_2 Q u2 0 σ
set_option maxHeartbeats 4000000 in
set_option maxRecDepth 100000 in
theorem wk_MM_retime_171 {E : zE} {D : va_G} {g : zG} {A : Nat → Prop} {ad : zA} {Q : zS → Prop} {J77 : Int → zS → Prop} (C : zX E b_MM_retime R_MM D g { frames := 3, cells := 0, slots := 0, locals := 75 } 6) (R : zRt E none (zQv D g ad Q A) 0 0 A) (hJ77 : ∀ (v2 : Int) (σ : zS), J77 v2 σ → zW E (zOK D A (zst E) g ad) 0 0 77 [(0, .ref (ad (0, 3))), (2, .int (zi v2))] [] σ) : ∀ (n : Nat) (v2 : Int) (v4 : Int) (v5 : Int) (σ : zS), lp_MM_retime_171 Q J77 n v2 v4 v5 σ → zW E (zOK D A (zst E) g ad) 0 0 171 [(0, .ref (ad (0, 3))), (2, .int (zi v2)), (4, .int (zi v4)), (5, .int (zi v5))] [] σ := by
  intro n
  induction n with
  | zero =>
    intro v2 v4 v5 σ h
    exact h.elim
  | succ n ih =>
    intro v2 v4 v5 σ h
    refine z_iload C (pc := 171) d_MM_retime_171 3 rfl ?_
    refine z_iload C (pc := 173) d_MM_retime_173 2 rfl ?_
    obtain ⟨hc21, hc22, h⟩ := h
    refine z_icmp_ge (tgt := 207) C (pc := 175) d_MM_retime_175 (by decide) hc21 hc22 h (fun h => ?_) (fun h => ?_)
    · refine z_aload_n C (pc := 207) d_MM_retime_207 0 rfl ?_
      refine m_getA C 40 (by decide) rfl wd_744 (pc := 208) d_MM_retime_208 ?_
      refine z_iload_n C (pc := 211) d_MM_retime_211 1 rfl ?_
      refine z_aload_n C (pc := 212) d_MM_retime_212 0 rfl ?_
      refine m_getA C 39 (by decide) rfl wd_743 (pc := 213) d_MM_retime_213 ?_
      refine z_iload_n C (pc := 216) d_MM_retime_216 1 rfl ?_
      obtain ⟨hc23, hc24, h⟩ := h
      refine m_lald C 39 139 196 rfl rfl (by decide) hc23 hc24 (pc := 217) d_MM_retime_217 ?_
      refine m_last C 40 140 196 rfl rfl (by decide) hc23 hc24 (pc := 218) d_MM_retime_218 ?_
      refine zN h (fun σ27 eσ27 h => ?_)
      refine z_iinc (L' := [(2, .int (zi (v2 + 1))), (0, .ref (ad (0, 3))), (4, .int (zi v4)), (5, .int (zi v5))]) C (pc := 219) d_MM_retime_219 1 rfl (by decide) rfl ?_
      refine z_goto (tgt := 77) C (pc := 222) d_MM_retime_222 (by decide) ?_
      refine z_sub [1, 0] rfl ?_
      exact hJ77 _ _ h
    · refine z_aload_n C (pc := 178) d_MM_retime_178 0 rfl ?_
      refine m_getA C 39 (by decide) rfl wd_743 (pc := 179) d_MM_retime_179 ?_
      refine z_iload_n C (pc := 182) d_MM_retime_182 1 rfl ?_
      refine z_aload_n C (pc := 183) d_MM_retime_183 0 rfl ?_
      refine m_getA C 39 (by decide) rfl wd_743 (pc := 184) d_MM_retime_184 ?_
      refine z_iload_n C (pc := 187) d_MM_retime_187 1 rfl ?_
      obtain ⟨hc28, hc29, h⟩ := h
      refine m_lald C 39 139 196 rfl rfl (by decide) hc28 hc29 (pc := 188) d_MM_retime_188 ?_
      refine z_iconst C (pc := 189) d_MM_retime_189 ?_
      refine z_lshl C (pc := 190) d_MM_retime_190 ?_
      refine z_aload_n C (pc := 191) d_MM_retime_191 0 rfl ?_
      refine z_iload_n C (pc := 192) d_MM_retime_192 1 rfl ?_
      refine z_iload C (pc := 193) d_MM_retime_193 3 rfl ?_
      refine m_calli (As := [.int (zi v2), .int (zi v5)]) C fy_MM_comes rfl wd_1034 (pc := 195) d_MM_retime_195 ⟨rfl, rfl, Nat.le_of_ble_eq_true rfl, Nat.le_of_ble_eq_true rfl⟩ rfl rfl (Nat.le_of_ble_eq_true rfl) h (c_MM_comes (zln E) D g ad _ _ _ _) (fun r31 σ30 h => ?_)
      obtain ⟨hc32, h⟩ := h
      refine z_i2l C (pc := 198) d_MM_retime_198 hc32 ?_
      refine z_lor C (pc := 199) d_MM_retime_199 ?_
      refine m_last C 39 139 196 rfl rfl (by decide) hc28 hc29 (pc := 200) d_MM_retime_200 ?_
      refine zN h (fun σ35 eσ35 h => ?_)
      refine z_iinc (L' := [(5, .int (zi (v5 + 1))), (0, .ref (ad (0, 3))), (2, .int (zi v2)), (4, .int (zi v4))]) C (pc := 201) d_MM_retime_201 3 rfl (by decide) rfl ?_
      refine z_goto (tgt := 171) C (pc := 204) d_MM_retime_204 (by decide) ?_
      refine z_sub [1, 2, 3, 0] rfl ?_
      exact ih _ _ _ _ h
set_option maxHeartbeats 4000000 in
set_option maxRecDepth 100000 in
theorem wk_MM_retime_148 {E : zE} {D : va_G} {g : zG} {A : Nat → Prop} {ad : zA} {Q : zS → Prop} {J77 : Int → zS → Prop} (C : zX E b_MM_retime R_MM D g { frames := 3, cells := 0, slots := 0, locals := 75 } 6) (R : zRt E none (zQv D g ad Q A) 0 0 A) (hJ77 : ∀ (v2 : Int) (σ : zS), J77 v2 σ → zW E (zOK D A (zst E) g ad) 0 0 77 [(0, .ref (ad (0, 3))), (2, .int (zi v2))] [] σ) (v2 : Int) (v3 : Int) (z0 : Int) (z1 : Int) (σ : zS) (h : bk_MM_retime_148 Q J77 v2 v3 z0 z1 σ) : zW E (zOK D A (zst E) g ad) 0 0 148 [(0, .ref (ad (0, 3))), (2, .int (zi v2)), (3, .int (zi v3))] [.int (zi z0), .int (zi z1)] σ := by
  unfold bk_MM_retime_148 at h
  refine z_iadd C (pc := 148) d_MM_retime_148 ?_
  refine zNi h (fun y14 ey14 h => ?_)
  refine z_istore (L' := [(4, .int (zi y14)), (0, .ref (ad (0, 3))), (2, .int (zi v2)), (3, .int (zi v3))]) C (pc := 149) d_MM_retime_149 (by decide) rfl ?_
  refine z_aload_n C (pc := 151) d_MM_retime_151 1 rfl ?_
  refine m_getA C 38 (by decide) rfl wd_742 (pc := 152) d_MM_retime_152 ?_
  refine z_iload_n C (pc := 155) d_MM_retime_155 2 rfl ?_
  refine z_iload C (pc := 156) d_MM_retime_156 0 rfl ?_
  refine z_iload_n C (pc := 158) d_MM_retime_158 3 rfl ?_
  refine z_isub C (pc := 159) d_MM_retime_159 ?_
  obtain ⟨hc15, hc16, h⟩ := h
  refine m_iast C 38 138 196 rfl rfl (by decide) hc15 hc16 (pc := 160) d_MM_retime_160 ?_
  refine zN h (fun σ17 eσ17 h => ?_)
  refine z_aload_n C (pc := 161) d_MM_retime_161 1 rfl ?_
  refine m_getA C 39 (by decide) rfl wd_743 (pc := 162) d_MM_retime_162 ?_
  refine z_iload_n C (pc := 165) d_MM_retime_165 2 rfl ?_
  refine z_lconst (y := 0) C (pc := 166) d_MM_retime_166 (by decide) ?_
  refine m_last C 39 139 196 rfl rfl (by decide) hc15 hc16 (pc := 167) d_MM_retime_167 ?_
  refine zN h (fun σ20 eσ20 h => ?_)
  refine z_iload_n C (pc := 168) d_MM_retime_168 3 rfl ?_
  refine z_istore (L' := [(5, .int (zi v3)), (4, .int (zi y14)), (0, .ref (ad (0, 3))), (2, .int (zi v2)), (3, .int (zi v3))]) C (pc := 169) d_MM_retime_169 (by decide) rfl ?_
  refine z_sub [2, 3, 1, 0] rfl ?_
  obtain ⟨n36, h⟩ := h
  exact wk_MM_retime_171 C R hJ77 n36 _ _ _ _ h
set_option maxHeartbeats 4000000 in
set_option maxRecDepth 100000 in
theorem wk_MM_retime_112 {E : zE} {D : va_G} {g : zG} {A : Nat → Prop} {ad : zA} {Q : zS → Prop} {J77 : Int → zS → Prop} (C : zX E b_MM_retime R_MM D g { frames := 3, cells := 0, slots := 0, locals := 75 } 6) (R : zRt E none (zQv D g ad Q A) 0 0 A) (hJ77 : ∀ (v2 : Int) (σ : zS), J77 v2 σ → zW E (zOK D A (zst E) g ad) 0 0 77 [(0, .ref (ad (0, 3))), (2, .int (zi v2))] [] σ) (v2 : Int) (z0 : Int) (σ : zS) (h : bk_MM_retime_112 Q J77 v2 z0 σ) : zW E (zOK D A (zst E) g ad) 0 0 112 [(0, .ref (ad (0, 3))), (2, .int (zi v2))] [.int (zi z0)] σ := by
  unfold bk_MM_retime_112 at h
  refine z_istore_n (L' := [(3, .int (zi z0)), (0, .ref (ad (0, 3))), (2, .int (zi v2))]) C (pc := 112) d_MM_retime_112 (by decide) rfl ?_
  refine z_aload_n C (pc := 113) d_MM_retime_113 1 rfl ?_
  refine m_getA C 36 (by decide) rfl wd_740 (pc := 114) d_MM_retime_114 ?_
  refine z_iload_n C (pc := 117) d_MM_retime_117 2 rfl ?_
  obtain ⟨hc7, hc8, h⟩ := h
  refine m_iald C 36 136 196 rfl rfl (by decide) hc7 hc8 (pc := 118) d_MM_retime_118 ?_
  refine z_aload_n C (pc := 119) d_MM_retime_119 1 rfl ?_
  refine m_getA C 31 (by decide) rfl wd_735 (pc := 120) d_MM_retime_120 ?_
  refine z_aload_n C (pc := 123) d_MM_retime_123 1 rfl ?_
  refine m_getA C 35 (by decide) rfl wd_739 (pc := 124) d_MM_retime_124 ?_
  refine z_iload_n C (pc := 127) d_MM_retime_127 2 rfl ?_
  refine m_iald C 35 135 196 rfl rfl (by decide) hc7 hc8 (pc := 128) d_MM_retime_128 ?_
  obtain ⟨hc11, hc12, h⟩ := h
  refine m_zald C 31 131 48 rfl rfl (by decide) hc11 hc12 (pc := 129) d_MM_retime_129 ?_
  obtain ⟨hc13, h⟩ := h
  refine z_if_eq (tgt := 147) C (pc := 130) d_MM_retime_130 (by decide) hc13 h (fun h => ?_) (fun h => ?_)
  · refine z_iconst C (pc := 147) d_MM_retime_147 ?_
    refine z_sub [1, 2, 0] rfl ?_
    exact wk_MM_retime_148 C R hJ77 _ _ _ _ _ h
  · refine z_aload_n C (pc := 133) d_MM_retime_133 1 rfl ?_
    refine m_getA C 43 (by decide) rfl wd_747 (pc := 134) d_MM_retime_134 ?_
    refine z_aload_n C (pc := 137) d_MM_retime_137 1 rfl ?_
    refine m_getA C 35 (by decide) rfl wd_739 (pc := 138) d_MM_retime_138 ?_
    refine z_iload_n C (pc := 141) d_MM_retime_141 2 rfl ?_
    refine m_iald C 35 135 196 rfl rfl (by decide) hc7 hc8 (pc := 142) d_MM_retime_142 ?_
    refine m_iald C 43 143 48 rfl rfl (by decide) hc11 hc12 (pc := 143) d_MM_retime_143 ?_
    refine z_goto (tgt := 148) C (pc := 144) d_MM_retime_144 (by decide) ?_
    refine z_sub [1, 2, 0] rfl ?_
    exact wk_MM_retime_148 C R hJ77 _ _ _ _ _ h
set_option maxHeartbeats 4000000 in
set_option maxRecDepth 100000 in
theorem wk_MM_retime_77 {E : zE} {D : va_G} {g : zG} {A : Nat → Prop} {ad : zA} {Q : zS → Prop} (C : zX E b_MM_retime R_MM D g { frames := 3, cells := 0, slots := 0, locals := 75 } 6) (R : zRt E none (zQv D g ad Q A) 0 0 A) : ∀ (n : Nat) (v2 : Int) (σ : zS), lp_MM_retime_77 Q n v2 σ → zW E (zOK D A (zst E) g ad) 0 0 77 [(0, .ref (ad (0, 3))), (2, .int (zi v2))] [] σ := by
  intro n
  induction n with
  | zero =>
    intro v2 σ h
    exact h.elim
  | succ n ih =>
    intro v2 σ h
    refine z_iload_n C (pc := 77) d_MM_retime_77 1 rfl ?_
    refine z_sipush C (pc := 78) d_MM_retime_78 (by decide) ?_
    obtain ⟨hc3, h⟩ := h
    refine z_icmp_ge (tgt := 225) C (pc := 81) d_MM_retime_81 (by decide) hc3 (by decide) h (fun h => ?_) (fun h => ?_)
    · exact z_vret C R (pc := 225) d_MM_retime_225 h
    · refine z_aload_n C (pc := 84) d_MM_retime_84 0 rfl ?_
      refine m_getA C 35 (by decide) rfl wd_739 (pc := 85) d_MM_retime_85 ?_
      refine z_iload_n C (pc := 88) d_MM_retime_88 1 rfl ?_
      obtain ⟨hc4, hc5, h⟩ := h
      refine m_iald C 35 135 196 rfl rfl (by decide) hc4 hc5 (pc := 89) d_MM_retime_89 ?_
      obtain ⟨hc6, h⟩ := h
      refine z_if_lt (tgt := 219) C (pc := 90) d_MM_retime_90 (by decide) hc6 h (fun h => ?_) (fun h => ?_)
      · refine z_iinc (L' := [(2, .int (zi (v2 + 1))), (0, .ref (ad (0, 3)))]) C (pc := 219) d_MM_retime_219 1 rfl (by decide) rfl ?_
        refine z_goto (tgt := 77) C (pc := 222) d_MM_retime_222 (by decide) ?_
        refine z_sub [1, 0] rfl ?_
        exact ih _ _ h
      · refine z_iload_n C (pc := 93) d_MM_retime_93 1 rfl ?_
        refine z_sipush C (pc := 94) d_MM_retime_94 (by decide) ?_
        refine z_icmp_ge (tgt := 111) C (pc := 97) d_MM_retime_97 (by decide) hc3 (by decide) h (fun h => ?_) (fun h => ?_)
        · refine z_iconst C (pc := 111) d_MM_retime_111 ?_
          exact wk_MM_retime_112 C R ih _ _ _ h
        · refine z_aload_n C (pc := 100) d_MM_retime_100 0 rfl ?_
          refine m_getA C 43 (by decide) rfl wd_747 (pc := 101) d_MM_retime_101 ?_
          refine z_iload_n C (pc := 104) d_MM_retime_104 1 rfl ?_
          refine z_iconst C (pc := 105) d_MM_retime_105 ?_
          obtain ⟨hc41, h⟩ := h
          refine z_idiv C (pc := 106) d_MM_retime_106 hc3 hc41 (by decide) (by decide) ?_
          obtain ⟨hc42, hc43, h⟩ := h
          refine m_iald C 43 143 48 rfl rfl (by decide) hc42 hc43 (pc := 107) d_MM_retime_107 ?_
          refine z_goto (tgt := 112) C (pc := 108) d_MM_retime_108 (by decide) ?_
          exact wk_MM_retime_112 C R ih _ _ _ h
set_option maxHeartbeats 4000000 in
set_option maxRecDepth 100000 in
theorem wk_MM_retime_65 {E : zE} {D : va_G} {g : zG} {A : Nat → Prop} {ad : zA} {Q : zS → Prop} {J23 : Int → zS → Prop} {J31 : Int → Int → zS → Prop} (C : zX E b_MM_retime R_MM D g { frames := 3, cells := 0, slots := 0, locals := 75 } 6) (R : zRt E none (zQv D g ad Q A) 0 0 A) (hJ23 : ∀ (v1 : Int) (σ : zS), J23 v1 σ → zW E (zOK D A (zst E) g ad) 0 0 23 [(0, .ref (ad (0, 3))), (1, .int (zi v1))] [] σ) (hJ31 : ∀ (v1 : Int) (v2 : Int) (σ : zS), J31 v1 v2 σ → zW E (zOK D A (zst E) g ad) 0 0 31 [(0, .ref (ad (0, 3))), (1, .int (zi v1)), (2, .int (zi v2))] [] σ) (v2 : Int) (z0 : Int) (σ : zS) (h : bk_MM_retime_65 Q J23 J31 v2 z0 σ) : zW E (zOK D A (zst E) g ad) 0 0 65 [(0, .ref (ad (0, 3))), (2, .int (zi v2))] [.int (zi z0)] σ := by
  unfold bk_MM_retime_65 at h
  refine z_istore_n (L' := [(1, .int (zi z0)), (0, .ref (ad (0, 3))), (2, .int (zi v2))]) C (pc := 65) d_MM_retime_65 (by decide) rfl ?_
  refine z_iinc (L' := [(2, .int (zi (v2 + 1))), (1, .int (zi z0)), (0, .ref (ad (0, 3)))]) C (pc := 66) d_MM_retime_66 2 rfl (by decide) rfl ?_
  refine z_goto (tgt := 31) C (pc := 69) d_MM_retime_69 (by decide) ?_
  refine z_sub [2, 1, 0] rfl ?_
  exact hJ31 _ _ _ h
set_option maxHeartbeats 4000000 in
set_option maxRecDepth 100000 in
theorem wk_MM_retime_60 {E : zE} {D : va_G} {g : zG} {A : Nat → Prop} {ad : zA} {Q : zS → Prop} {J23 : Int → zS → Prop} {J31 : Int → Int → zS → Prop} (C : zX E b_MM_retime R_MM D g { frames := 3, cells := 0, slots := 0, locals := 75 } 6) (R : zRt E none (zQv D g ad Q A) 0 0 A) (hJ23 : ∀ (v1 : Int) (σ : zS), J23 v1 σ → zW E (zOK D A (zst E) g ad) 0 0 23 [(0, .ref (ad (0, 3))), (1, .int (zi v1))] [] σ) (hJ31 : ∀ (v1 : Int) (v2 : Int) (σ : zS), J31 v1 v2 σ → zW E (zOK D A (zst E) g ad) 0 0 31 [(0, .ref (ad (0, 3))), (1, .int (zi v1)), (2, .int (zi v2))] [] σ) (v2 : Int) (σ : zS) (h : bk_MM_retime_60 Q J23 J31 v2 σ) : zW E (zOK D A (zst E) g ad) 0 0 60 [(0, .ref (ad (0, 3))), (2, .int (zi v2))] [] σ := by
  unfold bk_MM_retime_60 at h
  refine z_iconst C (pc := 60) d_MM_retime_60 ?_
  refine z_goto (tgt := 65) C (pc := 61) d_MM_retime_61 (by decide) ?_
  exact wk_MM_retime_65 C R hJ23 hJ31 _ _ _ h
set_option maxHeartbeats 4000000 in
set_option maxRecDepth 100000 in
theorem wk_MM_retime_56 {E : zE} {D : va_G} {g : zG} {A : Nat → Prop} {ad : zA} {Q : zS → Prop} {J23 : Int → zS → Prop} {J31 : Int → Int → zS → Prop} (C : zX E b_MM_retime R_MM D g { frames := 3, cells := 0, slots := 0, locals := 75 } 6) (R : zRt E none (zQv D g ad Q A) 0 0 A) (hJ23 : ∀ (v1 : Int) (σ : zS), J23 v1 σ → zW E (zOK D A (zst E) g ad) 0 0 23 [(0, .ref (ad (0, 3))), (1, .int (zi v1))] [] σ) (hJ31 : ∀ (v1 : Int) (v2 : Int) (σ : zS), J31 v1 v2 σ → zW E (zOK D A (zst E) g ad) 0 0 31 [(0, .ref (ad (0, 3))), (1, .int (zi v1)), (2, .int (zi v2))] [] σ) (v1 : Int) (v2 : Int) (σ : zS) (h : bk_MM_retime_56 Q J23 J31 v1 v2 σ) : zW E (zOK D A (zst E) g ad) 0 0 56 [(0, .ref (ad (0, 3))), (1, .int (zi v1)), (2, .int (zi v2))] [] σ := by
  unfold bk_MM_retime_56 at h
  refine z_iload_n C (pc := 56) d_MM_retime_56 1 rfl ?_
  obtain ⟨hc50, h⟩ := h
  refine z_if_eq (tgt := 64) C (pc := 57) d_MM_retime_57 (by decide) hc50 h (fun h => ?_) (fun h => ?_)
  · refine z_iconst C (pc := 64) d_MM_retime_64 ?_
    refine z_sub [0, 2] rfl ?_
    exact wk_MM_retime_65 C R hJ23 hJ31 _ _ _ h
  · refine z_sub [0, 2] rfl ?_
    exact wk_MM_retime_60 C R hJ23 hJ31 _ _ h
set_option maxHeartbeats 4000000 in
set_option maxRecDepth 100000 in
theorem wk_MM_retime_31 {E : zE} {D : va_G} {g : zG} {A : Nat → Prop} {ad : zA} {Q : zS → Prop} {J23 : Int → zS → Prop} (C : zX E b_MM_retime R_MM D g { frames := 3, cells := 0, slots := 0, locals := 75 } 6) (R : zRt E none (zQv D g ad Q A) 0 0 A) (hJ23 : ∀ (v1 : Int) (σ : zS), J23 v1 σ → zW E (zOK D A (zst E) g ad) 0 0 23 [(0, .ref (ad (0, 3))), (1, .int (zi v1))] [] σ) : ∀ (n : Nat) (v1 : Int) (v2 : Int) (σ : zS), lp_MM_retime_31 Q J23 n v1 v2 σ → zW E (zOK D A (zst E) g ad) 0 0 31 [(0, .ref (ad (0, 3))), (1, .int (zi v1)), (2, .int (zi v2))] [] σ := by
  intro n
  induction n with
  | zero =>
    intro v1 v2 σ h
    exact h.elim
  | succ n ih =>
    intro v1 v2 σ h
    refine z_iload_n C (pc := 31) d_MM_retime_31 2 rfl ?_
    refine z_aload_n C (pc := 32) d_MM_retime_32 0 rfl ?_
    refine m_getI C 13 113 rfl (by decide) rfl wd_717 (pc := 33) d_MM_retime_33 ?_
    obtain ⟨hc45, hc46, h⟩ := h
    refine z_icmp_ge (tgt := 72) C (pc := 36) d_MM_retime_36 (by decide) hc45 hc46 h (fun h => ?_) (fun h => ?_)
    · refine z_goto (tgt := 23) C (pc := 72) d_MM_retime_72 (by decide) ?_
      refine z_sub [0, 1] rfl ?_
      exact hJ23 _ _ h
    · refine z_aload_n C (pc := 39) d_MM_retime_39 0 rfl ?_
      refine m_getA C 31 (by decide) rfl wd_735 (pc := 40) d_MM_retime_40 ?_
      refine z_iload_n C (pc := 43) d_MM_retime_43 2 rfl ?_
      obtain ⟨hc47, hc48, h⟩ := h
      refine m_zald C 31 131 48 rfl rfl (by decide) hc47 hc48 (pc := 44) d_MM_retime_44 ?_
      obtain ⟨hc49, h⟩ := h
      refine z_if_eq (tgt := 56) C (pc := 45) d_MM_retime_45 (by decide) hc49 h (fun h => ?_) (fun h => ?_)
      · exact wk_MM_retime_56 C R hJ23 ih _ _ _ h
      · refine z_aload_n C (pc := 48) d_MM_retime_48 0 rfl ?_
        refine z_iload_n C (pc := 49) d_MM_retime_49 2 rfl ?_
        refine m_calli (As := [.int (zi v2)]) C fy_MM_give rfl wd_1022 (pc := 50) d_MM_retime_50 ⟨rfl, rfl, Nat.le_of_ble_eq_true rfl, Nat.le_of_ble_eq_true rfl⟩ rfl rfl (Nat.le_of_ble_eq_true rfl) h (c_MM_give (zln E) D g ad _ _ _) (fun r52 σ51 h => ?_)
        obtain ⟨hc53, h⟩ := h
        refine z_if_ne (tgt := 60) C (pc := 53) d_MM_retime_53 (by decide) hc53 h (fun h => ?_) (fun h => ?_)
        · refine z_sub [0, 2] rfl ?_
          exact wk_MM_retime_60 C R hJ23 ih _ _ h
        · exact wk_MM_retime_56 C R hJ23 ih _ _ _ h
set_option maxHeartbeats 4000000 in
set_option maxRecDepth 100000 in
theorem wk_MM_retime_23 {E : zE} {D : va_G} {g : zG} {A : Nat → Prop} {ad : zA} {Q : zS → Prop} (C : zX E b_MM_retime R_MM D g { frames := 3, cells := 0, slots := 0, locals := 75 } 6) (R : zRt E none (zQv D g ad Q A) 0 0 A) : ∀ (n : Nat) (v1 : Int) (σ : zS), lp_MM_retime_23 Q n v1 σ → zW E (zOK D A (zst E) g ad) 0 0 23 [(0, .ref (ad (0, 3))), (1, .int (zi v1))] [] σ := by
  intro n
  induction n with
  | zero =>
    intro v1 σ h
    exact h.elim
  | succ n ih =>
    intro v1 σ h
    refine z_iload_n C (pc := 23) d_MM_retime_23 1 rfl ?_
    obtain ⟨hc2, h⟩ := h
    refine z_if_eq (tgt := 75) C (pc := 24) d_MM_retime_24 (by decide) hc2 h (fun h => ?_) (fun h => ?_)
    · refine z_iconst C (pc := 75) d_MM_retime_75 ?_
      refine z_istore_n (L' := [(2, .int (zi 0)), (0, .ref (ad (0, 3))), (1, .int (zi v1))]) C (pc := 76) d_MM_retime_76 (by decide) rfl ?_
      refine z_sub [1, 0] rfl ?_
      obtain ⟨n44, h⟩ := h
      exact wk_MM_retime_77 C R n44 _ _ h
    · refine z_iconst C (pc := 27) d_MM_retime_27 ?_
      refine z_istore_n (L' := [(1, .int (zi 0)), (0, .ref (ad (0, 3)))]) C (pc := 28) d_MM_retime_28 (by decide) rfl ?_
      refine z_iconst C (pc := 29) d_MM_retime_29 ?_
      refine z_istore_n (L' := [(2, .int (zi 0)), (1, .int (zi 0)), (0, .ref (ad (0, 3)))]) C (pc := 30) d_MM_retime_30 (by decide) rfl ?_
      refine z_sub [2, 1, 0] rfl ?_
      obtain ⟨n54, h⟩ := h
      exact wk_MM_retime_31 C R ih n54 _ _ _ h
set_option maxHeartbeats 4000000 in
set_option maxRecDepth 100000 in
theorem wk_MM_retime_2 {E : zE} {D : va_G} {g : zG} {A : Nat → Prop} {ad : zA} {Q : zS → Prop} (C : zX E b_MM_retime R_MM D g { frames := 3, cells := 0, slots := 0, locals := 75 } 6) (R : zRt E none (zQv D g ad Q A) 0 0 A) : ∀ (n : Nat) (v1 : Int) (σ : zS), lp_MM_retime_2 Q n v1 σ → zW E (zOK D A (zst E) g ad) 0 0 2 [(0, .ref (ad (0, 3))), (1, .int (zi v1))] [] σ := by
  intro n
  induction n with
  | zero =>
    intro v1 σ h
    exact h.elim
  | succ n ih =>
    intro v1 σ h
    refine z_iload_n C (pc := 2) d_MM_retime_2 1 rfl ?_
    refine z_bipush C (pc := 3) d_MM_retime_3 (by decide) ?_
    obtain ⟨hc1, h⟩ := h
    refine z_icmp_ge (tgt := 21) C (pc := 5) d_MM_retime_5 (by decide) hc1 (by decide) h (fun h => ?_) (fun h => ?_)
    · refine z_iconst C (pc := 21) d_MM_retime_21 ?_
      refine z_istore_n (L' := [(1, .int (zi 1)), (0, .ref (ad (0, 3)))]) C (pc := 22) d_MM_retime_22 (by decide) rfl ?_
      refine z_sub [1, 0] rfl ?_
      obtain ⟨n55, h⟩ := h
      exact wk_MM_retime_23 C R n55 _ _ h
    · refine z_aload_n C (pc := 8) d_MM_retime_8 0 rfl ?_
      refine m_getA C 47 (by decide) rfl wd_751 (pc := 9) d_MM_retime_9 ?_
      refine z_iload_n C (pc := 12) d_MM_retime_12 1 rfl ?_
      refine z_iconst C (pc := 13) d_MM_retime_13 ?_
      obtain ⟨hc56, hc57, h⟩ := h
      refine m_iast C 47 147 48 rfl rfl (by decide) hc56 hc57 (pc := 14) d_MM_retime_14 ?_
      refine zN h (fun σ58 eσ58 h => ?_)
      refine z_iinc (L' := [(1, .int (zi (v1 + 1))), (0, .ref (ad (0, 3)))]) C (pc := 15) d_MM_retime_15 1 rfl (by decide) rfl ?_
      refine z_goto (tgt := 2) C (pc := 18) d_MM_retime_18 (by decide) ?_
      refine z_sub [1, 0] rfl ?_
      exact ih _ _ h
set_option maxHeartbeats 4000000 in
set_option maxRecDepth 100000 in
theorem c_MM_retime (l : Launch) (D : va_G) (g : zG) (ad : zA) (Q : zS → Prop) (σ : zS) (h : wp_MM_retime Q σ) : zMv l y_MM_retime b_MM_retime 6 none { frames := 3, cells := 0, slots := 0, locals := 75 } D g ad σ [.ref (ad (0, 3))] Q := by
  unfold wp_MM_retime at h
  refine zM_of (by decide) (Nat.le_of_ble_eq_true rfl) (fun E C R hl => ?_)
  have C : zX E b_MM_retime R_MM D g { frames := 3, cells := 0, slots := 0, locals := 75 } 6 := C
  refine z_sub (L' := [(0, .ref (ad (0, 3)))]) [0] rfl ?_
  refine z_iconst C (pc := 0) d_MM_retime_0 ?_
  refine z_istore_n (L' := [(1, .int (zi 0)), (0, .ref (ad (0, 3)))]) C (pc := 1) d_MM_retime_1 (by decide) rfl ?_
  refine z_sub [1, 0] rfl ?_
  obtain ⟨n59, h⟩ := h
  exact wk_MM_retime_2 C R n59 _ _ h
theorem d_MM_undriven_0 : decode b_MM_undriven 0 = .ok (.iconst 0, 1) := by decide +kernel
theorem d_MM_undriven_1 : decode b_MM_undriven 1 = .ok (.istore_n 1, 1) := by decide +kernel
theorem d_MM_undriven_2 : decode b_MM_undriven 2 = .ok (.iload_n 1, 1) := by decide +kernel
theorem d_MM_undriven_3 : decode b_MM_undriven 3 = .ok (.aload_n 0, 1) := by decide +kernel
theorem d_MM_undriven_4 : decode b_MM_undriven 4 = .ok (.getfield 168, 3) := by decide +kernel
theorem d_MM_undriven_7 : decode b_MM_undriven 7 = .ok (.if_icmp .ge 30, 3) := by decide +kernel
theorem d_MM_undriven_10 : decode b_MM_undriven 10 = .ok (.aload_n 0, 1) := by decide +kernel
theorem d_MM_undriven_11 : decode b_MM_undriven 11 = .ok (.getfield 7, 3) := by decide +kernel
theorem d_MM_undriven_14 : decode b_MM_undriven 14 = .ok (.iload_n 1, 1) := by decide +kernel
theorem d_MM_undriven_15 : decode b_MM_undriven 15 = .ok (.iaload, 1) := by decide +kernel
theorem d_MM_undriven_16 : decode b_MM_undriven 16 = .ok (.iconst 1, 1) := by decide +kernel
theorem d_MM_undriven_17 : decode b_MM_undriven 17 = .ok (.if_icmp .ne 14, 3) := by decide +kernel
theorem d_MM_undriven_20 : decode b_MM_undriven 20 = .ok (.aload_n 0, 1) := by decide +kernel
theorem d_MM_undriven_21 : decode b_MM_undriven 21 = .ok (.getfield 22, 3) := by decide +kernel
theorem d_MM_undriven_24 : decode b_MM_undriven 24 = .ok (.iload_n 1, 1) := by decide +kernel
theorem d_MM_undriven_25 : decode b_MM_undriven 25 = .ok (.iaload, 1) := by decide +kernel
theorem d_MM_undriven_26 : decode b_MM_undriven 26 = .ok (.ifCond .ge 5, 3) := by decide +kernel
theorem d_MM_undriven_29 : decode b_MM_undriven 29 = .ok (.iconst 1, 1) := by decide +kernel
theorem d_MM_undriven_30 : decode b_MM_undriven 30 = .ok (.ireturn, 1) := by decide +kernel
theorem d_MM_undriven_31 : decode b_MM_undriven 31 = .ok (.iinc 1 1, 3) := by decide +kernel
theorem d_MM_undriven_34 : decode b_MM_undriven 34 = .ok (.goto (-32), 3) := by decide +kernel
theorem d_MM_undriven_37 : decode b_MM_undriven 37 = .ok (.iconst 0, 1) := by decide +kernel
theorem d_MM_undriven_38 : decode b_MM_undriven 38 = .ok (.ireturn, 1) := by decide +kernel
def lp_MM_undriven_2 (Q : Int → zS → Prop) : Nat → Int → zS → Prop
  | 0 => fun _ _ => False
  | n + 1 => fun v1 σ =>
    zc v1 ∧ zc (σ 100 0) ∧ ((σ 100 0 ≤ v1 →
      Q 0 σ) ∧
     (¬ σ 100 0 ≤ v1 →
      0 ≤ v1 ∧ v1 < 40 ∧ 
      zc (σ 101 v1) ∧ ((σ 101 v1 = 1 →
        zc (σ 105 v1) ∧ ((0 ≤ σ 105 v1 →
          lp_MM_undriven_2 Q n (v1 + 1) σ) ∧
         (¬ 0 ≤ σ 105 v1 →
          Q 1 σ))) ∧
       (¬ σ 101 v1 = 1 →
        lp_MM_undriven_2 Q n (v1 + 1) σ))))
def wp_MM_undriven (Q : Int → zS → Prop) (σ : zS) : Prop :=
  ∃ u2, lp_MM_undriven_2 Q u2 0 σ
set_option maxHeartbeats 4000000 in
set_option maxRecDepth 100000 in
theorem wk_MM_undriven_2 {E : zE} {D : va_G} {g : zG} {A : Nat → Prop} {ad : zA} {Q : Int → zS → Prop} (C : zX E b_MM_undriven R_MM D g { frames := 0, cells := 0, slots := 0, locals := 0 } 2) (R : zRt E (some .boolean) (zQi D g ad Q A) 0 0 A) : ∀ (n : Nat) (v1 : Int) (σ : zS), lp_MM_undriven_2 Q n v1 σ → zW E (zOK D A (zst E) g ad) 0 0 2 [(0, .ref (ad (0, 3))), (1, .int (zi v1))] [] σ := by
  intro n
  induction n with
  | zero =>
    intro v1 σ h
    exact h.elim
  | succ n ih =>
    intro v1 σ h
    refine z_iload_n C (pc := 2) d_MM_undriven_2 1 rfl ?_
    refine z_aload_n C (pc := 3) d_MM_undriven_3 0 rfl ?_
    refine m_getI C 0 100 rfl (by decide) rfl wd_704 (pc := 4) d_MM_undriven_4 ?_
    obtain ⟨hc1, hc2, h⟩ := h
    refine z_icmp_ge (tgt := 37) C (pc := 7) d_MM_undriven_7 (by decide) hc1 hc2 h (fun h => ?_) (fun h => ?_)
    · refine z_iconst C (pc := 37) d_MM_undriven_37 ?_
      exact z_zret C R (pc := 38) d_MM_undriven_38 (by decide) h
    · refine z_aload_n C (pc := 10) d_MM_undriven_10 0 rfl ?_
      refine m_getA C 1 (by decide) rfl wd_705 (pc := 11) d_MM_undriven_11 ?_
      refine z_iload_n C (pc := 14) d_MM_undriven_14 1 rfl ?_
      obtain ⟨hc3, hc4, h⟩ := h
      refine m_iald C 1 101 40 rfl rfl (by decide) hc3 hc4 (pc := 15) d_MM_undriven_15 ?_
      refine z_iconst C (pc := 16) d_MM_undriven_16 ?_
      obtain ⟨hc5, h⟩ := h
      refine z_icmp_ne (tgt := 31) C (pc := 17) d_MM_undriven_17 (by decide) hc5 (by decide) h (fun h => ?_) (fun h => ?_)
      · refine z_iinc (L' := [(1, .int (zi (v1 + 1))), (0, .ref (ad (0, 3)))]) C (pc := 31) d_MM_undriven_31 1 rfl (by decide) rfl ?_
        refine z_goto (tgt := 2) C (pc := 34) d_MM_undriven_34 (by decide) ?_
        refine z_sub [1, 0] rfl ?_
        exact ih _ _ h
      · refine z_aload_n C (pc := 20) d_MM_undriven_20 0 rfl ?_
        refine m_getA C 5 (by decide) rfl wd_709 (pc := 21) d_MM_undriven_21 ?_
        refine z_iload_n C (pc := 24) d_MM_undriven_24 1 rfl ?_
        refine m_iald C 5 105 40 rfl rfl (by decide) hc3 hc4 (pc := 25) d_MM_undriven_25 ?_
        obtain ⟨hc8, h⟩ := h
        refine z_if_ge (tgt := 31) C (pc := 26) d_MM_undriven_26 (by decide) hc8 h (fun h => ?_) (fun h => ?_)
        · refine z_iinc (L' := [(1, .int (zi (v1 + 1))), (0, .ref (ad (0, 3)))]) C (pc := 31) d_MM_undriven_31 1 rfl (by decide) rfl ?_
          refine z_goto (tgt := 2) C (pc := 34) d_MM_undriven_34 (by decide) ?_
          refine z_sub [1, 0] rfl ?_
          exact ih _ _ h
        · refine z_iconst C (pc := 29) d_MM_undriven_29 ?_
          exact z_zret C R (pc := 30) d_MM_undriven_30 (by decide) h
set_option maxHeartbeats 4000000 in
set_option maxRecDepth 100000 in
theorem c_MM_undriven (l : Launch) (D : va_G) (g : zG) (ad : zA) (Q : Int → zS → Prop) (σ : zS) (h : wp_MM_undriven Q σ) : zMi l y_MM_undriven b_MM_undriven 2 (some .boolean) { frames := 0, cells := 0, slots := 0, locals := 0 } D g ad σ [.ref (ad (0, 3))] Q := by
  unfold wp_MM_undriven at h
  refine zM_of (by decide) (Nat.le_of_ble_eq_true rfl) (fun E C R hl => ?_)
  have C : zX E b_MM_undriven R_MM D g { frames := 0, cells := 0, slots := 0, locals := 0 } 2 := C
  refine z_sub (L' := [(0, .ref (ad (0, 3)))]) [0] rfl ?_
  refine z_iconst C (pc := 0) d_MM_undriven_0 ?_
  refine z_istore_n (L' := [(1, .int (zi 0)), (0, .ref (ad (0, 3)))]) C (pc := 1) d_MM_undriven_1 (by decide) rfl ?_
  refine z_sub [1, 0] rfl ?_
  obtain ⟨n9, h⟩ := h
  exact wk_MM_undriven_2 C R n9 _ _ h
theorem d_MM_ring_0 : decode b_MM_ring 0 = .ok (.iconst 0, 1) := by decide +kernel
theorem d_MM_ring_1 : decode b_MM_ring 1 = .ok (.istore_n 1, 1) := by decide +kernel
theorem d_MM_ring_2 : decode b_MM_ring 2 = .ok (.iload_n 1, 1) := by decide +kernel
theorem d_MM_ring_3 : decode b_MM_ring 3 = .ok (.aload_n 0, 1) := by decide +kernel
theorem d_MM_ring_4 : decode b_MM_ring 4 = .ok (.getfield 168, 3) := by decide +kernel
theorem d_MM_ring_7 : decode b_MM_ring 7 = .ok (.if_icmp .ge 69, 3) := by decide +kernel
theorem d_MM_ring_10 : decode b_MM_ring 10 = .ok (.aload_n 0, 1) := by decide +kernel
theorem d_MM_ring_11 : decode b_MM_ring 11 = .ok (.getfield 13, 3) := by decide +kernel
theorem d_MM_ring_14 : decode b_MM_ring 14 = .ok (.iload_n 1, 1) := by decide +kernel
theorem d_MM_ring_15 : decode b_MM_ring 15 = .ok (.iaload, 1) := by decide +kernel
theorem d_MM_ring_16 : decode b_MM_ring 16 = .ok (.istore_n 2, 1) := by decide +kernel
theorem d_MM_ring_17 : decode b_MM_ring 17 = .ok (.iconst 0, 1) := by decide +kernel
theorem d_MM_ring_18 : decode b_MM_ring 18 = .ok (.istore_n 3, 1) := by decide +kernel
theorem d_MM_ring_19 : decode b_MM_ring 19 = .ok (.iload_n 3, 1) := by decide +kernel
theorem d_MM_ring_20 : decode b_MM_ring 20 = .ok (.bipush 7, 2) := by decide +kernel
theorem d_MM_ring_22 : decode b_MM_ring 22 = .ok (.if_icmp .ge 36, 3) := by decide +kernel
theorem d_MM_ring_25 : decode b_MM_ring 25 = .ok (.aload_n 0, 1) := by decide +kernel
theorem d_MM_ring_26 : decode b_MM_ring 26 = .ok (.getfield 40, 3) := by decide +kernel
theorem d_MM_ring_29 : decode b_MM_ring 29 = .ok (.iload_n 2, 1) := by decide +kernel
theorem d_MM_ring_30 : decode b_MM_ring 30 = .ok (.iaload, 1) := by decide +kernel
theorem d_MM_ring_31 : decode b_MM_ring 31 = .ok (.iconst 1, 1) := by decide +kernel
theorem d_MM_ring_32 : decode b_MM_ring 32 = .ok (.if_icmp .ne 26, 3) := by decide +kernel
theorem d_MM_ring_35 : decode b_MM_ring 35 = .ok (.aload_n 0, 1) := by decide +kernel
theorem d_MM_ring_36 : decode b_MM_ring 36 = .ok (.getfield 13, 3) := by decide +kernel
theorem d_MM_ring_39 : decode b_MM_ring 39 = .ok (.aload_n 0, 1) := by decide +kernel
theorem d_MM_ring_40 : decode b_MM_ring 40 = .ok (.getfield 22, 3) := by decide +kernel
theorem d_MM_ring_43 : decode b_MM_ring 43 = .ok (.aload_n 0, 1) := by decide +kernel
theorem d_MM_ring_44 : decode b_MM_ring 44 = .ok (.getfield 49, 3) := by decide +kernel
theorem d_MM_ring_47 : decode b_MM_ring 47 = .ok (.iload_n 2, 1) := by decide +kernel
theorem d_MM_ring_48 : decode b_MM_ring 48 = .ok (.iaload, 1) := by decide +kernel
theorem d_MM_ring_49 : decode b_MM_ring 49 = .ok (.iaload, 1) := by decide +kernel
theorem d_MM_ring_50 : decode b_MM_ring 50 = .ok (.iaload, 1) := by decide +kernel
theorem d_MM_ring_51 : decode b_MM_ring 51 = .ok (.istore_n 2, 1) := by decide +kernel
theorem d_MM_ring_52 : decode b_MM_ring 52 = .ok (.iinc 3 1, 3) := by decide +kernel
theorem d_MM_ring_55 : decode b_MM_ring 55 = .ok (.goto (-36), 3) := by decide +kernel
theorem d_MM_ring_58 : decode b_MM_ring 58 = .ok (.aload_n 0, 1) := by decide +kernel
theorem d_MM_ring_59 : decode b_MM_ring 59 = .ok (.getfield 40, 3) := by decide +kernel
theorem d_MM_ring_62 : decode b_MM_ring 62 = .ok (.iload_n 2, 1) := by decide +kernel
theorem d_MM_ring_63 : decode b_MM_ring 63 = .ok (.iaload, 1) := by decide +kernel
theorem d_MM_ring_64 : decode b_MM_ring 64 = .ok (.iconst 1, 1) := by decide +kernel
theorem d_MM_ring_65 : decode b_MM_ring 65 = .ok (.if_icmp .ne 5, 3) := by decide +kernel
theorem d_MM_ring_68 : decode b_MM_ring 68 = .ok (.iconst 1, 1) := by decide +kernel
theorem d_MM_ring_69 : decode b_MM_ring 69 = .ok (.ireturn, 1) := by decide +kernel
theorem d_MM_ring_70 : decode b_MM_ring 70 = .ok (.iinc 1 1, 3) := by decide +kernel
theorem d_MM_ring_73 : decode b_MM_ring 73 = .ok (.goto (-71), 3) := by decide +kernel
theorem d_MM_ring_76 : decode b_MM_ring 76 = .ok (.iconst 0, 1) := by decide +kernel
theorem d_MM_ring_77 : decode b_MM_ring 77 = .ok (.ireturn, 1) := by decide +kernel
def bk_MM_ring_58 (Q : Int → zS → Prop) (J2 : Int → zS → Prop) (v1 : Int) (v2 : Int) (σ : zS) : Prop :=
  0 ≤ v2 ∧ v2 < 48 ∧ 
  zc (σ 114 v2) ∧ ((σ 114 v2 = 1 →
    Q 1 σ) ∧
   (¬ σ 114 v2 = 1 →
    J2 (v1 + 1) σ))
def lp_MM_ring_19 (Q : Int → zS → Prop) (J2 : Int → zS → Prop) : Nat → Int → Int → Int → zS → Prop
  | 0 => fun _ _ _ _ => False
  | n + 1 => fun v1 v2 v3 σ =>
    zc v3 ∧ ((7 ≤ v3 →
      bk_MM_ring_58 Q J2 v1 v2 σ) ∧
     (¬ 7 ≤ v3 →
      0 ≤ v2 ∧ v2 < 48 ∧ 
      zc (σ 114 v2) ∧ ((σ 114 v2 = 1 →
        0 ≤ σ 117 v2 ∧ σ 117 v2 < 40 ∧ 
        0 ≤ σ 105 (σ 117 v2) ∧ σ 105 (σ 117 v2) < 40 ∧ 
        ∀ y19, y19 = σ 102 (σ 105 (σ 117 v2)) →
        lp_MM_ring_19 Q J2 n v1 y19 (v3 + 1) σ) ∧
       (¬ σ 114 v2 = 1 →
        bk_MM_ring_58 Q J2 v1 v2 σ))))
def lp_MM_ring_2 (Q : Int → zS → Prop) : Nat → Int → zS → Prop
  | 0 => fun _ _ => False
  | n + 1 => fun v1 σ =>
    zc v1 ∧ zc (σ 100 0) ∧ ((σ 100 0 ≤ v1 →
      Q 0 σ) ∧
     (¬ σ 100 0 ≤ v1 →
      0 ≤ v1 ∧ v1 < 40 ∧ 
      ∀ y5, y5 = σ 102 v1 →
      ∃ u19, lp_MM_ring_19 Q (lp_MM_ring_2 Q n) u19 v1 y5 0 σ))
def wp_MM_ring (Q : Int → zS → Prop) (σ : zS) : Prop :=
  ∃ u2, lp_MM_ring_2 Q u2 0 σ
set_option maxHeartbeats 4000000 in
set_option maxRecDepth 100000 in
theorem wk_MM_ring_58 {E : zE} {D : va_G} {g : zG} {A : Nat → Prop} {ad : zA} {Q : Int → zS → Prop} {J2 : Int → zS → Prop} (C : zX E b_MM_ring R_MM D g { frames := 0, cells := 0, slots := 0, locals := 0 } 4) (R : zRt E (some .boolean) (zQi D g ad Q A) 0 0 A) (hJ2 : ∀ (v1 : Int) (σ : zS), J2 v1 σ → zW E (zOK D A (zst E) g ad) 0 0 2 [(0, .ref (ad (0, 3))), (1, .int (zi v1))] [] σ) (v1 : Int) (v2 : Int) (σ : zS) (h : bk_MM_ring_58 Q J2 v1 v2 σ) : zW E (zOK D A (zst E) g ad) 0 0 58 [(0, .ref (ad (0, 3))), (1, .int (zi v1)), (2, .int (zi v2))] [] σ := by
  unfold bk_MM_ring_58 at h
  refine z_aload_n C (pc := 58) d_MM_ring_58 0 rfl ?_
  refine m_getA C 14 (by decide) rfl wd_718 (pc := 59) d_MM_ring_59 ?_
  refine z_iload_n C (pc := 62) d_MM_ring_62 2 rfl ?_
  obtain ⟨hc7, hc8, h⟩ := h
  refine m_iald C 14 114 48 rfl rfl (by decide) hc7 hc8 (pc := 63) d_MM_ring_63 ?_
  refine z_iconst C (pc := 64) d_MM_ring_64 ?_
  obtain ⟨hc9, h⟩ := h
  refine z_icmp_ne (tgt := 70) C (pc := 65) d_MM_ring_65 (by decide) hc9 (by decide) h (fun h => ?_) (fun h => ?_)
  · refine z_iinc (L' := [(1, .int (zi (v1 + 1))), (0, .ref (ad (0, 3))), (2, .int (zi v2))]) C (pc := 70) d_MM_ring_70 1 rfl (by decide) rfl ?_
    refine z_goto (tgt := 2) C (pc := 73) d_MM_ring_73 (by decide) ?_
    refine z_sub [1, 0] rfl ?_
    exact hJ2 _ _ h
  · refine z_iconst C (pc := 68) d_MM_ring_68 ?_
    exact z_zret C R (pc := 69) d_MM_ring_69 (by decide) h
set_option maxHeartbeats 4000000 in
set_option maxRecDepth 100000 in
theorem wk_MM_ring_19 {E : zE} {D : va_G} {g : zG} {A : Nat → Prop} {ad : zA} {Q : Int → zS → Prop} {J2 : Int → zS → Prop} (C : zX E b_MM_ring R_MM D g { frames := 0, cells := 0, slots := 0, locals := 0 } 4) (R : zRt E (some .boolean) (zQi D g ad Q A) 0 0 A) (hJ2 : ∀ (v1 : Int) (σ : zS), J2 v1 σ → zW E (zOK D A (zst E) g ad) 0 0 2 [(0, .ref (ad (0, 3))), (1, .int (zi v1))] [] σ) : ∀ (n : Nat) (v1 : Int) (v2 : Int) (v3 : Int) (σ : zS), lp_MM_ring_19 Q J2 n v1 v2 v3 σ → zW E (zOK D A (zst E) g ad) 0 0 19 [(0, .ref (ad (0, 3))), (1, .int (zi v1)), (2, .int (zi v2)), (3, .int (zi v3))] [] σ := by
  intro n
  induction n with
  | zero =>
    intro v1 v2 v3 σ h
    exact h.elim
  | succ n ih =>
    intro v1 v2 v3 σ h
    refine z_iload_n C (pc := 19) d_MM_ring_19 3 rfl ?_
    refine z_bipush C (pc := 20) d_MM_ring_20 (by decide) ?_
    obtain ⟨hc6, h⟩ := h
    refine z_icmp_ge (tgt := 58) C (pc := 22) d_MM_ring_22 (by decide) hc6 (by decide) h (fun h => ?_) (fun h => ?_)
    · refine z_sub [0, 1, 2] rfl ?_
      exact wk_MM_ring_58 C R hJ2 _ _ _ h
    · refine z_aload_n C (pc := 25) d_MM_ring_25 0 rfl ?_
      refine m_getA C 14 (by decide) rfl wd_718 (pc := 26) d_MM_ring_26 ?_
      refine z_iload_n C (pc := 29) d_MM_ring_29 2 rfl ?_
      obtain ⟨hc10, hc11, h⟩ := h
      refine m_iald C 14 114 48 rfl rfl (by decide) hc10 hc11 (pc := 30) d_MM_ring_30 ?_
      refine z_iconst C (pc := 31) d_MM_ring_31 ?_
      obtain ⟨hc12, h⟩ := h
      refine z_icmp_ne (tgt := 58) C (pc := 32) d_MM_ring_32 (by decide) hc12 (by decide) h (fun h => ?_) (fun h => ?_)
      · refine z_sub [0, 1, 2] rfl ?_
        exact wk_MM_ring_58 C R hJ2 _ _ _ h
      · refine z_aload_n C (pc := 35) d_MM_ring_35 0 rfl ?_
        refine m_getA C 2 (by decide) rfl wd_706 (pc := 36) d_MM_ring_36 ?_
        refine z_aload_n C (pc := 39) d_MM_ring_39 0 rfl ?_
        refine m_getA C 5 (by decide) rfl wd_709 (pc := 40) d_MM_ring_40 ?_
        refine z_aload_n C (pc := 43) d_MM_ring_43 0 rfl ?_
        refine m_getA C 17 (by decide) rfl wd_721 (pc := 44) d_MM_ring_44 ?_
        refine z_iload_n C (pc := 47) d_MM_ring_47 2 rfl ?_
        refine m_iald C 17 117 48 rfl rfl (by decide) hc10 hc11 (pc := 48) d_MM_ring_48 ?_
        obtain ⟨hc15, hc16, h⟩ := h
        refine m_iald C 5 105 40 rfl rfl (by decide) hc15 hc16 (pc := 49) d_MM_ring_49 ?_
        obtain ⟨hc17, hc18, h⟩ := h
        refine m_iald C 2 102 40 rfl rfl (by decide) hc17 hc18 (pc := 50) d_MM_ring_50 ?_
        refine zNi h (fun y19 ey19 h => ?_)
        refine z_istore_n (L' := [(2, .int (zi y19)), (0, .ref (ad (0, 3))), (1, .int (zi v1)), (3, .int (zi v3))]) C (pc := 51) d_MM_ring_51 (by decide) rfl ?_
        refine z_iinc (L' := [(3, .int (zi (v3 + 1))), (2, .int (zi y19)), (0, .ref (ad (0, 3))), (1, .int (zi v1))]) C (pc := 52) d_MM_ring_52 3 rfl (by decide) rfl ?_
        refine z_goto (tgt := 19) C (pc := 55) d_MM_ring_55 (by decide) ?_
        refine z_sub [2, 3, 1, 0] rfl ?_
        exact ih _ _ _ _ h
set_option maxHeartbeats 4000000 in
set_option maxRecDepth 100000 in
theorem wk_MM_ring_2 {E : zE} {D : va_G} {g : zG} {A : Nat → Prop} {ad : zA} {Q : Int → zS → Prop} (C : zX E b_MM_ring R_MM D g { frames := 0, cells := 0, slots := 0, locals := 0 } 4) (R : zRt E (some .boolean) (zQi D g ad Q A) 0 0 A) : ∀ (n : Nat) (v1 : Int) (σ : zS), lp_MM_ring_2 Q n v1 σ → zW E (zOK D A (zst E) g ad) 0 0 2 [(0, .ref (ad (0, 3))), (1, .int (zi v1))] [] σ := by
  intro n
  induction n with
  | zero =>
    intro v1 σ h
    exact h.elim
  | succ n ih =>
    intro v1 σ h
    refine z_iload_n C (pc := 2) d_MM_ring_2 1 rfl ?_
    refine z_aload_n C (pc := 3) d_MM_ring_3 0 rfl ?_
    refine m_getI C 0 100 rfl (by decide) rfl wd_704 (pc := 4) d_MM_ring_4 ?_
    obtain ⟨hc1, hc2, h⟩ := h
    refine z_icmp_ge (tgt := 76) C (pc := 7) d_MM_ring_7 (by decide) hc1 hc2 h (fun h => ?_) (fun h => ?_)
    · refine z_iconst C (pc := 76) d_MM_ring_76 ?_
      exact z_zret C R (pc := 77) d_MM_ring_77 (by decide) h
    · refine z_aload_n C (pc := 10) d_MM_ring_10 0 rfl ?_
      refine m_getA C 2 (by decide) rfl wd_706 (pc := 11) d_MM_ring_11 ?_
      refine z_iload_n C (pc := 14) d_MM_ring_14 1 rfl ?_
      obtain ⟨hc3, hc4, h⟩ := h
      refine m_iald C 2 102 40 rfl rfl (by decide) hc3 hc4 (pc := 15) d_MM_ring_15 ?_
      refine zNi h (fun y5 ey5 h => ?_)
      refine z_istore_n (L' := [(2, .int (zi y5)), (0, .ref (ad (0, 3))), (1, .int (zi v1))]) C (pc := 16) d_MM_ring_16 (by decide) rfl ?_
      refine z_iconst C (pc := 17) d_MM_ring_17 ?_
      refine z_istore_n (L' := [(3, .int (zi 0)), (2, .int (zi y5)), (0, .ref (ad (0, 3))), (1, .int (zi v1))]) C (pc := 18) d_MM_ring_18 (by decide) rfl ?_
      refine z_sub [2, 3, 1, 0] rfl ?_
      obtain ⟨n20, h⟩ := h
      exact wk_MM_ring_19 C R ih n20 _ _ _ _ h
set_option maxHeartbeats 4000000 in
set_option maxRecDepth 100000 in
theorem c_MM_ring (l : Launch) (D : va_G) (g : zG) (ad : zA) (Q : Int → zS → Prop) (σ : zS) (h : wp_MM_ring Q σ) : zMi l y_MM_ring b_MM_ring 4 (some .boolean) { frames := 0, cells := 0, slots := 0, locals := 0 } D g ad σ [.ref (ad (0, 3))] Q := by
  unfold wp_MM_ring at h
  refine zM_of (by decide) (Nat.le_of_ble_eq_true rfl) (fun E C R hl => ?_)
  have C : zX E b_MM_ring R_MM D g { frames := 0, cells := 0, slots := 0, locals := 0 } 4 := C
  refine z_sub (L' := [(0, .ref (ad (0, 3)))]) [0] rfl ?_
  refine z_iconst C (pc := 0) d_MM_ring_0 ?_
  refine z_istore_n (L' := [(1, .int (zi 0)), (0, .ref (ad (0, 3)))]) C (pc := 1) d_MM_ring_1 (by decide) rfl ?_
  refine z_sub [1, 0] rfl ?_
  obtain ⟨n21, h⟩ := h
  exact wk_MM_ring_2 C R n21 _ _ h
theorem d_MM_hasCell_0 : decode b_MM_hasCell 0 = .ok (.iconst 0, 1) := by decide +kernel
theorem d_MM_hasCell_1 : decode b_MM_hasCell 1 = .ok (.istore_n 2, 1) := by decide +kernel
theorem d_MM_hasCell_2 : decode b_MM_hasCell 2 = .ok (.iload_n 2, 1) := by decide +kernel
theorem d_MM_hasCell_3 : decode b_MM_hasCell 3 = .ok (.aload_n 0, 1) := by decide +kernel
theorem d_MM_hasCell_4 : decode b_MM_hasCell 4 = .ok (.getfield 200, 3) := by decide +kernel
theorem d_MM_hasCell_7 : decode b_MM_hasCell 7 = .ok (.if_icmp .ge 21, 3) := by decide +kernel
theorem d_MM_hasCell_10 : decode b_MM_hasCell 10 = .ok (.aload_n 0, 1) := by decide +kernel
theorem d_MM_hasCell_11 : decode b_MM_hasCell 11 = .ok (.getfield 55, 3) := by decide +kernel
theorem d_MM_hasCell_14 : decode b_MM_hasCell 14 = .ok (.iload_n 2, 1) := by decide +kernel
theorem d_MM_hasCell_15 : decode b_MM_hasCell 15 = .ok (.iaload, 1) := by decide +kernel
theorem d_MM_hasCell_16 : decode b_MM_hasCell 16 = .ok (.iload_n 1, 1) := by decide +kernel
theorem d_MM_hasCell_17 : decode b_MM_hasCell 17 = .ok (.if_icmp .ne 5, 3) := by decide +kernel
theorem d_MM_hasCell_20 : decode b_MM_hasCell 20 = .ok (.iconst 1, 1) := by decide +kernel
theorem d_MM_hasCell_21 : decode b_MM_hasCell 21 = .ok (.ireturn, 1) := by decide +kernel
theorem d_MM_hasCell_22 : decode b_MM_hasCell 22 = .ok (.iinc 2 1, 3) := by decide +kernel
theorem d_MM_hasCell_25 : decode b_MM_hasCell 25 = .ok (.goto (-23), 3) := by decide +kernel
theorem d_MM_hasCell_28 : decode b_MM_hasCell 28 = .ok (.iconst 0, 1) := by decide +kernel
theorem d_MM_hasCell_29 : decode b_MM_hasCell 29 = .ok (.ireturn, 1) := by decide +kernel
def lp_MM_hasCell_2 (Q : Int → zS → Prop) : Nat → Int → Int → zS → Prop
  | 0 => fun _ _ _ => False
  | n + 1 => fun v1 v2 σ =>
    zc v2 ∧ zc (σ 120 0) ∧ ((σ 120 0 ≤ v2 →
      Q 0 σ) ∧
     (¬ σ 120 0 ≤ v2 →
      0 ≤ v2 ∧ v2 < 8 ∧ 
      zc (σ 121 v2) ∧ zc v1 ∧ ((σ 121 v2 = v1 →
        Q 1 σ) ∧
       (¬ σ 121 v2 = v1 →
        lp_MM_hasCell_2 Q n v1 (v2 + 1) σ))))
def wp_MM_hasCell (Q : Int → zS → Prop) (v1 : Int) (σ : zS) : Prop :=
  ∃ u2, lp_MM_hasCell_2 Q u2 v1 0 σ
set_option maxHeartbeats 4000000 in
set_option maxRecDepth 100000 in
theorem wk_MM_hasCell_2 {E : zE} {D : va_G} {g : zG} {A : Nat → Prop} {ad : zA} {Q : Int → zS → Prop} (C : zX E b_MM_hasCell R_MM D g { frames := 0, cells := 0, slots := 0, locals := 0 } 3) (R : zRt E (some .boolean) (zQi D g ad Q A) 0 0 A) : ∀ (n : Nat) (v1 : Int) (v2 : Int) (σ : zS), lp_MM_hasCell_2 Q n v1 v2 σ → zW E (zOK D A (zst E) g ad) 0 0 2 [(0, .ref (ad (0, 3))), (1, .int (zi v1)), (2, .int (zi v2))] [] σ := by
  intro n
  induction n with
  | zero =>
    intro v1 v2 σ h
    exact h.elim
  | succ n ih =>
    intro v1 v2 σ h
    refine z_iload_n C (pc := 2) d_MM_hasCell_2 2 rfl ?_
    refine z_aload_n C (pc := 3) d_MM_hasCell_3 0 rfl ?_
    refine m_getI C 20 120 rfl (by decide) rfl wd_724 (pc := 4) d_MM_hasCell_4 ?_
    obtain ⟨hc1, hc2, h⟩ := h
    refine z_icmp_ge (tgt := 28) C (pc := 7) d_MM_hasCell_7 (by decide) hc1 hc2 h (fun h => ?_) (fun h => ?_)
    · refine z_iconst C (pc := 28) d_MM_hasCell_28 ?_
      exact z_zret C R (pc := 29) d_MM_hasCell_29 (by decide) h
    · refine z_aload_n C (pc := 10) d_MM_hasCell_10 0 rfl ?_
      refine m_getA C 21 (by decide) rfl wd_725 (pc := 11) d_MM_hasCell_11 ?_
      refine z_iload_n C (pc := 14) d_MM_hasCell_14 2 rfl ?_
      obtain ⟨hc3, hc4, h⟩ := h
      refine m_iald C 21 121 8 rfl rfl (by decide) hc3 hc4 (pc := 15) d_MM_hasCell_15 ?_
      refine z_iload_n C (pc := 16) d_MM_hasCell_16 1 rfl ?_
      obtain ⟨hc5, hc6, h⟩ := h
      refine z_icmp_ne (tgt := 22) C (pc := 17) d_MM_hasCell_17 (by decide) hc5 hc6 h (fun h => ?_) (fun h => ?_)
      · refine z_iinc (L' := [(2, .int (zi (v2 + 1))), (0, .ref (ad (0, 3))), (1, .int (zi v1))]) C (pc := 22) d_MM_hasCell_22 2 rfl (by decide) rfl ?_
        refine z_goto (tgt := 2) C (pc := 25) d_MM_hasCell_25 (by decide) ?_
        refine z_sub [1, 2, 0] rfl ?_
        exact ih _ _ _ h
      · refine z_iconst C (pc := 20) d_MM_hasCell_20 ?_
        exact z_zret C R (pc := 21) d_MM_hasCell_21 (by decide) h
set_option maxHeartbeats 4000000 in
set_option maxRecDepth 100000 in
theorem c_MM_hasCell (l : Launch) (D : va_G) (g : zG) (ad : zA) (v1 : Int) (Q : Int → zS → Prop) (σ : zS) (h : wp_MM_hasCell Q v1 σ) : zMi l y_MM_hasCell b_MM_hasCell 3 (some .boolean) { frames := 0, cells := 0, slots := 0, locals := 0 } D g ad σ [.ref (ad (0, 3)), .int (zi v1)] Q := by
  unfold wp_MM_hasCell at h
  refine zM_of (by decide) (Nat.le_of_ble_eq_true rfl) (fun E C R hl => ?_)
  have C : zX E b_MM_hasCell R_MM D g { frames := 0, cells := 0, slots := 0, locals := 0 } 3 := C
  refine z_sub (L' := [(0, .ref (ad (0, 3))), (1, .int (zi v1))]) [0, 1] rfl ?_
  refine z_iconst C (pc := 0) d_MM_hasCell_0 ?_
  refine z_istore_n (L' := [(2, .int (zi 0)), (0, .ref (ad (0, 3))), (1, .int (zi v1))]) C (pc := 1) d_MM_hasCell_1 (by decide) rfl ?_
  refine z_sub [1, 2, 0] rfl ?_
  obtain ⟨n7, h⟩ := h
  exact wk_MM_hasCell_2 C R n7 _ _ _ h
theorem d_MM_gates_0 : decode b_MM_gates 0 = .ok (.iconst 0, 1) := by decide +kernel
theorem d_MM_gates_1 : decode b_MM_gates 1 = .ok (.istore_n 1, 1) := by decide +kernel
theorem d_MM_gates_2 : decode b_MM_gates 2 = .ok (.iconst 0, 1) := by decide +kernel
theorem d_MM_gates_3 : decode b_MM_gates 3 = .ok (.istore_n 2, 1) := by decide +kernel
theorem d_MM_gates_4 : decode b_MM_gates 4 = .ok (.iload_n 2, 1) := by decide +kernel
theorem d_MM_gates_5 : decode b_MM_gates 5 = .ok (.aload_n 0, 1) := by decide +kernel
theorem d_MM_gates_6 : decode b_MM_gates 6 = .ok (.getfield 135, 3) := by decide +kernel
theorem d_MM_gates_9 : decode b_MM_gates 9 = .ok (.if_icmp .ge 26, 3) := by decide +kernel
theorem d_MM_gates_12 : decode b_MM_gates 12 = .ok (.aload_n 0, 1) := by decide +kernel
theorem d_MM_gates_13 : decode b_MM_gates 13 = .ok (.getfield 83, 3) := by decide +kernel
theorem d_MM_gates_16 : decode b_MM_gates 16 = .ok (.iload_n 2, 1) := by decide +kernel
theorem d_MM_gates_17 : decode b_MM_gates 17 = .ok (.baload, 1) := by decide +kernel
theorem d_MM_gates_18 : decode b_MM_gates 18 = .ok (.ifCond .eq 9, 3) := by decide +kernel
theorem d_MM_gates_21 : decode b_MM_gates 21 = .ok (.iload_n 1, 1) := by decide +kernel
theorem d_MM_gates_22 : decode b_MM_gates 22 = .ok (.iconst 1, 1) := by decide +kernel
theorem d_MM_gates_23 : decode b_MM_gates 23 = .ok (.iadd, 1) := by decide +kernel
theorem d_MM_gates_24 : decode b_MM_gates 24 = .ok (.goto 4, 3) := by decide +kernel
theorem d_MM_gates_27 : decode b_MM_gates 27 = .ok (.iload_n 1, 1) := by decide +kernel
theorem d_MM_gates_28 : decode b_MM_gates 28 = .ok (.istore_n 1, 1) := by decide +kernel
theorem d_MM_gates_29 : decode b_MM_gates 29 = .ok (.iinc 2 1, 3) := by decide +kernel
theorem d_MM_gates_32 : decode b_MM_gates 32 = .ok (.goto (-28), 3) := by decide +kernel
theorem d_MM_gates_35 : decode b_MM_gates 35 = .ok (.iload_n 1, 1) := by decide +kernel
theorem d_MM_gates_36 : decode b_MM_gates 36 = .ok (.ireturn, 1) := by decide +kernel
def bk_MM_gates_28 (Q : Int → zS → Prop) (J4 : Int → Int → zS → Prop) (v2 : Int) (z0 : Int) (σ : zS) : Prop :=
  J4 z0 (v2 + 1) σ
def lp_MM_gates_4 (Q : Int → zS → Prop) : Nat → Int → Int → zS → Prop
  | 0 => fun _ _ _ => False
  | n + 1 => fun v1 v2 σ =>
    zc v2 ∧ zc (σ 113 0) ∧ ((σ 113 0 ≤ v2 →
      Q v1 σ) ∧
     (¬ σ 113 0 ≤ v2 →
      0 ≤ v2 ∧ v2 < 48 ∧ 
      zc (σ 131 v2) ∧ ((σ 131 v2 = 0 →
        bk_MM_gates_28 Q (lp_MM_gates_4 Q n) v2 v1 σ) ∧
       (¬ σ 131 v2 = 0 →
        bk_MM_gates_28 Q (lp_MM_gates_4 Q n) v2 (v1 + 1) σ))))
def wp_MM_gates (Q : Int → zS → Prop) (σ : zS) : Prop :=
  ∃ u4, lp_MM_gates_4 Q u4 0 0 σ
set_option maxHeartbeats 4000000 in
set_option maxRecDepth 100000 in
theorem wk_MM_gates_28 {E : zE} {D : va_G} {g : zG} {A : Nat → Prop} {ad : zA} {Q : Int → zS → Prop} {J4 : Int → Int → zS → Prop} (C : zX E b_MM_gates R_MM D g { frames := 0, cells := 0, slots := 0, locals := 0 } 3) (R : zRt E (some .int) (zQi D g ad Q A) 0 0 A) (hJ4 : ∀ (v1 : Int) (v2 : Int) (σ : zS), J4 v1 v2 σ → zW E (zOK D A (zst E) g ad) 0 0 4 [(0, .ref (ad (0, 3))), (1, .int (zi v1)), (2, .int (zi v2))] [] σ) (v2 : Int) (z0 : Int) (σ : zS) (h : bk_MM_gates_28 Q J4 v2 z0 σ) : zW E (zOK D A (zst E) g ad) 0 0 28 [(0, .ref (ad (0, 3))), (2, .int (zi v2))] [.int (zi z0)] σ := by
  unfold bk_MM_gates_28 at h
  refine z_istore_n (L' := [(1, .int (zi z0)), (0, .ref (ad (0, 3))), (2, .int (zi v2))]) C (pc := 28) d_MM_gates_28 (by decide) rfl ?_
  refine z_iinc (L' := [(2, .int (zi (v2 + 1))), (1, .int (zi z0)), (0, .ref (ad (0, 3)))]) C (pc := 29) d_MM_gates_29 2 rfl (by decide) rfl ?_
  refine z_goto (tgt := 4) C (pc := 32) d_MM_gates_32 (by decide) ?_
  refine z_sub [2, 1, 0] rfl ?_
  exact hJ4 _ _ _ h
set_option maxHeartbeats 4000000 in
set_option maxRecDepth 100000 in
theorem wk_MM_gates_4 {E : zE} {D : va_G} {g : zG} {A : Nat → Prop} {ad : zA} {Q : Int → zS → Prop} (C : zX E b_MM_gates R_MM D g { frames := 0, cells := 0, slots := 0, locals := 0 } 3) (R : zRt E (some .int) (zQi D g ad Q A) 0 0 A) : ∀ (n : Nat) (v1 : Int) (v2 : Int) (σ : zS), lp_MM_gates_4 Q n v1 v2 σ → zW E (zOK D A (zst E) g ad) 0 0 4 [(0, .ref (ad (0, 3))), (1, .int (zi v1)), (2, .int (zi v2))] [] σ := by
  intro n
  induction n with
  | zero =>
    intro v1 v2 σ h
    exact h.elim
  | succ n ih =>
    intro v1 v2 σ h
    refine z_iload_n C (pc := 4) d_MM_gates_4 2 rfl ?_
    refine z_aload_n C (pc := 5) d_MM_gates_5 0 rfl ?_
    refine m_getI C 13 113 rfl (by decide) rfl wd_717 (pc := 6) d_MM_gates_6 ?_
    obtain ⟨hc1, hc2, h⟩ := h
    refine z_icmp_ge (tgt := 35) C (pc := 9) d_MM_gates_9 (by decide) hc1 hc2 h (fun h => ?_) (fun h => ?_)
    · refine z_iload_n C (pc := 35) d_MM_gates_35 1 rfl ?_
      exact z_iret C R (pc := 36) d_MM_gates_36 h
    · refine z_aload_n C (pc := 12) d_MM_gates_12 0 rfl ?_
      refine m_getA C 31 (by decide) rfl wd_735 (pc := 13) d_MM_gates_13 ?_
      refine z_iload_n C (pc := 16) d_MM_gates_16 2 rfl ?_
      obtain ⟨hc3, hc4, h⟩ := h
      refine m_zald C 31 131 48 rfl rfl (by decide) hc3 hc4 (pc := 17) d_MM_gates_17 ?_
      obtain ⟨hc5, h⟩ := h
      refine z_if_eq (tgt := 27) C (pc := 18) d_MM_gates_18 (by decide) hc5 h (fun h => ?_) (fun h => ?_)
      · refine z_iload_n C (pc := 27) d_MM_gates_27 1 rfl ?_
        refine z_sub [0, 2] rfl ?_
        exact wk_MM_gates_28 C R ih _ _ _ h
      · refine z_iload_n C (pc := 21) d_MM_gates_21 1 rfl ?_
        refine z_iconst C (pc := 22) d_MM_gates_22 ?_
        refine z_iadd C (pc := 23) d_MM_gates_23 ?_
        refine z_goto (tgt := 28) C (pc := 24) d_MM_gates_24 (by decide) ?_
        refine z_sub [0, 2] rfl ?_
        exact wk_MM_gates_28 C R ih _ _ _ h
set_option maxHeartbeats 4000000 in
set_option maxRecDepth 100000 in
theorem c_MM_gates (l : Launch) (D : va_G) (g : zG) (ad : zA) (Q : Int → zS → Prop) (σ : zS) (h : wp_MM_gates Q σ) : zMi l y_MM_gates b_MM_gates 3 (some .int) { frames := 0, cells := 0, slots := 0, locals := 0 } D g ad σ [.ref (ad (0, 3))] Q := by
  unfold wp_MM_gates at h
  refine zM_of (by decide) (Nat.le_of_ble_eq_true rfl) (fun E C R hl => ?_)
  have C : zX E b_MM_gates R_MM D g { frames := 0, cells := 0, slots := 0, locals := 0 } 3 := C
  refine z_sub (L' := [(0, .ref (ad (0, 3)))]) [0] rfl ?_
  refine z_iconst C (pc := 0) d_MM_gates_0 ?_
  refine z_istore_n (L' := [(1, .int (zi 0)), (0, .ref (ad (0, 3)))]) C (pc := 1) d_MM_gates_1 (by decide) rfl ?_
  refine z_iconst C (pc := 2) d_MM_gates_2 ?_
  refine z_istore_n (L' := [(2, .int (zi 0)), (1, .int (zi 0)), (0, .ref (ad (0, 3)))]) C (pc := 3) d_MM_gates_3 (by decide) rfl ?_
  refine z_sub [2, 1, 0] rfl ?_
  obtain ⟨n6, h⟩ := h
  exact wk_MM_gates_4 C R n6 _ _ _ h
theorem d_MM_map_0 : decode b_MM_map 0 = .ok (.aload_n 0, 1) := by decide +kernel
theorem d_MM_map_1 : decode b_MM_map 1 = .ok (.invokevirtual 265, 3) := by decide +kernel
theorem d_MM_map_4 : decode b_MM_map 4 = .ok (.ifCond .eq 6, 3) := by decide +kernel
theorem d_MM_map_7 : decode b_MM_map 7 = .ok (.bipush (-3), 2) := by decide +kernel
theorem d_MM_map_9 : decode b_MM_map 9 = .ok (.ireturn, 1) := by decide +kernel
theorem d_MM_map_10 : decode b_MM_map 10 = .ok (.aload_n 0, 1) := by decide +kernel
theorem d_MM_map_11 : decode b_MM_map 11 = .ok (.invokevirtual 269, 3) := by decide +kernel
theorem d_MM_map_14 : decode b_MM_map 14 = .ok (.ifCond .eq 6, 3) := by decide +kernel
theorem d_MM_map_17 : decode b_MM_map 17 = .ok (.bipush (-4), 2) := by decide +kernel
theorem d_MM_map_19 : decode b_MM_map 19 = .ok (.ireturn, 1) := by decide +kernel
theorem d_MM_map_20 : decode b_MM_map 20 = .ok (.aload_n 0, 1) := by decide +kernel
theorem d_MM_map_21 : decode b_MM_map 21 = .ok (.bipush 6, 2) := by decide +kernel
theorem d_MM_map_23 : decode b_MM_map 23 = .ok (.invokevirtual 272, 3) := by decide +kernel
theorem d_MM_map_26 : decode b_MM_map 26 = .ok (.ifCond .eq 12, 3) := by decide +kernel
theorem d_MM_map_29 : decode b_MM_map 29 = .ok (.aload_n 0, 1) := by decide +kernel
theorem d_MM_map_30 : decode b_MM_map 30 = .ok (.bipush 23, 2) := by decide +kernel
theorem d_MM_map_32 : decode b_MM_map 32 = .ok (.invokevirtual 272, 3) := by decide +kernel
theorem d_MM_map_35 : decode b_MM_map 35 = .ok (.ifCond .ne 6, 3) := by decide +kernel
theorem d_MM_map_38 : decode b_MM_map 38 = .ok (.bipush (-5), 2) := by decide +kernel
theorem d_MM_map_40 : decode b_MM_map 40 = .ok (.ireturn, 1) := by decide +kernel
theorem d_MM_map_41 : decode b_MM_map 41 = .ok (.aload_n 0, 1) := by decide +kernel
theorem d_MM_map_42 : decode b_MM_map 42 = .ok (.invokevirtual 275, 3) := by decide +kernel
theorem d_MM_map_45 : decode b_MM_map 45 = .ok (.aload_n 0, 1) := by decide +kernel
theorem d_MM_map_46 : decode b_MM_map 46 = .ok (.invokevirtual 278, 3) := by decide +kernel
theorem d_MM_map_49 : decode b_MM_map 49 = .ok (.aload_n 0, 1) := by decide +kernel
theorem d_MM_map_50 : decode b_MM_map 50 = .ok (.invokevirtual 281, 3) := by decide +kernel
theorem d_MM_map_53 : decode b_MM_map 53 = .ok (.aload_n 0, 1) := by decide +kernel
theorem d_MM_map_54 : decode b_MM_map 54 = .ok (.invokevirtual 284, 3) := by decide +kernel
theorem d_MM_map_57 : decode b_MM_map 57 = .ok (.aload_n 0, 1) := by decide +kernel
theorem d_MM_map_58 : decode b_MM_map 58 = .ok (.invokevirtual 287, 3) := by decide +kernel
theorem d_MM_map_61 : decode b_MM_map 61 = .ok (.ireturn, 1) := by decide +kernel
def wp_MM_map (Q : Int → zS → Prop) (σ : zS) : Prop :=
  wp_MM_undriven (fun r2 σ1 =>
    zc r2 ∧ ((r2 = 0 →
      wp_MM_ring (fun r5 σ4 =>
        zc r5 ∧ ((r5 = 0 →
          wp_MM_hasCell (fun r8 σ7 =>
            zc r8 ∧ ((r8 = 0 →
              Q (-5) σ7) ∧
             (¬ r8 = 0 →
              wp_MM_hasCell (fun r11 σ10 =>
                zc r11 ∧ ((r11 = 0 →
                  Q (-5) σ10) ∧
                 (¬ r11 = 0 →
                  wp_MM_cover (fun σ13 =>
                    wp_MM_measure (fun σ15 =>
                      wp_MM_shorten (fun σ17 =>
                        wp_MM_retime (fun σ19 =>
                          wp_MM_gates (fun r22 σ21 =>
                            Q r22 σ21) σ19) σ17) σ15) σ13) σ10))) 23 σ7))) 6 σ4) ∧
         (¬ r5 = 0 →
          Q (-4) σ4))) σ1) ∧
     (¬ r2 = 0 →
      Q (-3) σ1))) σ
set_option maxHeartbeats 4000000 in
set_option maxRecDepth 100000 in
theorem c_MM_map (l : Launch) (D : va_G) (g : zG) (ad : zA) (Q : Int → zS → Prop) (σ : zS) (h : wp_MM_map Q σ) : zMi l y_MM_map b_MM_map 1 (some .int) { frames := 4, cells := 0, slots := 0, locals := 100 } D g ad σ [.ref (ad (0, 3))] Q := by
  unfold wp_MM_map at h
  refine zM_of (by decide) (Nat.le_of_ble_eq_true rfl) (fun E C R hl => ?_)
  have C : zX E b_MM_map R_MM D g { frames := 4, cells := 0, slots := 0, locals := 100 } 1 := C
  refine z_sub (L' := [(0, .ref (ad (0, 3)))]) [0] rfl ?_
  refine z_aload_n C (pc := 0) d_MM_map_0 0 rfl ?_
  refine m_calli (As := []) C fy_MM_undriven rfl wd_949 (pc := 1) d_MM_map_1 ⟨rfl, rfl, Nat.le_of_ble_eq_true rfl, Nat.le_of_ble_eq_true rfl⟩ rfl rfl (Nat.le_of_ble_eq_true rfl) h (c_MM_undriven (zln E) D g ad _ _) (fun r2 σ1 h => ?_)
  obtain ⟨hc3, h⟩ := h
  refine z_if_eq (tgt := 10) C (pc := 4) d_MM_map_4 (by decide) hc3 h (fun h => ?_) (fun h => ?_)
  · refine z_aload_n C (pc := 10) d_MM_map_10 0 rfl ?_
    refine m_calli (As := []) C fy_MM_ring rfl wd_953 (pc := 11) d_MM_map_11 ⟨rfl, rfl, Nat.le_of_ble_eq_true rfl, Nat.le_of_ble_eq_true rfl⟩ rfl rfl (Nat.le_of_ble_eq_true rfl) h (c_MM_ring (zln E) D g ad _ _) (fun r5 σ4 h => ?_)
    obtain ⟨hc6, h⟩ := h
    refine z_if_eq (tgt := 20) C (pc := 14) d_MM_map_14 (by decide) hc6 h (fun h => ?_) (fun h => ?_)
    · refine z_aload_n C (pc := 20) d_MM_map_20 0 rfl ?_
      refine z_bipush C (pc := 21) d_MM_map_21 (by decide) ?_
      refine m_calli (As := [.int (zi 6)]) C fy_MM_hasCell rfl wd_957 (pc := 23) d_MM_map_23 ⟨rfl, rfl, Nat.le_of_ble_eq_true rfl, Nat.le_of_ble_eq_true rfl⟩ rfl rfl (Nat.le_of_ble_eq_true rfl) h (c_MM_hasCell (zln E) D g ad _ _ _) (fun r8 σ7 h => ?_)
      obtain ⟨hc9, h⟩ := h
      refine z_if_eq (tgt := 38) C (pc := 26) d_MM_map_26 (by decide) hc9 h (fun h => ?_) (fun h => ?_)
      · refine z_bipush C (pc := 38) d_MM_map_38 (by decide) ?_
        exact z_iret C R (pc := 40) d_MM_map_40 h
      · refine z_aload_n C (pc := 29) d_MM_map_29 0 rfl ?_
        refine z_bipush C (pc := 30) d_MM_map_30 (by decide) ?_
        refine m_calli (As := [.int (zi 23)]) C fy_MM_hasCell rfl wd_957 (pc := 32) d_MM_map_32 ⟨rfl, rfl, Nat.le_of_ble_eq_true rfl, Nat.le_of_ble_eq_true rfl⟩ rfl rfl (Nat.le_of_ble_eq_true rfl) h (c_MM_hasCell (zln E) D g ad _ _ _) (fun r11 σ10 h => ?_)
        obtain ⟨hc12, h⟩ := h
        refine z_if_ne (tgt := 41) C (pc := 35) d_MM_map_35 (by decide) hc12 h (fun h => ?_) (fun h => ?_)
        · refine z_aload_n C (pc := 41) d_MM_map_41 0 rfl ?_
          refine m_callv (As := []) C fy_MM_cover rfl wd_961 (pc := 42) d_MM_map_42 ⟨rfl, rfl, Nat.le_of_ble_eq_true rfl, Nat.le_of_ble_eq_true rfl⟩ rfl rfl (Nat.le_of_ble_eq_true rfl) h (c_MM_cover (zln E) D g ad _ _) (fun σ13 h => ?_)
          refine z_aload_n C (pc := 45) d_MM_map_45 0 rfl ?_
          refine m_callv (As := []) C fy_MM_measure rfl wd_994 (pc := 46) d_MM_map_46 ⟨rfl, rfl, Nat.le_of_ble_eq_true rfl, Nat.le_of_ble_eq_true rfl⟩ rfl rfl (Nat.le_of_ble_eq_true rfl) h (c_MM_measure (zln E) D g ad _ _) (fun σ15 h => ?_)
          refine z_aload_n C (pc := 49) d_MM_map_49 0 rfl ?_
          refine m_callv (As := []) C fy_MM_shorten rfl wd_1006 (pc := 50) d_MM_map_50 ⟨rfl, rfl, Nat.le_of_ble_eq_true rfl, Nat.le_of_ble_eq_true rfl⟩ rfl rfl (Nat.le_of_ble_eq_true rfl) h (c_MM_shorten (zln E) D g ad _ _) (fun σ17 h => ?_)
          refine z_aload_n C (pc := 53) d_MM_map_53 0 rfl ?_
          refine m_callv (As := []) C fy_MM_retime rfl wd_1018 (pc := 54) d_MM_map_54 ⟨rfl, rfl, Nat.le_of_ble_eq_true rfl, Nat.le_of_ble_eq_true rfl⟩ rfl rfl (Nat.le_of_ble_eq_true rfl) h (c_MM_retime (zln E) D g ad _ _) (fun σ19 h => ?_)
          refine z_aload_n C (pc := 57) d_MM_map_57 0 rfl ?_
          refine m_calli (As := []) C fy_MM_gates rfl wd_1042 (pc := 58) d_MM_map_58 ⟨rfl, rfl, Nat.le_of_ble_eq_true rfl, Nat.le_of_ble_eq_true rfl⟩ rfl rfl (Nat.le_of_ble_eq_true rfl) h (c_MM_gates (zln E) D g ad _ _) (fun r22 σ21 h => ?_)
          exact z_iret C R (pc := 61) d_MM_map_61 h
        · refine z_bipush C (pc := 38) d_MM_map_38 (by decide) ?_
          exact z_iret C R (pc := 40) d_MM_map_40 h
    · refine z_bipush C (pc := 17) d_MM_map_17 (by decide) ?_
      exact z_iret C R (pc := 19) d_MM_map_19 h
  · refine z_bipush C (pc := 7) d_MM_map_7 (by decide) ?_
    exact z_iret C R (pc := 9) d_MM_map_9 h
theorem d_MM_area_0 : decode b_MM_area 0 = .ok (.aload_n 0, 1) := by decide +kernel
theorem d_MM_area_1 : decode b_MM_area 1 = .ok (.getfield 171, 3) := by decide +kernel
theorem d_MM_area_4 : decode b_MM_area 4 = .ok (.ifCond .ne 6, 3) := by decide +kernel
theorem d_MM_area_7 : decode b_MM_area 7 = .ok (.bipush (-6), 2) := by decide +kernel
theorem d_MM_area_9 : decode b_MM_area 9 = .ok (.ireturn, 1) := by decide +kernel
theorem d_MM_area_10 : decode b_MM_area 10 = .ok (.iconst 0, 1) := by decide +kernel
theorem d_MM_area_11 : decode b_MM_area 11 = .ok (.istore_n 1, 1) := by decide +kernel
theorem d_MM_area_12 : decode b_MM_area 12 = .ok (.iconst 0, 1) := by decide +kernel
theorem d_MM_area_13 : decode b_MM_area 13 = .ok (.istore_n 2, 1) := by decide +kernel
theorem d_MM_area_14 : decode b_MM_area 14 = .ok (.iload_n 2, 1) := by decide +kernel
theorem d_MM_area_15 : decode b_MM_area 15 = .ok (.aload_n 0, 1) := by decide +kernel
theorem d_MM_area_16 : decode b_MM_area 16 = .ok (.getfield 135, 3) := by decide +kernel
theorem d_MM_area_19 : decode b_MM_area 19 = .ok (.if_icmp .ge 36, 3) := by decide +kernel
theorem d_MM_area_22 : decode b_MM_area 22 = .ok (.aload_n 0, 1) := by decide +kernel
theorem d_MM_area_23 : decode b_MM_area 23 = .ok (.getfield 83, 3) := by decide +kernel
theorem d_MM_area_26 : decode b_MM_area 26 = .ok (.iload_n 2, 1) := by decide +kernel
theorem d_MM_area_27 : decode b_MM_area 27 = .ok (.baload, 1) := by decide +kernel
theorem d_MM_area_28 : decode b_MM_area 28 = .ok (.ifCond .eq 19, 3) := by decide +kernel
theorem d_MM_area_31 : decode b_MM_area 31 = .ok (.iload_n 1, 1) := by decide +kernel
theorem d_MM_area_32 : decode b_MM_area 32 = .ok (.aload_n 0, 1) := by decide +kernel
theorem d_MM_area_33 : decode b_MM_area 33 = .ok (.getfield 58, 3) := by decide +kernel
theorem d_MM_area_36 : decode b_MM_area 36 = .ok (.aload_n 0, 1) := by decide +kernel
theorem d_MM_area_37 : decode b_MM_area 37 = .ok (.getfield 77, 3) := by decide +kernel
theorem d_MM_area_40 : decode b_MM_area 40 = .ok (.iload_n 2, 1) := by decide +kernel
theorem d_MM_area_41 : decode b_MM_area 41 = .ok (.iaload, 1) := by decide +kernel
theorem d_MM_area_42 : decode b_MM_area 42 = .ok (.iaload, 1) := by decide +kernel
theorem d_MM_area_43 : decode b_MM_area 43 = .ok (.iadd, 1) := by decide +kernel
theorem d_MM_area_44 : decode b_MM_area 44 = .ok (.goto 4, 3) := by decide +kernel
theorem d_MM_area_47 : decode b_MM_area 47 = .ok (.iload_n 1, 1) := by decide +kernel
theorem d_MM_area_48 : decode b_MM_area 48 = .ok (.istore_n 1, 1) := by decide +kernel
theorem d_MM_area_49 : decode b_MM_area 49 = .ok (.iinc 2 1, 3) := by decide +kernel
theorem d_MM_area_52 : decode b_MM_area 52 = .ok (.goto (-38), 3) := by decide +kernel
theorem d_MM_area_55 : decode b_MM_area 55 = .ok (.iload_n 1, 1) := by decide +kernel
theorem d_MM_area_56 : decode b_MM_area 56 = .ok (.ireturn, 1) := by decide +kernel
def bk_MM_area_48 (Q : Int → zS → Prop) (J14 : Int → Int → zS → Prop) (v2 : Int) (z0 : Int) (σ : zS) : Prop :=
  J14 z0 (v2 + 1) σ
def lp_MM_area_14 (Q : Int → zS → Prop) : Nat → Int → Int → zS → Prop
  | 0 => fun _ _ _ => False
  | n + 1 => fun v1 v2 σ =>
    zc v2 ∧ zc (σ 113 0) ∧ ((σ 113 0 ≤ v2 →
      Q v1 σ) ∧
     (¬ σ 113 0 ≤ v2 →
      0 ≤ v2 ∧ v2 < 48 ∧ 
      zc (σ 131 v2) ∧ ((σ 131 v2 = 0 →
        bk_MM_area_48 Q (lp_MM_area_14 Q n) v2 v1 σ) ∧
       (¬ σ 131 v2 = 0 →
        0 ≤ σ 129 v2 ∧ σ 129 v2 < 8 ∧ 
        bk_MM_area_48 Q (lp_MM_area_14 Q n) v2 (v1 + (σ 122 (σ 129 v2))) σ))))
def wp_MM_area (Q : Int → zS → Prop) (σ : zS) : Prop :=
  zc (σ 124 0) ∧ ((σ 124 0 = 0 →
    Q (-6) σ) ∧
   (¬ σ 124 0 = 0 →
    ∃ u14, lp_MM_area_14 Q u14 0 0 σ))
set_option maxHeartbeats 4000000 in
set_option maxRecDepth 100000 in
theorem wk_MM_area_48 {E : zE} {D : va_G} {g : zG} {A : Nat → Prop} {ad : zA} {Q : Int → zS → Prop} {J14 : Int → Int → zS → Prop} (C : zX E b_MM_area R_MM D g { frames := 0, cells := 0, slots := 0, locals := 0 } 3) (R : zRt E (some .int) (zQi D g ad Q A) 0 0 A) (hJ14 : ∀ (v1 : Int) (v2 : Int) (σ : zS), J14 v1 v2 σ → zW E (zOK D A (zst E) g ad) 0 0 14 [(0, .ref (ad (0, 3))), (1, .int (zi v1)), (2, .int (zi v2))] [] σ) (v2 : Int) (z0 : Int) (σ : zS) (h : bk_MM_area_48 Q J14 v2 z0 σ) : zW E (zOK D A (zst E) g ad) 0 0 48 [(0, .ref (ad (0, 3))), (2, .int (zi v2))] [.int (zi z0)] σ := by
  unfold bk_MM_area_48 at h
  refine z_istore_n (L' := [(1, .int (zi z0)), (0, .ref (ad (0, 3))), (2, .int (zi v2))]) C (pc := 48) d_MM_area_48 (by decide) rfl ?_
  refine z_iinc (L' := [(2, .int (zi (v2 + 1))), (1, .int (zi z0)), (0, .ref (ad (0, 3)))]) C (pc := 49) d_MM_area_49 2 rfl (by decide) rfl ?_
  refine z_goto (tgt := 14) C (pc := 52) d_MM_area_52 (by decide) ?_
  refine z_sub [2, 1, 0] rfl ?_
  exact hJ14 _ _ _ h
set_option maxHeartbeats 4000000 in
set_option maxRecDepth 100000 in
theorem wk_MM_area_14 {E : zE} {D : va_G} {g : zG} {A : Nat → Prop} {ad : zA} {Q : Int → zS → Prop} (C : zX E b_MM_area R_MM D g { frames := 0, cells := 0, slots := 0, locals := 0 } 3) (R : zRt E (some .int) (zQi D g ad Q A) 0 0 A) : ∀ (n : Nat) (v1 : Int) (v2 : Int) (σ : zS), lp_MM_area_14 Q n v1 v2 σ → zW E (zOK D A (zst E) g ad) 0 0 14 [(0, .ref (ad (0, 3))), (1, .int (zi v1)), (2, .int (zi v2))] [] σ := by
  intro n
  induction n with
  | zero =>
    intro v1 v2 σ h
    exact h.elim
  | succ n ih =>
    intro v1 v2 σ h
    refine z_iload_n C (pc := 14) d_MM_area_14 2 rfl ?_
    refine z_aload_n C (pc := 15) d_MM_area_15 0 rfl ?_
    refine m_getI C 13 113 rfl (by decide) rfl wd_717 (pc := 16) d_MM_area_16 ?_
    obtain ⟨hc2, hc3, h⟩ := h
    refine z_icmp_ge (tgt := 55) C (pc := 19) d_MM_area_19 (by decide) hc2 hc3 h (fun h => ?_) (fun h => ?_)
    · refine z_iload_n C (pc := 55) d_MM_area_55 1 rfl ?_
      exact z_iret C R (pc := 56) d_MM_area_56 h
    · refine z_aload_n C (pc := 22) d_MM_area_22 0 rfl ?_
      refine m_getA C 31 (by decide) rfl wd_735 (pc := 23) d_MM_area_23 ?_
      refine z_iload_n C (pc := 26) d_MM_area_26 2 rfl ?_
      obtain ⟨hc4, hc5, h⟩ := h
      refine m_zald C 31 131 48 rfl rfl (by decide) hc4 hc5 (pc := 27) d_MM_area_27 ?_
      obtain ⟨hc6, h⟩ := h
      refine z_if_eq (tgt := 47) C (pc := 28) d_MM_area_28 (by decide) hc6 h (fun h => ?_) (fun h => ?_)
      · refine z_iload_n C (pc := 47) d_MM_area_47 1 rfl ?_
        refine z_sub [0, 2] rfl ?_
        exact wk_MM_area_48 C R ih _ _ _ h
      · refine z_iload_n C (pc := 31) d_MM_area_31 1 rfl ?_
        refine z_aload_n C (pc := 32) d_MM_area_32 0 rfl ?_
        refine m_getA C 22 (by decide) rfl wd_726 (pc := 33) d_MM_area_33 ?_
        refine z_aload_n C (pc := 36) d_MM_area_36 0 rfl ?_
        refine m_getA C 29 (by decide) rfl wd_733 (pc := 37) d_MM_area_37 ?_
        refine z_iload_n C (pc := 40) d_MM_area_40 2 rfl ?_
        refine m_iald C 29 129 48 rfl rfl (by decide) hc4 hc5 (pc := 41) d_MM_area_41 ?_
        obtain ⟨hc9, hc10, h⟩ := h
        refine m_iald C 22 122 8 rfl rfl (by decide) hc9 hc10 (pc := 42) d_MM_area_42 ?_
        refine z_iadd C (pc := 43) d_MM_area_43 ?_
        refine z_goto (tgt := 48) C (pc := 44) d_MM_area_44 (by decide) ?_
        refine z_sub [0, 2] rfl ?_
        exact wk_MM_area_48 C R ih _ _ _ h
set_option maxHeartbeats 4000000 in
set_option maxRecDepth 100000 in
theorem c_MM_area (l : Launch) (D : va_G) (g : zG) (ad : zA) (Q : Int → zS → Prop) (σ : zS) (h : wp_MM_area Q σ) : zMi l y_MM_area b_MM_area 3 (some .int) { frames := 0, cells := 0, slots := 0, locals := 0 } D g ad σ [.ref (ad (0, 3))] Q := by
  unfold wp_MM_area at h
  refine zM_of (by decide) (Nat.le_of_ble_eq_true rfl) (fun E C R hl => ?_)
  have C : zX E b_MM_area R_MM D g { frames := 0, cells := 0, slots := 0, locals := 0 } 3 := C
  refine z_sub (L' := [(0, .ref (ad (0, 3)))]) [0] rfl ?_
  refine z_aload_n C (pc := 0) d_MM_area_0 0 rfl ?_
  refine m_getI C 24 124 rfl (by decide) rfl wd_728 (pc := 1) d_MM_area_1 ?_
  obtain ⟨hc1, h⟩ := h
  refine z_if_ne (tgt := 10) C (pc := 4) d_MM_area_4 (by decide) hc1 h (fun h => ?_) (fun h => ?_)
  · refine z_iconst C (pc := 10) d_MM_area_10 ?_
    refine z_istore_n (L' := [(1, .int (zi 0)), (0, .ref (ad (0, 3)))]) C (pc := 11) d_MM_area_11 (by decide) rfl ?_
    refine z_iconst C (pc := 12) d_MM_area_12 ?_
    refine z_istore_n (L' := [(2, .int (zi 0)), (1, .int (zi 0)), (0, .ref (ad (0, 3)))]) C (pc := 13) d_MM_area_13 (by decide) rfl ?_
    refine z_sub [2, 1, 0] rfl ?_
    obtain ⟨n11, h⟩ := h
    exact wk_MM_area_14 C R n11 _ _ _ h
  · refine z_bipush C (pc := 7) d_MM_area_7 (by decide) ?_
    exact z_iret C R (pc := 9) d_MM_area_9 h
theorem d_MM_isGate_0 : decode b_MM_isGate 0 = .ok (.iload_n 1, 1) := by decide +kernel
theorem d_MM_isGate_1 : decode b_MM_isGate 1 = .ok (.ifCond .lt 24, 3) := by decide +kernel
theorem d_MM_isGate_4 : decode b_MM_isGate 4 = .ok (.iload_n 1, 1) := by decide +kernel
theorem d_MM_isGate_5 : decode b_MM_isGate 5 = .ok (.aload_n 0, 1) := by decide +kernel
theorem d_MM_isGate_6 : decode b_MM_isGate 6 = .ok (.getfield 135, 3) := by decide +kernel
theorem d_MM_isGate_9 : decode b_MM_isGate 9 = .ok (.if_icmp .ge 16, 3) := by decide +kernel
theorem d_MM_isGate_12 : decode b_MM_isGate 12 = .ok (.aload_n 0, 1) := by decide +kernel
theorem d_MM_isGate_13 : decode b_MM_isGate 13 = .ok (.getfield 83, 3) := by decide +kernel
theorem d_MM_isGate_16 : decode b_MM_isGate 16 = .ok (.iload_n 1, 1) := by decide +kernel
theorem d_MM_isGate_17 : decode b_MM_isGate 17 = .ok (.baload, 1) := by decide +kernel
theorem d_MM_isGate_18 : decode b_MM_isGate 18 = .ok (.ifCond .eq 7, 3) := by decide +kernel
theorem d_MM_isGate_21 : decode b_MM_isGate 21 = .ok (.iconst 1, 1) := by decide +kernel
theorem d_MM_isGate_22 : decode b_MM_isGate 22 = .ok (.goto 4, 3) := by decide +kernel
theorem d_MM_isGate_25 : decode b_MM_isGate 25 = .ok (.iconst 0, 1) := by decide +kernel
theorem d_MM_isGate_26 : decode b_MM_isGate 26 = .ok (.ireturn, 1) := by decide +kernel
def wp_MM_isGate (Q : Int → zS → Prop) (v1 : Int) (σ : zS) : Prop :=
  zc v1 ∧ ((v1 < 0 →
    Q 0 σ) ∧
   (¬ v1 < 0 →
    zc (σ 113 0) ∧ ((σ 113 0 ≤ v1 →
      Q 0 σ) ∧
     (¬ σ 113 0 ≤ v1 →
      0 ≤ v1 ∧ v1 < 48 ∧ 
      zc (σ 131 v1) ∧ ((σ 131 v1 = 0 →
        Q 0 σ) ∧
       (¬ σ 131 v1 = 0 →
        Q 1 σ))))))
set_option maxHeartbeats 4000000 in
set_option maxRecDepth 100000 in
theorem c_MM_isGate (l : Launch) (D : va_G) (g : zG) (ad : zA) (v1 : Int) (Q : Int → zS → Prop) (σ : zS) (h : wp_MM_isGate Q v1 σ) : zMi l y_MM_isGate b_MM_isGate 2 (some .boolean) { frames := 0, cells := 0, slots := 0, locals := 0 } D g ad σ [.ref (ad (0, 3)), .int (zi v1)] Q := by
  unfold wp_MM_isGate at h
  refine zM_of (by decide) (Nat.le_of_ble_eq_true rfl) (fun E C R hl => ?_)
  have C : zX E b_MM_isGate R_MM D g { frames := 0, cells := 0, slots := 0, locals := 0 } 2 := C
  refine z_sub (L' := [(0, .ref (ad (0, 3))), (1, .int (zi v1))]) [0, 1] rfl ?_
  refine z_iload_n C (pc := 0) d_MM_isGate_0 1 rfl ?_
  obtain ⟨hc1, h⟩ := h
  refine z_if_lt (tgt := 25) C (pc := 1) d_MM_isGate_1 (by decide) hc1 h (fun h => ?_) (fun h => ?_)
  · refine z_iconst C (pc := 25) d_MM_isGate_25 ?_
    exact z_zret C R (pc := 26) d_MM_isGate_26 (by decide) h
  · refine z_iload_n C (pc := 4) d_MM_isGate_4 1 rfl ?_
    refine z_aload_n C (pc := 5) d_MM_isGate_5 0 rfl ?_
    refine m_getI C 13 113 rfl (by decide) rfl wd_717 (pc := 6) d_MM_isGate_6 ?_
    obtain ⟨hc2, h⟩ := h
    refine z_icmp_ge (tgt := 25) C (pc := 9) d_MM_isGate_9 (by decide) hc1 hc2 h (fun h => ?_) (fun h => ?_)
    · refine z_iconst C (pc := 25) d_MM_isGate_25 ?_
      exact z_zret C R (pc := 26) d_MM_isGate_26 (by decide) h
    · refine z_aload_n C (pc := 12) d_MM_isGate_12 0 rfl ?_
      refine m_getA C 31 (by decide) rfl wd_735 (pc := 13) d_MM_isGate_13 ?_
      refine z_iload_n C (pc := 16) d_MM_isGate_16 1 rfl ?_
      obtain ⟨hc3, hc4, h⟩ := h
      refine m_zald C 31 131 48 rfl rfl (by decide) hc3 hc4 (pc := 17) d_MM_isGate_17 ?_
      obtain ⟨hc5, h⟩ := h
      refine z_if_eq (tgt := 25) C (pc := 18) d_MM_isGate_18 (by decide) hc5 h (fun h => ?_) (fun h => ?_)
      · refine z_iconst C (pc := 25) d_MM_isGate_25 ?_
        exact z_zret C R (pc := 26) d_MM_isGate_26 (by decide) h
      · refine z_iconst C (pc := 21) d_MM_isGate_21 ?_
        refine z_goto (tgt := 26) C (pc := 22) d_MM_isGate_22 (by decide) ?_
        exact z_zret C R (pc := 26) d_MM_isGate_26 (by decide) h
theorem d_MM_cellAt_0 : decode b_MM_cellAt 0 = .ok (.aload_n 0, 1) := by decide +kernel
theorem d_MM_cellAt_1 : decode b_MM_cellAt 1 = .ok (.getfield 171, 3) := by decide +kernel
theorem d_MM_cellAt_4 : decode b_MM_cellAt 4 = .ok (.ifCond .ne 6, 3) := by decide +kernel
theorem d_MM_cellAt_7 : decode b_MM_cellAt 7 = .ok (.bipush (-6), 2) := by decide +kernel
theorem d_MM_cellAt_9 : decode b_MM_cellAt 9 = .ok (.ireturn, 1) := by decide +kernel
theorem d_MM_cellAt_10 : decode b_MM_cellAt 10 = .ok (.aload_n 0, 1) := by decide +kernel
theorem d_MM_cellAt_11 : decode b_MM_cellAt 11 = .ok (.iload_n 1, 1) := by decide +kernel
theorem d_MM_cellAt_12 : decode b_MM_cellAt 12 = .ok (.invokevirtual 291, 3) := by decide +kernel
theorem d_MM_cellAt_15 : decode b_MM_cellAt 15 = .ok (.ifCond .eq 12, 3) := by decide +kernel
theorem d_MM_cellAt_18 : decode b_MM_cellAt 18 = .ok (.aload_n 0, 1) := by decide +kernel
theorem d_MM_cellAt_19 : decode b_MM_cellAt 19 = .ok (.getfield 77, 3) := by decide +kernel
theorem d_MM_cellAt_22 : decode b_MM_cellAt 22 = .ok (.iload_n 1, 1) := by decide +kernel
theorem d_MM_cellAt_23 : decode b_MM_cellAt 23 = .ok (.iaload, 1) := by decide +kernel
theorem d_MM_cellAt_24 : decode b_MM_cellAt 24 = .ok (.goto 4, 3) := by decide +kernel
theorem d_MM_cellAt_27 : decode b_MM_cellAt 27 = .ok (.iconst (-1), 1) := by decide +kernel
theorem d_MM_cellAt_28 : decode b_MM_cellAt 28 = .ok (.ireturn, 1) := by decide +kernel
def wp_MM_cellAt (Q : Int → zS → Prop) (v1 : Int) (σ : zS) : Prop :=
  zc (σ 124 0) ∧ ((σ 124 0 = 0 →
    Q (-6) σ) ∧
   (¬ σ 124 0 = 0 →
    wp_MM_isGate (fun r3 σ2 =>
      zc r3 ∧ ((r3 = 0 →
        Q (-1) σ2) ∧
       (¬ r3 = 0 →
        0 ≤ v1 ∧ v1 < 48 ∧ 
        Q (σ2 129 v1) σ2))) v1 σ))
set_option maxHeartbeats 4000000 in
set_option maxRecDepth 100000 in
theorem c_MM_cellAt (l : Launch) (D : va_G) (g : zG) (ad : zA) (v1 : Int) (Q : Int → zS → Prop) (σ : zS) (h : wp_MM_cellAt Q v1 σ) : zMi l y_MM_cellAt b_MM_cellAt 2 (some .int) { frames := 1, cells := 0, slots := 0, locals := 21 } D g ad σ [.ref (ad (0, 3)), .int (zi v1)] Q := by
  unfold wp_MM_cellAt at h
  refine zM_of (by decide) (Nat.le_of_ble_eq_true rfl) (fun E C R hl => ?_)
  have C : zX E b_MM_cellAt R_MM D g { frames := 1, cells := 0, slots := 0, locals := 21 } 2 := C
  refine z_sub (L' := [(0, .ref (ad (0, 3))), (1, .int (zi v1))]) [0, 1] rfl ?_
  refine z_aload_n C (pc := 0) d_MM_cellAt_0 0 rfl ?_
  refine m_getI C 24 124 rfl (by decide) rfl wd_728 (pc := 1) d_MM_cellAt_1 ?_
  obtain ⟨hc1, h⟩ := h
  refine z_if_ne (tgt := 10) C (pc := 4) d_MM_cellAt_4 (by decide) hc1 h (fun h => ?_) (fun h => ?_)
  · refine z_aload_n C (pc := 10) d_MM_cellAt_10 0 rfl ?_
    refine z_iload_n C (pc := 11) d_MM_cellAt_11 1 rfl ?_
    refine m_calli (As := [.int (zi v1)]) C fy_MM_isGate rfl wd_1054 (pc := 12) d_MM_cellAt_12 ⟨rfl, rfl, Nat.le_of_ble_eq_true rfl, Nat.le_of_ble_eq_true rfl⟩ rfl rfl (Nat.le_of_ble_eq_true rfl) h (c_MM_isGate (zln E) D g ad _ _ _) (fun r3 σ2 h => ?_)
    obtain ⟨hc4, h⟩ := h
    refine z_if_eq (tgt := 27) C (pc := 15) d_MM_cellAt_15 (by decide) hc4 h (fun h => ?_) (fun h => ?_)
    · refine z_iconst C (pc := 27) d_MM_cellAt_27 ?_
      exact z_iret C R (pc := 28) d_MM_cellAt_28 h
    · refine z_aload_n C (pc := 18) d_MM_cellAt_18 0 rfl ?_
      refine m_getA C 29 (by decide) rfl wd_733 (pc := 19) d_MM_cellAt_19 ?_
      refine z_iload_n C (pc := 22) d_MM_cellAt_22 1 rfl ?_
      obtain ⟨hc5, hc6, h⟩ := h
      refine m_iald C 29 129 48 rfl rfl (by decide) hc5 hc6 (pc := 23) d_MM_cellAt_23 ?_
      refine z_goto (tgt := 28) C (pc := 24) d_MM_cellAt_24 (by decide) ?_
      exact z_iret C R (pc := 28) d_MM_cellAt_28 h
  · refine z_bipush C (pc := 7) d_MM_cellAt_7 (by decide) ?_
    exact z_iret C R (pc := 9) d_MM_cellAt_9 h
theorem d_MM_period_0 : decode b_MM_period 0 = .ok (.aload_n 0, 1) := by decide +kernel
theorem d_MM_period_1 : decode b_MM_period 1 = .ok (.getfield 171, 3) := by decide +kernel
theorem d_MM_period_4 : decode b_MM_period 4 = .ok (.ifCond .eq 10, 3) := by decide +kernel
theorem d_MM_period_7 : decode b_MM_period 7 = .ok (.aload_n 0, 1) := by decide +kernel
theorem d_MM_period_8 : decode b_MM_period 8 = .ok (.getfield 237, 3) := by decide +kernel
theorem d_MM_period_11 : decode b_MM_period 11 = .ok (.goto 5, 3) := by decide +kernel
theorem d_MM_period_14 : decode b_MM_period 14 = .ok (.bipush (-6), 2) := by decide +kernel
theorem d_MM_period_16 : decode b_MM_period 16 = .ok (.ireturn, 1) := by decide +kernel
def wp_MM_period (Q : Int → zS → Prop) (σ : zS) : Prop :=
  zc (σ 124 0) ∧ ((σ 124 0 = 0 →
    Q (-6) σ) ∧
   (¬ σ 124 0 = 0 →
    Q (σ 144 0) σ))
set_option maxHeartbeats 4000000 in
set_option maxRecDepth 100000 in
theorem c_MM_period (l : Launch) (D : va_G) (g : zG) (ad : zA) (Q : Int → zS → Prop) (σ : zS) (h : wp_MM_period Q σ) : zMi l y_MM_period b_MM_period 1 (some .int) { frames := 0, cells := 0, slots := 0, locals := 0 } D g ad σ [.ref (ad (0, 3))] Q := by
  unfold wp_MM_period at h
  refine zM_of (by decide) (Nat.le_of_ble_eq_true rfl) (fun E C R hl => ?_)
  have C : zX E b_MM_period R_MM D g { frames := 0, cells := 0, slots := 0, locals := 0 } 1 := C
  refine z_sub (L' := [(0, .ref (ad (0, 3)))]) [0] rfl ?_
  refine z_aload_n C (pc := 0) d_MM_period_0 0 rfl ?_
  refine m_getI C 24 124 rfl (by decide) rfl wd_728 (pc := 1) d_MM_period_1 ?_
  obtain ⟨hc1, h⟩ := h
  refine z_if_eq (tgt := 14) C (pc := 4) d_MM_period_4 (by decide) hc1 h (fun h => ?_) (fun h => ?_)
  · refine z_bipush C (pc := 14) d_MM_period_14 (by decide) ?_
    exact z_iret C R (pc := 16) d_MM_period_16 h
  · refine z_aload_n C (pc := 7) d_MM_period_7 0 rfl ?_
    refine m_getI C 44 144 rfl (by decide) rfl wd_748 (pc := 8) d_MM_period_8 ?_
    refine z_goto (tgt := 16) C (pc := 11) d_MM_period_11 (by decide) ?_
    exact z_iret C R (pc := 16) d_MM_period_16 h
theorem d_MM_shortest_0 : decode b_MM_shortest 0 = .ok (.aload_n 0, 1) := by decide +kernel
theorem d_MM_shortest_1 : decode b_MM_shortest 1 = .ok (.getfield 171, 3) := by decide +kernel
theorem d_MM_shortest_4 : decode b_MM_shortest 4 = .ok (.ifCond .eq 10, 3) := by decide +kernel
theorem d_MM_shortest_7 : decode b_MM_shortest 7 = .ok (.aload_n 0, 1) := by decide +kernel
theorem d_MM_shortest_8 : decode b_MM_shortest 8 = .ok (.getfield 246, 3) := by decide +kernel
theorem d_MM_shortest_11 : decode b_MM_shortest 11 = .ok (.goto 5, 3) := by decide +kernel
theorem d_MM_shortest_14 : decode b_MM_shortest 14 = .ok (.bipush (-6), 2) := by decide +kernel
theorem d_MM_shortest_16 : decode b_MM_shortest 16 = .ok (.ireturn, 1) := by decide +kernel
def wp_MM_shortest (Q : Int → zS → Prop) (σ : zS) : Prop :=
  zc (σ 124 0) ∧ ((σ 124 0 = 0 →
    Q (-6) σ) ∧
   (¬ σ 124 0 = 0 →
    Q (σ 145 0) σ))
set_option maxHeartbeats 4000000 in
set_option maxRecDepth 100000 in
theorem c_MM_shortest (l : Launch) (D : va_G) (g : zG) (ad : zA) (Q : Int → zS → Prop) (σ : zS) (h : wp_MM_shortest Q σ) : zMi l y_MM_shortest b_MM_shortest 1 (some .int) { frames := 0, cells := 0, slots := 0, locals := 0 } D g ad σ [.ref (ad (0, 3))] Q := by
  unfold wp_MM_shortest at h
  refine zM_of (by decide) (Nat.le_of_ble_eq_true rfl) (fun E C R hl => ?_)
  have C : zX E b_MM_shortest R_MM D g { frames := 0, cells := 0, slots := 0, locals := 0 } 1 := C
  refine z_sub (L' := [(0, .ref (ad (0, 3)))]) [0] rfl ?_
  refine z_aload_n C (pc := 0) d_MM_shortest_0 0 rfl ?_
  refine m_getI C 24 124 rfl (by decide) rfl wd_728 (pc := 1) d_MM_shortest_1 ?_
  obtain ⟨hc1, h⟩ := h
  refine z_if_eq (tgt := 14) C (pc := 4) d_MM_shortest_4 (by decide) hc1 h (fun h => ?_) (fun h => ?_)
  · refine z_bipush C (pc := 14) d_MM_shortest_14 (by decide) ?_
    exact z_iret C R (pc := 16) d_MM_shortest_16 h
  · refine z_aload_n C (pc := 7) d_MM_shortest_7 0 rfl ?_
    refine m_getI C 45 145 rfl (by decide) rfl wd_749 (pc := 8) d_MM_shortest_8 ?_
    refine z_goto (tgt := 16) C (pc := 11) d_MM_shortest_11 (by decide) ?_
    exact z_iret C R (pc := 16) d_MM_shortest_16 h
theorem d_MM_moves_0 : decode b_MM_moves 0 = .ok (.aload_n 0, 1) := by decide +kernel
theorem d_MM_moves_1 : decode b_MM_moves 1 = .ok (.getfield 171, 3) := by decide +kernel
theorem d_MM_moves_4 : decode b_MM_moves 4 = .ok (.ifCond .ne 6, 3) := by decide +kernel
theorem d_MM_moves_7 : decode b_MM_moves 7 = .ok (.bipush (-6), 2) := by decide +kernel
theorem d_MM_moves_9 : decode b_MM_moves 9 = .ok (.ireturn, 1) := by decide +kernel
theorem d_MM_moves_10 : decode b_MM_moves 10 = .ok (.aload_n 0, 1) := by decide +kernel
theorem d_MM_moves_11 : decode b_MM_moves 11 = .ok (.iload_n 1, 1) := by decide +kernel
theorem d_MM_moves_12 : decode b_MM_moves 12 = .ok (.invokevirtual 291, 3) := by decide +kernel
theorem d_MM_moves_15 : decode b_MM_moves 15 = .ok (.ifCond .eq 12, 3) := by decide +kernel
theorem d_MM_moves_18 : decode b_MM_moves 18 = .ok (.aload_n 0, 1) := by decide +kernel
theorem d_MM_moves_19 : decode b_MM_moves 19 = .ok (.getfield 117, 3) := by decide +kernel
theorem d_MM_moves_22 : decode b_MM_moves 22 = .ok (.iload_n 1, 1) := by decide +kernel
theorem d_MM_moves_23 : decode b_MM_moves 23 = .ok (.iaload, 1) := by decide +kernel
theorem d_MM_moves_24 : decode b_MM_moves 24 = .ok (.goto 4, 3) := by decide +kernel
theorem d_MM_moves_27 : decode b_MM_moves 27 = .ok (.iconst (-1), 1) := by decide +kernel
theorem d_MM_moves_28 : decode b_MM_moves 28 = .ok (.ireturn, 1) := by decide +kernel
def wp_MM_moves (Q : Int → zS → Prop) (v1 : Int) (σ : zS) : Prop :=
  zc (σ 124 0) ∧ ((σ 124 0 = 0 →
    Q (-6) σ) ∧
   (¬ σ 124 0 = 0 →
    wp_MM_isGate (fun r3 σ2 =>
      zc r3 ∧ ((r3 = 0 →
        Q (-1) σ2) ∧
       (¬ r3 = 0 →
        0 ≤ v1 ∧ v1 < 48 ∧ 
        Q (σ2 143 v1) σ2))) v1 σ))
set_option maxHeartbeats 4000000 in
set_option maxRecDepth 100000 in
theorem c_MM_moves (l : Launch) (D : va_G) (g : zG) (ad : zA) (v1 : Int) (Q : Int → zS → Prop) (σ : zS) (h : wp_MM_moves Q v1 σ) : zMi l y_MM_moves b_MM_moves 2 (some .int) { frames := 1, cells := 0, slots := 0, locals := 21 } D g ad σ [.ref (ad (0, 3)), .int (zi v1)] Q := by
  unfold wp_MM_moves at h
  refine zM_of (by decide) (Nat.le_of_ble_eq_true rfl) (fun E C R hl => ?_)
  have C : zX E b_MM_moves R_MM D g { frames := 1, cells := 0, slots := 0, locals := 21 } 2 := C
  refine z_sub (L' := [(0, .ref (ad (0, 3))), (1, .int (zi v1))]) [0, 1] rfl ?_
  refine z_aload_n C (pc := 0) d_MM_moves_0 0 rfl ?_
  refine m_getI C 24 124 rfl (by decide) rfl wd_728 (pc := 1) d_MM_moves_1 ?_
  obtain ⟨hc1, h⟩ := h
  refine z_if_ne (tgt := 10) C (pc := 4) d_MM_moves_4 (by decide) hc1 h (fun h => ?_) (fun h => ?_)
  · refine z_aload_n C (pc := 10) d_MM_moves_10 0 rfl ?_
    refine z_iload_n C (pc := 11) d_MM_moves_11 1 rfl ?_
    refine m_calli (As := [.int (zi v1)]) C fy_MM_isGate rfl wd_1054 (pc := 12) d_MM_moves_12 ⟨rfl, rfl, Nat.le_of_ble_eq_true rfl, Nat.le_of_ble_eq_true rfl⟩ rfl rfl (Nat.le_of_ble_eq_true rfl) h (c_MM_isGate (zln E) D g ad _ _ _) (fun r3 σ2 h => ?_)
    obtain ⟨hc4, h⟩ := h
    refine z_if_eq (tgt := 27) C (pc := 15) d_MM_moves_15 (by decide) hc4 h (fun h => ?_) (fun h => ?_)
    · refine z_iconst C (pc := 27) d_MM_moves_27 ?_
      exact z_iret C R (pc := 28) d_MM_moves_28 h
    · refine z_aload_n C (pc := 18) d_MM_moves_18 0 rfl ?_
      refine m_getA C 43 (by decide) rfl wd_747 (pc := 19) d_MM_moves_19 ?_
      refine z_iload_n C (pc := 22) d_MM_moves_22 1 rfl ?_
      obtain ⟨hc5, hc6, h⟩ := h
      refine m_iald C 43 143 48 rfl rfl (by decide) hc5 hc6 (pc := 23) d_MM_moves_23 ?_
      refine z_goto (tgt := 28) C (pc := 24) d_MM_moves_24 (by decide) ?_
      exact z_iret C R (pc := 28) d_MM_moves_28 h
  · refine z_bipush C (pc := 7) d_MM_moves_7 (by decide) ?_
    exact z_iret C R (pc := 9) d_MM_moves_9 h
theorem d_MM_latches_0 : decode b_MM_latches 0 = .ok (.aload_n 0, 1) := by decide +kernel
theorem d_MM_latches_1 : decode b_MM_latches 1 = .ok (.getfield 171, 3) := by decide +kernel
theorem d_MM_latches_4 : decode b_MM_latches 4 = .ok (.ifCond .ne 7, 3) := by decide +kernel
theorem d_MM_latches_7 : decode b_MM_latches 7 = .ok (.ldc2_w 294, 3) := by decide +kernel
theorem d_MM_latches_10 : decode b_MM_latches 10 = .ok (.lreturn, 1) := by decide +kernel
theorem d_MM_latches_11 : decode b_MM_latches 11 = .ok (.iload_n 1, 1) := by decide +kernel
theorem d_MM_latches_12 : decode b_MM_latches 12 = .ok (.iconst (-1), 1) := by decide +kernel
theorem d_MM_latches_13 : decode b_MM_latches 13 = .ok (.if_icmp .ne 23, 3) := by decide +kernel
theorem d_MM_latches_16 : decode b_MM_latches 16 = .ok (.iload_n 2, 1) := by decide +kernel
theorem d_MM_latches_17 : decode b_MM_latches 17 = .ok (.ifCond .lt 15, 3) := by decide +kernel
theorem d_MM_latches_20 : decode b_MM_latches 20 = .ok (.iload_n 2, 1) := by decide +kernel
theorem d_MM_latches_21 : decode b_MM_latches 21 = .ok (.aload_n 0, 1) := by decide +kernel
theorem d_MM_latches_22 : decode b_MM_latches 22 = .ok (.getfield 194, 3) := by decide +kernel
theorem d_MM_latches_25 : decode b_MM_latches 25 = .ok (.if_icmp .ge 7, 3) := by decide +kernel
theorem d_MM_latches_28 : decode b_MM_latches 28 = .ok (.iconst 1, 1) := by decide +kernel
theorem d_MM_latches_29 : decode b_MM_latches 29 = .ok (.goto 29, 3) := by decide +kernel
theorem d_MM_latches_32 : decode b_MM_latches 32 = .ok (.iconst 0, 1) := by decide +kernel
theorem d_MM_latches_33 : decode b_MM_latches 33 = .ok (.goto 25, 3) := by decide +kernel
theorem d_MM_latches_36 : decode b_MM_latches 36 = .ok (.aload_n 0, 1) := by decide +kernel
theorem d_MM_latches_37 : decode b_MM_latches 37 = .ok (.iload_n 1, 1) := by decide +kernel
theorem d_MM_latches_38 : decode b_MM_latches 38 = .ok (.invokevirtual 291, 3) := by decide +kernel
theorem d_MM_latches_41 : decode b_MM_latches 41 = .ok (.ifCond .eq 16, 3) := by decide +kernel
theorem d_MM_latches_44 : decode b_MM_latches 44 = .ok (.iload_n 2, 1) := by decide +kernel
theorem d_MM_latches_45 : decode b_MM_latches 45 = .ok (.ifCond .lt 12, 3) := by decide +kernel
theorem d_MM_latches_48 : decode b_MM_latches 48 = .ok (.iload_n 2, 1) := by decide +kernel
theorem d_MM_latches_49 : decode b_MM_latches 49 = .ok (.iconst 4, 1) := by decide +kernel
theorem d_MM_latches_50 : decode b_MM_latches 50 = .ok (.if_icmp .ge 7, 3) := by decide +kernel
theorem d_MM_latches_53 : decode b_MM_latches 53 = .ok (.iconst 1, 1) := by decide +kernel
theorem d_MM_latches_54 : decode b_MM_latches 54 = .ok (.goto 4, 3) := by decide +kernel
theorem d_MM_latches_57 : decode b_MM_latches 57 = .ok (.iconst 0, 1) := by decide +kernel
theorem d_MM_latches_58 : decode b_MM_latches 58 = .ok (.istore_n 3, 1) := by decide +kernel
theorem d_MM_latches_59 : decode b_MM_latches 59 = .ok (.iload_n 1, 1) := by decide +kernel
theorem d_MM_latches_60 : decode b_MM_latches 60 = .ok (.iconst (-1), 1) := by decide +kernel
theorem d_MM_latches_61 : decode b_MM_latches 61 = .ok (.if_icmp .ne 11, 3) := by decide +kernel
theorem d_MM_latches_64 : decode b_MM_latches 64 = .ok (.sipush 192, 3) := by decide +kernel
theorem d_MM_latches_67 : decode b_MM_latches 67 = .ok (.iload_n 2, 1) := by decide +kernel
theorem d_MM_latches_68 : decode b_MM_latches 68 = .ok (.iadd, 1) := by decide +kernel
theorem d_MM_latches_69 : decode b_MM_latches 69 = .ok (.goto 8, 3) := by decide +kernel
theorem d_MM_latches_72 : decode b_MM_latches 72 = .ok (.iconst 4, 1) := by decide +kernel
theorem d_MM_latches_73 : decode b_MM_latches 73 = .ok (.iload_n 1, 1) := by decide +kernel
theorem d_MM_latches_74 : decode b_MM_latches 74 = .ok (.imul, 1) := by decide +kernel
theorem d_MM_latches_75 : decode b_MM_latches 75 = .ok (.iload_n 2, 1) := by decide +kernel
theorem d_MM_latches_76 : decode b_MM_latches 76 = .ok (.iadd, 1) := by decide +kernel
theorem d_MM_latches_77 : decode b_MM_latches 77 = .ok (.istore 4, 2) := by decide +kernel
theorem d_MM_latches_79 : decode b_MM_latches 79 = .ok (.iload_n 3, 1) := by decide +kernel
theorem d_MM_latches_80 : decode b_MM_latches 80 = .ok (.ifCond .eq 13, 3) := by decide +kernel
theorem d_MM_latches_83 : decode b_MM_latches 83 = .ok (.aload_n 0, 1) := by decide +kernel
theorem d_MM_latches_84 : decode b_MM_latches 84 = .ok (.getfield 92, 3) := by decide +kernel
theorem d_MM_latches_87 : decode b_MM_latches 87 = .ok (.iload 4, 2) := by decide +kernel
theorem d_MM_latches_89 : decode b_MM_latches 89 = .ok (.iaload, 1) := by decide +kernel
theorem d_MM_latches_90 : decode b_MM_latches 90 = .ok (.ifCond .ge 7, 3) := by decide +kernel
theorem d_MM_latches_93 : decode b_MM_latches 93 = .ok (.ldc2_w 296, 3) := by decide +kernel
theorem d_MM_latches_96 : decode b_MM_latches 96 = .ok (.lreturn, 1) := by decide +kernel
theorem d_MM_latches_97 : decode b_MM_latches 97 = .ok (.aload_n 0, 1) := by decide +kernel
theorem d_MM_latches_98 : decode b_MM_latches 98 = .ok (.getfield 102, 3) := by decide +kernel
theorem d_MM_latches_101 : decode b_MM_latches 101 = .ok (.iload 4, 2) := by decide +kernel
theorem d_MM_latches_103 : decode b_MM_latches 103 = .ok (.iaload, 1) := by decide +kernel
theorem d_MM_latches_104 : decode b_MM_latches 104 = .ok (.i2l, 1) := by decide +kernel
theorem d_MM_latches_105 : decode b_MM_latches 105 = .ok (.ldc2_w 298, 3) := by decide +kernel
theorem d_MM_latches_108 : decode b_MM_latches 108 = .ok (.aload_n 0, 1) := by decide +kernel
theorem d_MM_latches_109 : decode b_MM_latches 109 = .ok (.getfield 105, 3) := by decide +kernel
theorem d_MM_latches_112 : decode b_MM_latches 112 = .ok (.iload 4, 2) := by decide +kernel
theorem d_MM_latches_114 : decode b_MM_latches 114 = .ok (.laload, 1) := by decide +kernel
theorem d_MM_latches_115 : decode b_MM_latches 115 = .ok (.lmul, 1) := by decide +kernel
theorem d_MM_latches_116 : decode b_MM_latches 116 = .ok (.ladd, 1) := by decide +kernel
theorem d_MM_latches_117 : decode b_MM_latches 117 = .ok (.lreturn, 1) := by decide +kernel
def bk_MM_latches_77 (Q : Int → zS → Prop) (v3 : Int) (z0 : Int) (σ : zS) : Prop :=
  zc v3 ∧ ((v3 = 0 →
    Q (-1) σ) ∧
   (¬ v3 = 0 →
    0 ≤ z0 ∧ z0 < 196 ∧ 
    zc (σ 135 z0) ∧ ((0 ≤ σ 135 z0 →
      zc (σ 138 z0) ∧ 
      Q ((σ 138 z0) + (64 * (σ 139 z0))) σ) ∧
     (¬ 0 ≤ σ 135 z0 →
      Q (-1) σ))))
def bk_MM_latches_58 (Q : Int → zS → Prop) (v1 : Int) (v2 : Int) (z0 : Int) (σ : zS) : Prop :=
  zc v1 ∧ ((v1 = (-1) →
    bk_MM_latches_77 Q z0 (192 + v2) σ) ∧
   (¬ v1 = (-1) →
    bk_MM_latches_77 Q z0 ((4 * v1) + v2) σ))
def bk_MM_latches_57 (Q : Int → zS → Prop) (v1 : Int) (v2 : Int) (σ : zS) : Prop :=
  bk_MM_latches_58 Q v1 v2 0 σ
def bk_MM_latches_32 (Q : Int → zS → Prop) (v1 : Int) (v2 : Int) (σ : zS) : Prop :=
  bk_MM_latches_58 Q v1 v2 0 σ
def wp_MM_latches (Q : Int → zS → Prop) (v1 : Int) (v2 : Int) (σ : zS) : Prop :=
  zc (σ 124 0) ∧ ((σ 124 0 = 0 →
    Q (-6) σ) ∧
   (¬ σ 124 0 = 0 →
    zc v1 ∧ ((v1 = (-1) →
      zc v2 ∧ ((v2 < 0 →
        bk_MM_latches_32 Q v1 v2 σ) ∧
       (¬ v2 < 0 →
        zc (σ 118 0) ∧ ((σ 118 0 ≤ v2 →
          bk_MM_latches_32 Q v1 v2 σ) ∧
         (¬ σ 118 0 ≤ v2 →
          bk_MM_latches_58 Q v1 v2 1 σ))))) ∧
     (¬ v1 = (-1) →
      wp_MM_isGate (fun r4 σ3 =>
        zc r4 ∧ ((r4 = 0 →
          bk_MM_latches_57 Q v1 v2 σ3) ∧
         (¬ r4 = 0 →
          zc v2 ∧ ((v2 < 0 →
            bk_MM_latches_57 Q v1 v2 σ3) ∧
           (¬ v2 < 0 →
            ((4 ≤ v2 →
              bk_MM_latches_57 Q v1 v2 σ3) ∧
             (¬ 4 ≤ v2 →
              bk_MM_latches_58 Q v1 v2 1 σ3))))))) v1 σ))))
set_option maxHeartbeats 4000000 in
set_option maxRecDepth 100000 in
theorem wk_MM_latches_77 {E : zE} {D : va_G} {g : zG} {A : Nat → Prop} {ad : zA} {Q : Int → zS → Prop} (C : zX E b_MM_latches R_MM D g { frames := 1, cells := 0, slots := 0, locals := 21 } 5) (R : zRt E (some .long) (zQl D g ad Q A) 0 0 A) (v3 : Int) (z0 : Int) (σ : zS) (h : bk_MM_latches_77 Q v3 z0 σ) : zW E (zOK D A (zst E) g ad) 0 0 77 [(0, .ref (ad (0, 3))), (3, .int (zi v3))] [.int (zi z0)] σ := by
  unfold bk_MM_latches_77 at h
  refine z_istore (L' := [(4, .int (zi z0)), (0, .ref (ad (0, 3))), (3, .int (zi v3))]) C (pc := 77) d_MM_latches_77 (by decide) rfl ?_
  refine z_iload_n C (pc := 79) d_MM_latches_79 2 rfl ?_
  obtain ⟨hc7, h⟩ := h
  refine z_if_eq (tgt := 93) C (pc := 80) d_MM_latches_80 (by decide) hc7 h (fun h => ?_) (fun h => ?_)
  · refine z_ldc2 (x := (-1)) C (pc := 93) d_MM_latches_93 wd_1075 (by decide) ?_
    exact z_lret C R (pc := 96) d_MM_latches_96 h
  · refine z_aload_n C (pc := 83) d_MM_latches_83 1 rfl ?_
    refine m_getA C 35 (by decide) rfl wd_739 (pc := 84) d_MM_latches_84 ?_
    refine z_iload C (pc := 87) d_MM_latches_87 0 rfl ?_
    obtain ⟨hc8, hc9, h⟩ := h
    refine m_iald C 35 135 196 rfl rfl (by decide) hc8 hc9 (pc := 89) d_MM_latches_89 ?_
    obtain ⟨hc10, h⟩ := h
    refine z_if_ge (tgt := 97) C (pc := 90) d_MM_latches_90 (by decide) hc10 h (fun h => ?_) (fun h => ?_)
    · refine z_aload_n C (pc := 97) d_MM_latches_97 1 rfl ?_
      refine m_getA C 38 (by decide) rfl wd_742 (pc := 98) d_MM_latches_98 ?_
      refine z_iload C (pc := 101) d_MM_latches_101 0 rfl ?_
      refine m_iald C 38 138 196 rfl rfl (by decide) hc8 hc9 (pc := 103) d_MM_latches_103 ?_
      obtain ⟨hc13, h⟩ := h
      refine z_i2l C (pc := 104) d_MM_latches_104 hc13 ?_
      refine z_ldc2 (x := 64) C (pc := 105) d_MM_latches_105 wd_1076 (by decide) ?_
      refine z_aload_n C (pc := 108) d_MM_latches_108 1 rfl ?_
      refine m_getA C 39 (by decide) rfl wd_743 (pc := 109) d_MM_latches_109 ?_
      refine z_iload C (pc := 112) d_MM_latches_112 0 rfl ?_
      refine m_lald C 39 139 196 rfl rfl (by decide) hc8 hc9 (pc := 114) d_MM_latches_114 ?_
      refine z_lmul C (pc := 115) d_MM_latches_115 ?_
      refine z_ladd C (pc := 116) d_MM_latches_116 ?_
      exact z_lret C R (pc := 117) d_MM_latches_117 h
    · refine z_ldc2 (x := (-1)) C (pc := 93) d_MM_latches_93 wd_1075 (by decide) ?_
      exact z_lret C R (pc := 96) d_MM_latches_96 h
set_option maxHeartbeats 4000000 in
set_option maxRecDepth 100000 in
theorem wk_MM_latches_58 {E : zE} {D : va_G} {g : zG} {A : Nat → Prop} {ad : zA} {Q : Int → zS → Prop} (C : zX E b_MM_latches R_MM D g { frames := 1, cells := 0, slots := 0, locals := 21 } 5) (R : zRt E (some .long) (zQl D g ad Q A) 0 0 A) (v1 : Int) (v2 : Int) (z0 : Int) (σ : zS) (h : bk_MM_latches_58 Q v1 v2 z0 σ) : zW E (zOK D A (zst E) g ad) 0 0 58 [(0, .ref (ad (0, 3))), (1, .int (zi v1)), (2, .int (zi v2))] [.int (zi z0)] σ := by
  unfold bk_MM_latches_58 at h
  refine z_istore_n (L' := [(3, .int (zi z0)), (0, .ref (ad (0, 3))), (1, .int (zi v1)), (2, .int (zi v2))]) C (pc := 58) d_MM_latches_58 (by decide) rfl ?_
  refine z_iload_n C (pc := 59) d_MM_latches_59 2 rfl ?_
  refine z_iconst C (pc := 60) d_MM_latches_60 ?_
  obtain ⟨hc6, h⟩ := h
  refine z_icmp_ne (tgt := 72) C (pc := 61) d_MM_latches_61 (by decide) hc6 (by decide) h (fun h => ?_) (fun h => ?_)
  · refine z_iconst C (pc := 72) d_MM_latches_72 ?_
    refine z_iload_n C (pc := 73) d_MM_latches_73 2 rfl ?_
    refine z_imul C (pc := 74) d_MM_latches_74 ?_
    refine z_iload_n C (pc := 75) d_MM_latches_75 3 rfl ?_
    refine z_iadd C (pc := 76) d_MM_latches_76 ?_
    refine z_sub [1, 0] rfl ?_
    exact wk_MM_latches_77 C R _ _ _ h
  · refine z_sipush C (pc := 64) d_MM_latches_64 (by decide) ?_
    refine z_iload_n C (pc := 67) d_MM_latches_67 3 rfl ?_
    refine z_iadd C (pc := 68) d_MM_latches_68 ?_
    refine z_goto (tgt := 77) C (pc := 69) d_MM_latches_69 (by decide) ?_
    refine z_sub [1, 0] rfl ?_
    exact wk_MM_latches_77 C R _ _ _ h
set_option maxHeartbeats 4000000 in
set_option maxRecDepth 100000 in
theorem wk_MM_latches_57 {E : zE} {D : va_G} {g : zG} {A : Nat → Prop} {ad : zA} {Q : Int → zS → Prop} (C : zX E b_MM_latches R_MM D g { frames := 1, cells := 0, slots := 0, locals := 21 } 5) (R : zRt E (some .long) (zQl D g ad Q A) 0 0 A) (v1 : Int) (v2 : Int) (σ : zS) (h : bk_MM_latches_57 Q v1 v2 σ) : zW E (zOK D A (zst E) g ad) 0 0 57 [(0, .ref (ad (0, 3))), (1, .int (zi v1)), (2, .int (zi v2))] [] σ := by
  unfold bk_MM_latches_57 at h
  refine z_iconst C (pc := 57) d_MM_latches_57 ?_
  exact wk_MM_latches_58 C R _ _ _ _ h
set_option maxHeartbeats 4000000 in
set_option maxRecDepth 100000 in
theorem wk_MM_latches_32 {E : zE} {D : va_G} {g : zG} {A : Nat → Prop} {ad : zA} {Q : Int → zS → Prop} (C : zX E b_MM_latches R_MM D g { frames := 1, cells := 0, slots := 0, locals := 21 } 5) (R : zRt E (some .long) (zQl D g ad Q A) 0 0 A) (v1 : Int) (v2 : Int) (σ : zS) (h : bk_MM_latches_32 Q v1 v2 σ) : zW E (zOK D A (zst E) g ad) 0 0 32 [(0, .ref (ad (0, 3))), (1, .int (zi v1)), (2, .int (zi v2))] [] σ := by
  unfold bk_MM_latches_32 at h
  refine z_iconst C (pc := 32) d_MM_latches_32 ?_
  refine z_goto (tgt := 58) C (pc := 33) d_MM_latches_33 (by decide) ?_
  exact wk_MM_latches_58 C R _ _ _ _ h
set_option maxHeartbeats 4000000 in
set_option maxRecDepth 100000 in
theorem c_MM_latches (l : Launch) (D : va_G) (g : zG) (ad : zA) (v1 : Int) (v2 : Int) (Q : Int → zS → Prop) (σ : zS) (h : wp_MM_latches Q v1 v2 σ) : zMl l y_MM_latches b_MM_latches 5 (some .long) { frames := 1, cells := 0, slots := 0, locals := 21 } D g ad σ [.ref (ad (0, 3)), .int (zi v1), .int (zi v2)] Q := by
  unfold wp_MM_latches at h
  refine zM_of (by decide) (Nat.le_of_ble_eq_true rfl) (fun E C R hl => ?_)
  have C : zX E b_MM_latches R_MM D g { frames := 1, cells := 0, slots := 0, locals := 21 } 5 := C
  refine z_sub (L' := [(0, .ref (ad (0, 3))), (1, .int (zi v1)), (2, .int (zi v2))]) [0, 1, 2] rfl ?_
  refine z_aload_n C (pc := 0) d_MM_latches_0 0 rfl ?_
  refine m_getI C 24 124 rfl (by decide) rfl wd_728 (pc := 1) d_MM_latches_1 ?_
  obtain ⟨hc1, h⟩ := h
  refine z_if_ne (tgt := 11) C (pc := 4) d_MM_latches_4 (by decide) hc1 h (fun h => ?_) (fun h => ?_)
  · refine z_iload_n C (pc := 11) d_MM_latches_11 1 rfl ?_
    refine z_iconst C (pc := 12) d_MM_latches_12 ?_
    obtain ⟨hc2, h⟩ := h
    refine z_icmp_ne (tgt := 36) C (pc := 13) d_MM_latches_13 (by decide) hc2 (by decide) h (fun h => ?_) (fun h => ?_)
    · refine z_aload_n C (pc := 36) d_MM_latches_36 0 rfl ?_
      refine z_iload_n C (pc := 37) d_MM_latches_37 1 rfl ?_
      refine m_calli (As := [.int (zi v1)]) C fy_MM_isGate rfl wd_1054 (pc := 38) d_MM_latches_38 ⟨rfl, rfl, Nat.le_of_ble_eq_true rfl, Nat.le_of_ble_eq_true rfl⟩ rfl rfl (Nat.le_of_ble_eq_true rfl) h (c_MM_isGate (zln E) D g ad _ _ _) (fun r4 σ3 h => ?_)
      obtain ⟨hc5, h⟩ := h
      refine z_if_eq (tgt := 57) C (pc := 41) d_MM_latches_41 (by decide) hc5 h (fun h => ?_) (fun h => ?_)
      · exact wk_MM_latches_57 C R _ _ _ h
      · refine z_iload_n C (pc := 44) d_MM_latches_44 2 rfl ?_
        obtain ⟨hc16, h⟩ := h
        refine z_if_lt (tgt := 57) C (pc := 45) d_MM_latches_45 (by decide) hc16 h (fun h => ?_) (fun h => ?_)
        · exact wk_MM_latches_57 C R _ _ _ h
        · refine z_iload_n C (pc := 48) d_MM_latches_48 2 rfl ?_
          refine z_iconst C (pc := 49) d_MM_latches_49 ?_
          refine z_icmp_ge (tgt := 57) C (pc := 50) d_MM_latches_50 (by decide) hc16 (by decide) h (fun h => ?_) (fun h => ?_)
          · exact wk_MM_latches_57 C R _ _ _ h
          · refine z_iconst C (pc := 53) d_MM_latches_53 ?_
            refine z_goto (tgt := 58) C (pc := 54) d_MM_latches_54 (by decide) ?_
            exact wk_MM_latches_58 C R _ _ _ _ h
    · refine z_iload_n C (pc := 16) d_MM_latches_16 2 rfl ?_
      obtain ⟨hc17, h⟩ := h
      refine z_if_lt (tgt := 32) C (pc := 17) d_MM_latches_17 (by decide) hc17 h (fun h => ?_) (fun h => ?_)
      · exact wk_MM_latches_32 C R _ _ _ h
      · refine z_iload_n C (pc := 20) d_MM_latches_20 2 rfl ?_
        refine z_aload_n C (pc := 21) d_MM_latches_21 0 rfl ?_
        refine m_getI C 18 118 rfl (by decide) rfl wd_722 (pc := 22) d_MM_latches_22 ?_
        obtain ⟨hc18, h⟩ := h
        refine z_icmp_ge (tgt := 32) C (pc := 25) d_MM_latches_25 (by decide) hc17 hc18 h (fun h => ?_) (fun h => ?_)
        · exact wk_MM_latches_32 C R _ _ _ h
        · refine z_iconst C (pc := 28) d_MM_latches_28 ?_
          refine z_goto (tgt := 58) C (pc := 29) d_MM_latches_29 (by decide) ?_
          exact wk_MM_latches_58 C R _ _ _ _ h
  · refine z_ldc2 (x := (-6)) C (pc := 7) d_MM_latches_7 wd_1074 (by decide) ?_
    exact z_lret C R (pc := 10) d_MM_latches_10 h
theorem d_MM_entering_0 : decode b_MM_entering 0 = .ok (.iconst 0, 1) := by decide +kernel
theorem d_MM_entering_1 : decode b_MM_entering 1 = .ok (.istore_n 3, 1) := by decide +kernel
theorem d_MM_entering_2 : decode b_MM_entering 2 = .ok (.iconst 0, 1) := by decide +kernel
theorem d_MM_entering_3 : decode b_MM_entering 3 = .ok (.istore 4, 2) := by decide +kernel
theorem d_MM_entering_5 : decode b_MM_entering 5 = .ok (.iload 4, 2) := by decide +kernel
theorem d_MM_entering_7 : decode b_MM_entering 7 = .ok (.aload_n 0, 1) := by decide +kernel
theorem d_MM_entering_8 : decode b_MM_entering 8 = .ok (.getfield 49, 3) := by decide +kernel
theorem d_MM_entering_11 : decode b_MM_entering 11 = .ok (.iload_n 1, 1) := by decide +kernel
theorem d_MM_entering_12 : decode b_MM_entering 12 = .ok (.iaload, 1) := by decide +kernel
theorem d_MM_entering_13 : decode b_MM_entering 13 = .ok (.if_icmp .ge 27, 3) := by decide +kernel
theorem d_MM_entering_16 : decode b_MM_entering 16 = .ok (.aload_n 0, 1) := by decide +kernel
theorem d_MM_entering_17 : decode b_MM_entering 17 = .ok (.getfield 7, 3) := by decide +kernel
theorem d_MM_entering_20 : decode b_MM_entering 20 = .ok (.iload 4, 2) := by decide +kernel
theorem d_MM_entering_22 : decode b_MM_entering 22 = .ok (.iaload, 1) := by decide +kernel
theorem d_MM_entering_23 : decode b_MM_entering 23 = .ok (.ifCond .ne 9, 3) := by decide +kernel
theorem d_MM_entering_26 : decode b_MM_entering 26 = .ok (.iload_n 3, 1) := by decide +kernel
theorem d_MM_entering_27 : decode b_MM_entering 27 = .ok (.iconst 1, 1) := by decide +kernel
theorem d_MM_entering_28 : decode b_MM_entering 28 = .ok (.iadd, 1) := by decide +kernel
theorem d_MM_entering_29 : decode b_MM_entering 29 = .ok (.goto 4, 3) := by decide +kernel
theorem d_MM_entering_32 : decode b_MM_entering 32 = .ok (.iload_n 3, 1) := by decide +kernel
theorem d_MM_entering_33 : decode b_MM_entering 33 = .ok (.istore_n 3, 1) := by decide +kernel
theorem d_MM_entering_34 : decode b_MM_entering 34 = .ok (.iinc 4 1, 3) := by decide +kernel
theorem d_MM_entering_37 : decode b_MM_entering 37 = .ok (.goto (-32), 3) := by decide +kernel
theorem d_MM_entering_40 : decode b_MM_entering 40 = .ok (.iload_n 2, 1) := by decide +kernel
theorem d_MM_entering_41 : decode b_MM_entering 41 = .ok (.iload_n 3, 1) := by decide +kernel
theorem d_MM_entering_42 : decode b_MM_entering 42 = .ok (.ishr, 1) := by decide +kernel
theorem d_MM_entering_43 : decode b_MM_entering 43 = .ok (.iconst 1, 1) := by decide +kernel
theorem d_MM_entering_44 : decode b_MM_entering 44 = .ok (.iand, 1) := by decide +kernel
theorem d_MM_entering_45 : decode b_MM_entering 45 = .ok (.ireturn, 1) := by decide +kernel
def bk_MM_entering_33 (Q : Int → zS → Prop) (J5 : Int → Int → Int → Int → zS → Prop) (v1 : Int) (v2 : Int) (v4 : Int) (z0 : Int) (σ : zS) : Prop :=
  J5 v1 v2 z0 (v4 + 1) σ
def lp_MM_entering_5 (Q : Int → zS → Prop) : Nat → Int → Int → Int → Int → zS → Prop
  | 0 => fun _ _ _ _ _ => False
  | n + 1 => fun v1 v2 v3 v4 σ =>
    0 ≤ v1 ∧ v1 < 48 ∧ 
    zc v4 ∧ zc (σ 117 v1) ∧ ((σ 117 v1 ≤ v4 →
      Q (zand (zshr v2 v3) 1) σ) ∧
     (¬ σ 117 v1 ≤ v4 →
      0 ≤ v4 ∧ v4 < 40 ∧ 
      zc (σ 101 v4) ∧ ((σ 101 v4 = 0 →
        bk_MM_entering_33 Q (lp_MM_entering_5 Q n) v1 v2 v4 (v3 + 1) σ) ∧
       (¬ σ 101 v4 = 0 →
        bk_MM_entering_33 Q (lp_MM_entering_5 Q n) v1 v2 v4 v3 σ))))
def wp_MM_entering (Q : Int → zS → Prop) (v1 : Int) (v2 : Int) (σ : zS) : Prop :=
  ∃ u5, lp_MM_entering_5 Q u5 v1 v2 0 0 σ
set_option maxHeartbeats 4000000 in
set_option maxRecDepth 100000 in
theorem wk_MM_entering_33 {E : zE} {D : va_G} {g : zG} {A : Nat → Prop} {ad : zA} {Q : Int → zS → Prop} {J5 : Int → Int → Int → Int → zS → Prop} (C : zX E b_MM_entering R_MM D g { frames := 0, cells := 0, slots := 0, locals := 0 } 5) (R : zRt E (some .int) (zQi D g ad Q A) 0 0 A) (hJ5 : ∀ (v1 : Int) (v2 : Int) (v3 : Int) (v4 : Int) (σ : zS), J5 v1 v2 v3 v4 σ → zW E (zOK D A (zst E) g ad) 0 0 5 [(0, .ref (ad (0, 3))), (1, .int (zi v1)), (2, .int (zi v2)), (3, .int (zi v3)), (4, .int (zi v4))] [] σ) (v1 : Int) (v2 : Int) (v4 : Int) (z0 : Int) (σ : zS) (h : bk_MM_entering_33 Q J5 v1 v2 v4 z0 σ) : zW E (zOK D A (zst E) g ad) 0 0 33 [(0, .ref (ad (0, 3))), (1, .int (zi v1)), (2, .int (zi v2)), (4, .int (zi v4))] [.int (zi z0)] σ := by
  unfold bk_MM_entering_33 at h
  refine z_istore_n (L' := [(3, .int (zi z0)), (0, .ref (ad (0, 3))), (1, .int (zi v1)), (2, .int (zi v2)), (4, .int (zi v4))]) C (pc := 33) d_MM_entering_33 (by decide) rfl ?_
  refine z_iinc (L' := [(4, .int (zi (v4 + 1))), (3, .int (zi z0)), (0, .ref (ad (0, 3))), (1, .int (zi v1)), (2, .int (zi v2))]) C (pc := 34) d_MM_entering_34 4 rfl (by decide) rfl ?_
  refine z_goto (tgt := 5) C (pc := 37) d_MM_entering_37 (by decide) ?_
  refine z_sub [2, 3, 4, 1, 0] rfl ?_
  exact hJ5 _ _ _ _ _ h
set_option maxHeartbeats 4000000 in
set_option maxRecDepth 100000 in
theorem wk_MM_entering_5 {E : zE} {D : va_G} {g : zG} {A : Nat → Prop} {ad : zA} {Q : Int → zS → Prop} (C : zX E b_MM_entering R_MM D g { frames := 0, cells := 0, slots := 0, locals := 0 } 5) (R : zRt E (some .int) (zQi D g ad Q A) 0 0 A) : ∀ (n : Nat) (v1 : Int) (v2 : Int) (v3 : Int) (v4 : Int) (σ : zS), lp_MM_entering_5 Q n v1 v2 v3 v4 σ → zW E (zOK D A (zst E) g ad) 0 0 5 [(0, .ref (ad (0, 3))), (1, .int (zi v1)), (2, .int (zi v2)), (3, .int (zi v3)), (4, .int (zi v4))] [] σ := by
  intro n
  induction n with
  | zero =>
    intro v1 v2 v3 v4 σ h
    exact h.elim
  | succ n ih =>
    intro v1 v2 v3 v4 σ h
    refine z_iload C (pc := 5) d_MM_entering_5 4 rfl ?_
    refine z_aload_n C (pc := 7) d_MM_entering_7 0 rfl ?_
    refine m_getA C 17 (by decide) rfl wd_721 (pc := 8) d_MM_entering_8 ?_
    refine z_iload_n C (pc := 11) d_MM_entering_11 1 rfl ?_
    obtain ⟨hc1, hc2, h⟩ := h
    refine m_iald C 17 117 48 rfl rfl (by decide) hc1 hc2 (pc := 12) d_MM_entering_12 ?_
    obtain ⟨hc3, hc4, h⟩ := h
    refine z_icmp_ge (tgt := 40) C (pc := 13) d_MM_entering_13 (by decide) hc3 hc4 h (fun h => ?_) (fun h => ?_)
    · refine z_iload_n C (pc := 40) d_MM_entering_40 2 rfl ?_
      refine z_iload_n C (pc := 41) d_MM_entering_41 3 rfl ?_
      refine z_ishr C (pc := 42) d_MM_entering_42 ?_
      refine z_iconst C (pc := 43) d_MM_entering_43 ?_
      refine z_iand C (pc := 44) d_MM_entering_44 ?_
      exact z_iret C R (pc := 45) d_MM_entering_45 h
    · refine z_aload_n C (pc := 16) d_MM_entering_16 0 rfl ?_
      refine m_getA C 1 (by decide) rfl wd_705 (pc := 17) d_MM_entering_17 ?_
      refine z_iload C (pc := 20) d_MM_entering_20 4 rfl ?_
      obtain ⟨hc5, hc6, h⟩ := h
      refine m_iald C 1 101 40 rfl rfl (by decide) hc5 hc6 (pc := 22) d_MM_entering_22 ?_
      obtain ⟨hc7, h⟩ := h
      refine z_if_ne (tgt := 32) C (pc := 23) d_MM_entering_23 (by decide) hc7 h (fun h => ?_) (fun h => ?_)
      · refine z_iload_n C (pc := 32) d_MM_entering_32 3 rfl ?_
        refine z_sub [0, 1, 2, 4] rfl ?_
        exact wk_MM_entering_33 C R ih _ _ _ _ _ h
      · refine z_iload_n C (pc := 26) d_MM_entering_26 3 rfl ?_
        refine z_iconst C (pc := 27) d_MM_entering_27 ?_
        refine z_iadd C (pc := 28) d_MM_entering_28 ?_
        refine z_goto (tgt := 33) C (pc := 29) d_MM_entering_29 (by decide) ?_
        refine z_sub [0, 1, 2, 4] rfl ?_
        exact wk_MM_entering_33 C R ih _ _ _ _ _ h
set_option maxHeartbeats 4000000 in
set_option maxRecDepth 100000 in
theorem c_MM_entering (l : Launch) (D : va_G) (g : zG) (ad : zA) (v1 : Int) (v2 : Int) (Q : Int → zS → Prop) (σ : zS) (h : wp_MM_entering Q v1 v2 σ) : zMi l y_MM_entering b_MM_entering 5 (some .int) { frames := 0, cells := 0, slots := 0, locals := 0 } D g ad σ [.ref (ad (0, 3)), .int (zi v1), .int (zi v2)] Q := by
  unfold wp_MM_entering at h
  refine zM_of (by decide) (Nat.le_of_ble_eq_true rfl) (fun E C R hl => ?_)
  have C : zX E b_MM_entering R_MM D g { frames := 0, cells := 0, slots := 0, locals := 0 } 5 := C
  refine z_sub (L' := [(0, .ref (ad (0, 3))), (1, .int (zi v1)), (2, .int (zi v2))]) [0, 1, 2] rfl ?_
  refine z_iconst C (pc := 0) d_MM_entering_0 ?_
  refine z_istore_n (L' := [(3, .int (zi 0)), (0, .ref (ad (0, 3))), (1, .int (zi v1)), (2, .int (zi v2))]) C (pc := 1) d_MM_entering_1 (by decide) rfl ?_
  refine z_iconst C (pc := 2) d_MM_entering_2 ?_
  refine z_istore (L' := [(4, .int (zi 0)), (3, .int (zi 0)), (0, .ref (ad (0, 3))), (1, .int (zi v1)), (2, .int (zi v2))]) C (pc := 3) d_MM_entering_3 (by decide) rfl ?_
  refine z_sub [2, 3, 4, 1, 0] rfl ?_
  obtain ⟨n8, h⟩ := h
  exact wk_MM_entering_5 C R n8 _ _ _ _ _ h
theorem d_MM_clock_0 : decode b_MM_clock 0 = .ok (.aload_n 0, 1) := by decide +kernel
theorem d_MM_clock_1 : decode b_MM_clock 1 = .ok (.invokevirtual 265, 3) := by decide +kernel
theorem d_MM_clock_4 : decode b_MM_clock 4 = .ok (.ifCond .eq 6, 3) := by decide +kernel
theorem d_MM_clock_7 : decode b_MM_clock 7 = .ok (.bipush (-3), 2) := by decide +kernel
theorem d_MM_clock_9 : decode b_MM_clock 9 = .ok (.ireturn, 1) := by decide +kernel
theorem d_MM_clock_10 : decode b_MM_clock 10 = .ok (.iconst 0, 1) := by decide +kernel
theorem d_MM_clock_11 : decode b_MM_clock 11 = .ok (.istore_n 2, 1) := by decide +kernel
theorem d_MM_clock_12 : decode b_MM_clock 12 = .ok (.iconst 0, 1) := by decide +kernel
theorem d_MM_clock_13 : decode b_MM_clock 13 = .ok (.istore_n 3, 1) := by decide +kernel
theorem d_MM_clock_14 : decode b_MM_clock 14 = .ok (.iload_n 3, 1) := by decide +kernel
theorem d_MM_clock_15 : decode b_MM_clock 15 = .ok (.aload_n 0, 1) := by decide +kernel
theorem d_MM_clock_16 : decode b_MM_clock 16 = .ok (.getfield 168, 3) := by decide +kernel
theorem d_MM_clock_19 : decode b_MM_clock 19 = .ok (.if_icmp .ge 157, 3) := by decide +kernel
theorem d_MM_clock_22 : decode b_MM_clock 22 = .ok (.aload_n 0, 1) := by decide +kernel
theorem d_MM_clock_23 : decode b_MM_clock 23 = .ok (.getfield 7, 3) := by decide +kernel
theorem d_MM_clock_26 : decode b_MM_clock 26 = .ok (.iload_n 3, 1) := by decide +kernel
theorem d_MM_clock_27 : decode b_MM_clock 27 = .ok (.iaload, 1) := by decide +kernel
theorem d_MM_clock_28 : decode b_MM_clock 28 = .ok (.ifCond .ne 23, 3) := by decide +kernel
theorem d_MM_clock_31 : decode b_MM_clock 31 = .ok (.aload_n 0, 1) := by decide +kernel
theorem d_MM_clock_32 : decode b_MM_clock 32 = .ok (.getfield 37, 3) := by decide +kernel
theorem d_MM_clock_35 : decode b_MM_clock 35 = .ok (.iload_n 3, 1) := by decide +kernel
theorem d_MM_clock_36 : decode b_MM_clock 36 = .ok (.aload_n 0, 1) := by decide +kernel
theorem d_MM_clock_37 : decode b_MM_clock 37 = .ok (.aload_n 0, 1) := by decide +kernel
theorem d_MM_clock_38 : decode b_MM_clock 38 = .ok (.getfield 13, 3) := by decide +kernel
theorem d_MM_clock_41 : decode b_MM_clock 41 = .ok (.iload_n 3, 1) := by decide +kernel
theorem d_MM_clock_42 : decode b_MM_clock 42 = .ok (.iaload, 1) := by decide +kernel
theorem d_MM_clock_43 : decode b_MM_clock 43 = .ok (.iload_n 1, 1) := by decide +kernel
theorem d_MM_clock_44 : decode b_MM_clock 44 = .ok (.invokevirtual 300, 3) := by decide +kernel
theorem d_MM_clock_47 : decode b_MM_clock 47 = .ok (.iastore, 1) := by decide +kernel
theorem d_MM_clock_48 : decode b_MM_clock 48 = .ok (.goto 122, 3) := by decide +kernel
theorem d_MM_clock_51 : decode b_MM_clock 51 = .ok (.aload_n 0, 1) := by decide +kernel
theorem d_MM_clock_52 : decode b_MM_clock 52 = .ok (.getfield 7, 3) := by decide +kernel
theorem d_MM_clock_55 : decode b_MM_clock 55 = .ok (.iload_n 3, 1) := by decide +kernel
theorem d_MM_clock_56 : decode b_MM_clock 56 = .ok (.iaload, 1) := by decide +kernel
theorem d_MM_clock_57 : decode b_MM_clock 57 = .ok (.iconst 1, 1) := by decide +kernel
theorem d_MM_clock_58 : decode b_MM_clock 58 = .ok (.if_icmp .ne 18, 3) := by decide +kernel
theorem d_MM_clock_61 : decode b_MM_clock 61 = .ok (.aload_n 0, 1) := by decide +kernel
theorem d_MM_clock_62 : decode b_MM_clock 62 = .ok (.getfield 37, 3) := by decide +kernel
theorem d_MM_clock_65 : decode b_MM_clock 65 = .ok (.iload_n 3, 1) := by decide +kernel
theorem d_MM_clock_66 : decode b_MM_clock 66 = .ok (.aload_n 0, 1) := by decide +kernel
theorem d_MM_clock_67 : decode b_MM_clock 67 = .ok (.getfield 19, 3) := by decide +kernel
theorem d_MM_clock_70 : decode b_MM_clock 70 = .ok (.iload_n 3, 1) := by decide +kernel
theorem d_MM_clock_71 : decode b_MM_clock 71 = .ok (.iaload, 1) := by decide +kernel
theorem d_MM_clock_72 : decode b_MM_clock 72 = .ok (.iastore, 1) := by decide +kernel
theorem d_MM_clock_73 : decode b_MM_clock 73 = .ok (.goto 97, 3) := by decide +kernel
theorem d_MM_clock_76 : decode b_MM_clock 76 = .ok (.aload_n 0, 1) := by decide +kernel
theorem d_MM_clock_77 : decode b_MM_clock 77 = .ok (.getfield 37, 3) := by decide +kernel
theorem d_MM_clock_80 : decode b_MM_clock 80 = .ok (.aload_n 0, 1) := by decide +kernel
theorem d_MM_clock_81 : decode b_MM_clock 81 = .ok (.getfield 25, 3) := by decide +kernel
theorem d_MM_clock_84 : decode b_MM_clock 84 = .ok (.iload_n 3, 1) := by decide +kernel
theorem d_MM_clock_85 : decode b_MM_clock 85 = .ok (.iaload, 1) := by decide +kernel
theorem d_MM_clock_86 : decode b_MM_clock 86 = .ok (.iaload, 1) := by decide +kernel
theorem d_MM_clock_87 : decode b_MM_clock 87 = .ok (.istore 4, 2) := by decide +kernel
theorem d_MM_clock_89 : decode b_MM_clock 89 = .ok (.aload_n 0, 1) := by decide +kernel
theorem d_MM_clock_90 : decode b_MM_clock 90 = .ok (.getfield 28, 3) := by decide +kernel
theorem d_MM_clock_93 : decode b_MM_clock 93 = .ok (.iload_n 3, 1) := by decide +kernel
theorem d_MM_clock_94 : decode b_MM_clock 94 = .ok (.iaload, 1) := by decide +kernel
theorem d_MM_clock_95 : decode b_MM_clock 95 = .ok (.ifCond .lt 22, 3) := by decide +kernel
theorem d_MM_clock_98 : decode b_MM_clock 98 = .ok (.iload 4, 2) := by decide +kernel
theorem d_MM_clock_100 : decode b_MM_clock 100 = .ok (.iconst 2, 1) := by decide +kernel
theorem d_MM_clock_101 : decode b_MM_clock 101 = .ok (.aload_n 0, 1) := by decide +kernel
theorem d_MM_clock_102 : decode b_MM_clock 102 = .ok (.getfield 37, 3) := by decide +kernel
theorem d_MM_clock_105 : decode b_MM_clock 105 = .ok (.aload_n 0, 1) := by decide +kernel
theorem d_MM_clock_106 : decode b_MM_clock 106 = .ok (.getfield 28, 3) := by decide +kernel
theorem d_MM_clock_109 : decode b_MM_clock 109 = .ok (.iload_n 3, 1) := by decide +kernel
theorem d_MM_clock_110 : decode b_MM_clock 110 = .ok (.iaload, 1) := by decide +kernel
theorem d_MM_clock_111 : decode b_MM_clock 111 = .ok (.iaload, 1) := by decide +kernel
theorem d_MM_clock_112 : decode b_MM_clock 112 = .ok (.imul, 1) := by decide +kernel
theorem d_MM_clock_113 : decode b_MM_clock 113 = .ok (.iadd, 1) := by decide +kernel
theorem d_MM_clock_114 : decode b_MM_clock 114 = .ok (.goto 5, 3) := by decide +kernel
theorem d_MM_clock_117 : decode b_MM_clock 117 = .ok (.iload 4, 2) := by decide +kernel
theorem d_MM_clock_119 : decode b_MM_clock 119 = .ok (.istore 4, 2) := by decide +kernel
theorem d_MM_clock_121 : decode b_MM_clock 121 = .ok (.aload_n 0, 1) := by decide +kernel
theorem d_MM_clock_122 : decode b_MM_clock 122 = .ok (.getfield 31, 3) := by decide +kernel
theorem d_MM_clock_125 : decode b_MM_clock 125 = .ok (.iload_n 3, 1) := by decide +kernel
theorem d_MM_clock_126 : decode b_MM_clock 126 = .ok (.iaload, 1) := by decide +kernel
theorem d_MM_clock_127 : decode b_MM_clock 127 = .ok (.ifCond .lt 22, 3) := by decide +kernel
theorem d_MM_clock_130 : decode b_MM_clock 130 = .ok (.iload 4, 2) := by decide +kernel
theorem d_MM_clock_132 : decode b_MM_clock 132 = .ok (.iconst 4, 1) := by decide +kernel
theorem d_MM_clock_133 : decode b_MM_clock 133 = .ok (.aload_n 0, 1) := by decide +kernel
theorem d_MM_clock_134 : decode b_MM_clock 134 = .ok (.getfield 37, 3) := by decide +kernel
theorem d_MM_clock_137 : decode b_MM_clock 137 = .ok (.aload_n 0, 1) := by decide +kernel
theorem d_MM_clock_138 : decode b_MM_clock 138 = .ok (.getfield 31, 3) := by decide +kernel
theorem d_MM_clock_141 : decode b_MM_clock 141 = .ok (.iload_n 3, 1) := by decide +kernel
theorem d_MM_clock_142 : decode b_MM_clock 142 = .ok (.iaload, 1) := by decide +kernel
theorem d_MM_clock_143 : decode b_MM_clock 143 = .ok (.iaload, 1) := by decide +kernel
theorem d_MM_clock_144 : decode b_MM_clock 144 = .ok (.imul, 1) := by decide +kernel
theorem d_MM_clock_145 : decode b_MM_clock 145 = .ok (.iadd, 1) := by decide +kernel
theorem d_MM_clock_146 : decode b_MM_clock 146 = .ok (.goto 5, 3) := by decide +kernel
theorem d_MM_clock_149 : decode b_MM_clock 149 = .ok (.iload 4, 2) := by decide +kernel
theorem d_MM_clock_151 : decode b_MM_clock 151 = .ok (.istore 4, 2) := by decide +kernel
theorem d_MM_clock_153 : decode b_MM_clock 153 = .ok (.aload_n 0, 1) := by decide +kernel
theorem d_MM_clock_154 : decode b_MM_clock 154 = .ok (.getfield 37, 3) := by decide +kernel
theorem d_MM_clock_157 : decode b_MM_clock 157 = .ok (.iload_n 3, 1) := by decide +kernel
theorem d_MM_clock_158 : decode b_MM_clock 158 = .ok (.aload_n 0, 1) := by decide +kernel
theorem d_MM_clock_159 : decode b_MM_clock 159 = .ok (.getfield 34, 3) := by decide +kernel
theorem d_MM_clock_162 : decode b_MM_clock 162 = .ok (.iload_n 3, 1) := by decide +kernel
theorem d_MM_clock_163 : decode b_MM_clock 163 = .ok (.iaload, 1) := by decide +kernel
theorem d_MM_clock_164 : decode b_MM_clock 164 = .ok (.iload 4, 2) := by decide +kernel
theorem d_MM_clock_166 : decode b_MM_clock 166 = .ok (.ishr, 1) := by decide +kernel
theorem d_MM_clock_167 : decode b_MM_clock 167 = .ok (.iconst 1, 1) := by decide +kernel
theorem d_MM_clock_168 : decode b_MM_clock 168 = .ok (.iand, 1) := by decide +kernel
theorem d_MM_clock_169 : decode b_MM_clock 169 = .ok (.iastore, 1) := by decide +kernel
theorem d_MM_clock_170 : decode b_MM_clock 170 = .ok (.iinc 3 1, 3) := by decide +kernel
theorem d_MM_clock_173 : decode b_MM_clock 173 = .ok (.goto (-159), 3) := by decide +kernel
theorem d_MM_clock_176 : decode b_MM_clock 176 = .ok (.iconst 0, 1) := by decide +kernel
theorem d_MM_clock_177 : decode b_MM_clock 177 = .ok (.istore_n 3, 1) := by decide +kernel
theorem d_MM_clock_178 : decode b_MM_clock 178 = .ok (.iload_n 3, 1) := by decide +kernel
theorem d_MM_clock_179 : decode b_MM_clock 179 = .ok (.aload_n 0, 1) := by decide +kernel
theorem d_MM_clock_180 : decode b_MM_clock 180 = .ok (.getfield 194, 3) := by decide +kernel
theorem d_MM_clock_183 : decode b_MM_clock 183 = .ok (.if_icmp .ge 25, 3) := by decide +kernel
theorem d_MM_clock_186 : decode b_MM_clock 186 = .ok (.iload_n 2, 1) := by decide +kernel
theorem d_MM_clock_187 : decode b_MM_clock 187 = .ok (.aload_n 0, 1) := by decide +kernel
theorem d_MM_clock_188 : decode b_MM_clock 188 = .ok (.getfield 37, 3) := by decide +kernel
theorem d_MM_clock_191 : decode b_MM_clock 191 = .ok (.aload_n 0, 1) := by decide +kernel
theorem d_MM_clock_192 : decode b_MM_clock 192 = .ok (.getfield 52, 3) := by decide +kernel
theorem d_MM_clock_195 : decode b_MM_clock 195 = .ok (.iload_n 3, 1) := by decide +kernel
theorem d_MM_clock_196 : decode b_MM_clock 196 = .ok (.iaload, 1) := by decide +kernel
theorem d_MM_clock_197 : decode b_MM_clock 197 = .ok (.iaload, 1) := by decide +kernel
theorem d_MM_clock_198 : decode b_MM_clock 198 = .ok (.iload_n 3, 1) := by decide +kernel
theorem d_MM_clock_199 : decode b_MM_clock 199 = .ok (.ishl, 1) := by decide +kernel
theorem d_MM_clock_200 : decode b_MM_clock 200 = .ok (.ior, 1) := by decide +kernel
theorem d_MM_clock_201 : decode b_MM_clock 201 = .ok (.istore_n 2, 1) := by decide +kernel
theorem d_MM_clock_202 : decode b_MM_clock 202 = .ok (.iinc 3 1, 3) := by decide +kernel
theorem d_MM_clock_205 : decode b_MM_clock 205 = .ok (.goto (-27), 3) := by decide +kernel
theorem d_MM_clock_208 : decode b_MM_clock 208 = .ok (.iconst 0, 1) := by decide +kernel
theorem d_MM_clock_209 : decode b_MM_clock 209 = .ok (.istore_n 3, 1) := by decide +kernel
theorem d_MM_clock_210 : decode b_MM_clock 210 = .ok (.iload_n 3, 1) := by decide +kernel
theorem d_MM_clock_211 : decode b_MM_clock 211 = .ok (.aload_n 0, 1) := by decide +kernel
theorem d_MM_clock_212 : decode b_MM_clock 212 = .ok (.getfield 168, 3) := by decide +kernel
theorem d_MM_clock_215 : decode b_MM_clock 215 = .ok (.if_icmp .ge 40, 3) := by decide +kernel
theorem d_MM_clock_218 : decode b_MM_clock 218 = .ok (.aload_n 0, 1) := by decide +kernel
theorem d_MM_clock_219 : decode b_MM_clock 219 = .ok (.getfield 19, 3) := by decide +kernel
theorem d_MM_clock_222 : decode b_MM_clock 222 = .ok (.iload_n 3, 1) := by decide +kernel
theorem d_MM_clock_223 : decode b_MM_clock 223 = .ok (.aload_n 0, 1) := by decide +kernel
theorem d_MM_clock_224 : decode b_MM_clock 224 = .ok (.getfield 7, 3) := by decide +kernel
theorem d_MM_clock_227 : decode b_MM_clock 227 = .ok (.iload_n 3, 1) := by decide +kernel
theorem d_MM_clock_228 : decode b_MM_clock 228 = .ok (.iaload, 1) := by decide +kernel
theorem d_MM_clock_229 : decode b_MM_clock 229 = .ok (.iconst 1, 1) := by decide +kernel
theorem d_MM_clock_230 : decode b_MM_clock 230 = .ok (.if_icmp .ne 17, 3) := by decide +kernel
theorem d_MM_clock_233 : decode b_MM_clock 233 = .ok (.aload_n 0, 1) := by decide +kernel
theorem d_MM_clock_234 : decode b_MM_clock 234 = .ok (.getfield 37, 3) := by decide +kernel
theorem d_MM_clock_237 : decode b_MM_clock 237 = .ok (.aload_n 0, 1) := by decide +kernel
theorem d_MM_clock_238 : decode b_MM_clock 238 = .ok (.getfield 22, 3) := by decide +kernel
theorem d_MM_clock_241 : decode b_MM_clock 241 = .ok (.iload_n 3, 1) := by decide +kernel
theorem d_MM_clock_242 : decode b_MM_clock 242 = .ok (.iaload, 1) := by decide +kernel
theorem d_MM_clock_243 : decode b_MM_clock 243 = .ok (.iaload, 1) := by decide +kernel
theorem d_MM_clock_244 : decode b_MM_clock 244 = .ok (.goto 4, 3) := by decide +kernel
theorem d_MM_clock_247 : decode b_MM_clock 247 = .ok (.iconst 0, 1) := by decide +kernel
theorem d_MM_clock_248 : decode b_MM_clock 248 = .ok (.iastore, 1) := by decide +kernel
theorem d_MM_clock_249 : decode b_MM_clock 249 = .ok (.iinc 3 1, 3) := by decide +kernel
theorem d_MM_clock_252 : decode b_MM_clock 252 = .ok (.goto (-42), 3) := by decide +kernel
theorem d_MM_clock_255 : decode b_MM_clock 255 = .ok (.iload_n 2, 1) := by decide +kernel
theorem d_MM_clock_256 : decode b_MM_clock 256 = .ok (.ireturn, 1) := by decide +kernel
def bk_MM_clock_248 (Q : Int → zS → Prop) (J210 : Int → Int → zS → Prop) (v2 : Int) (v3 : Int) (z0 : Int) (z1 : Int) (σ : zS) : Prop :=
  0 ≤ z1 ∧ z1 < 40 ∧ ∀ σ15, σ15 = zup σ 104 z1 z0 →
  J210 v2 (v3 + 1) σ15
def lp_MM_clock_210 (Q : Int → zS → Prop) : Nat → Int → Int → zS → Prop
  | 0 => fun _ _ _ => False
  | n + 1 => fun v2 v3 σ =>
    zc v3 ∧ zc (σ 100 0) ∧ ((σ 100 0 ≤ v3 →
      Q v2 σ) ∧
     (¬ σ 100 0 ≤ v3 →
      0 ≤ v3 ∧ v3 < 40 ∧ 
      zc (σ 101 v3) ∧ ((σ 101 v3 = 1 →
        0 ≤ σ 105 v3 ∧ σ 105 v3 < 40 ∧ 
        bk_MM_clock_248 Q (lp_MM_clock_210 Q n) v2 v3 (σ 110 (σ 105 v3)) v3 σ) ∧
       (¬ σ 101 v3 = 1 →
        bk_MM_clock_248 Q (lp_MM_clock_210 Q n) v2 v3 0 v3 σ))))
def lp_MM_clock_178 (Q : Int → zS → Prop) : Nat → Int → Int → zS → Prop
  | 0 => fun _ _ _ => False
  | n + 1 => fun v2 v3 σ =>
    zc v3 ∧ zc (σ 118 0) ∧ ((σ 118 0 ≤ v3 →
      ∃ u210, lp_MM_clock_210 Q u210 v2 0 σ) ∧
     (¬ σ 118 0 ≤ v3 →
      0 ≤ v3 ∧ v3 < 4 ∧ 
      0 ≤ σ 119 v3 ∧ σ 119 v3 < 40 ∧ 
      ∀ y25, y25 = zor v2 (zshl (σ 110 (σ 119 v3)) v3) →
      lp_MM_clock_178 Q n y25 (v3 + 1) σ))
def bk_MM_clock_151 (Q : Int → zS → Prop) (J14 : Int → Int → Int → zS → Prop) (v1 : Int) (v2 : Int) (v3 : Int) (z0 : Int) (σ : zS) : Prop :=
  0 ≤ v3 ∧ v3 < 40 ∧ 
  ∀ σ47, σ47 = zup σ 110 v3 (zand (zshr (σ 109 v3) z0) 1) →
  J14 v1 v2 (v3 + 1) σ47
def bk_MM_clock_119 (Q : Int → zS → Prop) (J14 : Int → Int → Int → zS → Prop) (v1 : Int) (v2 : Int) (v3 : Int) (z0 : Int) (σ : zS) : Prop :=
  0 ≤ v3 ∧ v3 < 40 ∧ 
  zc (σ 108 v3) ∧ ((σ 108 v3 < 0 →
    bk_MM_clock_151 Q J14 v1 v2 v3 z0 σ) ∧
   (¬ σ 108 v3 < 0 →
    0 ≤ σ 108 v3 ∧ σ 108 v3 < 40 ∧ 
    bk_MM_clock_151 Q J14 v1 v2 v3 (z0 + (4 * (σ 110 (σ 108 v3)))) σ))
def lp_MM_clock_14 (Q : Int → zS → Prop) : Nat → Int → Int → Int → zS → Prop
  | 0 => fun _ _ _ _ => False
  | n + 1 => fun v1 v2 v3 σ =>
    zc v3 ∧ zc (σ 100 0) ∧ ((σ 100 0 ≤ v3 →
      ∃ u178, lp_MM_clock_178 Q u178 v2 0 σ) ∧
     (¬ σ 100 0 ≤ v3 →
      0 ≤ v3 ∧ v3 < 40 ∧ 
      zc (σ 101 v3) ∧ ((σ 101 v3 = 0 →
        wp_MM_entering (fun r64 σ63 =>
          ∀ σ67, σ67 = zup σ63 110 v3 r64 →
          lp_MM_clock_14 Q n v1 v2 (v3 + 1) σ67) (σ 102 v3) v1 σ) ∧
       (¬ σ 101 v3 = 0 →
        ((σ 101 v3 = 1 →
          ∀ σ60, σ60 = zup σ 110 v3 (σ 104 v3) →
          lp_MM_clock_14 Q n v1 v2 (v3 + 1) σ60) ∧
         (¬ σ 101 v3 = 1 →
          0 ≤ σ 106 v3 ∧ σ 106 v3 < 40 ∧ 
          ∀ y36, y36 = σ 110 (σ 106 v3) →
          zc (σ 107 v3) ∧ ((σ 107 v3 < 0 →
            bk_MM_clock_119 Q (lp_MM_clock_14 Q n) v1 v2 v3 y36 σ) ∧
           (¬ σ 107 v3 < 0 →
            0 ≤ σ 107 v3 ∧ σ 107 v3 < 40 ∧ 
            bk_MM_clock_119 Q (lp_MM_clock_14 Q n) v1 v2 v3 (y36 + (2 * (σ 110 (σ 107 v3)))) σ))))))))
def wp_MM_clock (Q : Int → zS → Prop) (v1 : Int) (σ : zS) : Prop :=
  wp_MM_undriven (fun r2 σ1 =>
    zc r2 ∧ ((r2 = 0 →
      ∃ u14, lp_MM_clock_14 Q u14 v1 0 0 σ1) ∧
     (¬ r2 = 0 →
      Q (-3) σ1))) σ
set_option maxHeartbeats 4000000 in
set_option maxRecDepth 100000 in
theorem wk_MM_clock_248 {E : zE} {D : va_G} {g : zG} {A : Nat → Prop} {ad : zA} {Q : Int → zS → Prop} {J210 : Int → Int → zS → Prop} (C : zX E b_MM_clock R_MM D g { frames := 1, cells := 0, slots := 0, locals := 24 } 5) (R : zRt E (some .int) (zQi D g ad Q A) 0 0 A) (hJ210 : ∀ (v2 : Int) (v3 : Int) (σ : zS), J210 v2 v3 σ → zW E (zOK D A (zst E) g ad) 0 0 210 [(0, .ref (ad (0, 3))), (2, .int (zi v2)), (3, .int (zi v3))] [] σ) (v2 : Int) (v3 : Int) (z0 : Int) (z1 : Int) (σ : zS) (h : bk_MM_clock_248 Q J210 v2 v3 z0 z1 σ) : zW E (zOK D A (zst E) g ad) 0 0 248 [(0, .ref (ad (0, 3))), (2, .int (zi v2)), (3, .int (zi v3))] [.int (zi z0), .int (zi z1), .ref (ad (7, 4))] σ := by
  unfold bk_MM_clock_248 at h
  obtain ⟨hc13, hc14, h⟩ := h
  refine m_iast C 4 104 40 rfl rfl (by decide) hc13 hc14 (pc := 248) d_MM_clock_248 ?_
  refine zN h (fun σ15 eσ15 h => ?_)
  refine z_iinc (L' := [(3, .int (zi (v3 + 1))), (0, .ref (ad (0, 3))), (2, .int (zi v2))]) C (pc := 249) d_MM_clock_249 2 rfl (by decide) rfl ?_
  refine z_goto (tgt := 210) C (pc := 252) d_MM_clock_252 (by decide) ?_
  refine z_sub [1, 2, 0] rfl ?_
  exact hJ210 _ _ _ h
set_option maxHeartbeats 4000000 in
set_option maxRecDepth 100000 in
theorem wk_MM_clock_210 {E : zE} {D : va_G} {g : zG} {A : Nat → Prop} {ad : zA} {Q : Int → zS → Prop} (C : zX E b_MM_clock R_MM D g { frames := 1, cells := 0, slots := 0, locals := 24 } 5) (R : zRt E (some .int) (zQi D g ad Q A) 0 0 A) : ∀ (n : Nat) (v2 : Int) (v3 : Int) (σ : zS), lp_MM_clock_210 Q n v2 v3 σ → zW E (zOK D A (zst E) g ad) 0 0 210 [(0, .ref (ad (0, 3))), (2, .int (zi v2)), (3, .int (zi v3))] [] σ := by
  intro n
  induction n with
  | zero =>
    intro v2 v3 σ h
    exact h.elim
  | succ n ih =>
    intro v2 v3 σ h
    refine z_iload_n C (pc := 210) d_MM_clock_210 2 rfl ?_
    refine z_aload_n C (pc := 211) d_MM_clock_211 0 rfl ?_
    refine m_getI C 0 100 rfl (by decide) rfl wd_704 (pc := 212) d_MM_clock_212 ?_
    obtain ⟨hc8, hc9, h⟩ := h
    refine z_icmp_ge (tgt := 255) C (pc := 215) d_MM_clock_215 (by decide) hc8 hc9 h (fun h => ?_) (fun h => ?_)
    · refine z_iload_n C (pc := 255) d_MM_clock_255 1 rfl ?_
      exact z_iret C R (pc := 256) d_MM_clock_256 h
    · refine z_aload_n C (pc := 218) d_MM_clock_218 0 rfl ?_
      refine m_getA C 4 (by decide) rfl wd_708 (pc := 219) d_MM_clock_219 ?_
      refine z_iload_n C (pc := 222) d_MM_clock_222 2 rfl ?_
      refine z_aload_n C (pc := 223) d_MM_clock_223 0 rfl ?_
      refine m_getA C 1 (by decide) rfl wd_705 (pc := 224) d_MM_clock_224 ?_
      refine z_iload_n C (pc := 227) d_MM_clock_227 2 rfl ?_
      obtain ⟨hc10, hc11, h⟩ := h
      refine m_iald C 1 101 40 rfl rfl (by decide) hc10 hc11 (pc := 228) d_MM_clock_228 ?_
      refine z_iconst C (pc := 229) d_MM_clock_229 ?_
      obtain ⟨hc12, h⟩ := h
      refine z_icmp_ne (tgt := 247) C (pc := 230) d_MM_clock_230 (by decide) hc12 (by decide) h (fun h => ?_) (fun h => ?_)
      · refine z_iconst C (pc := 247) d_MM_clock_247 ?_
        exact wk_MM_clock_248 C R ih _ _ _ _ _ h
      · refine z_aload_n C (pc := 233) d_MM_clock_233 0 rfl ?_
        refine m_getA C 10 (by decide) rfl wd_714 (pc := 234) d_MM_clock_234 ?_
        refine z_aload_n C (pc := 237) d_MM_clock_237 0 rfl ?_
        refine m_getA C 5 (by decide) rfl wd_709 (pc := 238) d_MM_clock_238 ?_
        refine z_iload_n C (pc := 241) d_MM_clock_241 2 rfl ?_
        refine m_iald C 5 105 40 rfl rfl (by decide) hc10 hc11 (pc := 242) d_MM_clock_242 ?_
        obtain ⟨hc18, hc19, h⟩ := h
        refine m_iald C 10 110 40 rfl rfl (by decide) hc18 hc19 (pc := 243) d_MM_clock_243 ?_
        refine z_goto (tgt := 248) C (pc := 244) d_MM_clock_244 (by decide) ?_
        exact wk_MM_clock_248 C R ih _ _ _ _ _ h
set_option maxHeartbeats 4000000 in
set_option maxRecDepth 100000 in
theorem wk_MM_clock_178 {E : zE} {D : va_G} {g : zG} {A : Nat → Prop} {ad : zA} {Q : Int → zS → Prop} (C : zX E b_MM_clock R_MM D g { frames := 1, cells := 0, slots := 0, locals := 24 } 5) (R : zRt E (some .int) (zQi D g ad Q A) 0 0 A) : ∀ (n : Nat) (v2 : Int) (v3 : Int) (σ : zS), lp_MM_clock_178 Q n v2 v3 σ → zW E (zOK D A (zst E) g ad) 0 0 178 [(0, .ref (ad (0, 3))), (2, .int (zi v2)), (3, .int (zi v3))] [] σ := by
  intro n
  induction n with
  | zero =>
    intro v2 v3 σ h
    exact h.elim
  | succ n ih =>
    intro v2 v3 σ h
    refine z_iload_n C (pc := 178) d_MM_clock_178 2 rfl ?_
    refine z_aload_n C (pc := 179) d_MM_clock_179 0 rfl ?_
    refine m_getI C 18 118 rfl (by decide) rfl wd_722 (pc := 180) d_MM_clock_180 ?_
    obtain ⟨hc6, hc7, h⟩ := h
    refine z_icmp_ge (tgt := 208) C (pc := 183) d_MM_clock_183 (by decide) hc6 hc7 h (fun h => ?_) (fun h => ?_)
    · refine z_iconst C (pc := 208) d_MM_clock_208 ?_
      refine z_istore_n (L' := [(3, .int (zi 0)), (0, .ref (ad (0, 3))), (2, .int (zi v2))]) C (pc := 209) d_MM_clock_209 (by decide) rfl ?_
      refine z_sub [1, 2, 0] rfl ?_
      obtain ⟨n20, h⟩ := h
      exact wk_MM_clock_210 C R n20 _ _ _ h
    · refine z_iload_n C (pc := 186) d_MM_clock_186 1 rfl ?_
      refine z_aload_n C (pc := 187) d_MM_clock_187 0 rfl ?_
      refine m_getA C 10 (by decide) rfl wd_714 (pc := 188) d_MM_clock_188 ?_
      refine z_aload_n C (pc := 191) d_MM_clock_191 0 rfl ?_
      refine m_getA C 19 (by decide) rfl wd_723 (pc := 192) d_MM_clock_192 ?_
      refine z_iload_n C (pc := 195) d_MM_clock_195 2 rfl ?_
      obtain ⟨hc21, hc22, h⟩ := h
      refine m_iald C 19 119 4 rfl rfl (by decide) hc21 hc22 (pc := 196) d_MM_clock_196 ?_
      obtain ⟨hc23, hc24, h⟩ := h
      refine m_iald C 10 110 40 rfl rfl (by decide) hc23 hc24 (pc := 197) d_MM_clock_197 ?_
      refine z_iload_n C (pc := 198) d_MM_clock_198 2 rfl ?_
      refine z_ishl C (pc := 199) d_MM_clock_199 ?_
      refine z_ior C (pc := 200) d_MM_clock_200 ?_
      refine zNi h (fun y25 ey25 h => ?_)
      refine z_istore_n (L' := [(2, .int (zi y25)), (0, .ref (ad (0, 3))), (3, .int (zi v3))]) C (pc := 201) d_MM_clock_201 (by decide) rfl ?_
      refine z_iinc (L' := [(3, .int (zi (v3 + 1))), (2, .int (zi y25)), (0, .ref (ad (0, 3)))]) C (pc := 202) d_MM_clock_202 2 rfl (by decide) rfl ?_
      refine z_goto (tgt := 178) C (pc := 205) d_MM_clock_205 (by decide) ?_
      refine z_sub [2, 1, 0] rfl ?_
      exact ih _ _ _ h
set_option maxHeartbeats 4000000 in
set_option maxRecDepth 100000 in
theorem wk_MM_clock_151 {E : zE} {D : va_G} {g : zG} {A : Nat → Prop} {ad : zA} {Q : Int → zS → Prop} {J14 : Int → Int → Int → zS → Prop} (C : zX E b_MM_clock R_MM D g { frames := 1, cells := 0, slots := 0, locals := 24 } 5) (R : zRt E (some .int) (zQi D g ad Q A) 0 0 A) (hJ14 : ∀ (v1 : Int) (v2 : Int) (v3 : Int) (σ : zS), J14 v1 v2 v3 σ → zW E (zOK D A (zst E) g ad) 0 0 14 [(0, .ref (ad (0, 3))), (1, .int (zi v1)), (2, .int (zi v2)), (3, .int (zi v3))] [] σ) (v1 : Int) (v2 : Int) (v3 : Int) (z0 : Int) (σ : zS) (h : bk_MM_clock_151 Q J14 v1 v2 v3 z0 σ) : zW E (zOK D A (zst E) g ad) 0 0 151 [(0, .ref (ad (0, 3))), (1, .int (zi v1)), (2, .int (zi v2)), (3, .int (zi v3))] [.int (zi z0)] σ := by
  unfold bk_MM_clock_151 at h
  refine z_istore (L' := [(4, .int (zi z0)), (0, .ref (ad (0, 3))), (1, .int (zi v1)), (2, .int (zi v2)), (3, .int (zi v3))]) C (pc := 151) d_MM_clock_151 (by decide) rfl ?_
  refine z_aload_n C (pc := 153) d_MM_clock_153 1 rfl ?_
  refine m_getA C 10 (by decide) rfl wd_714 (pc := 154) d_MM_clock_154 ?_
  refine z_iload_n C (pc := 157) d_MM_clock_157 4 rfl ?_
  refine z_aload_n C (pc := 158) d_MM_clock_158 1 rfl ?_
  refine m_getA C 9 (by decide) rfl wd_713 (pc := 159) d_MM_clock_159 ?_
  refine z_iload_n C (pc := 162) d_MM_clock_162 4 rfl ?_
  obtain ⟨hc43, hc44, h⟩ := h
  refine m_iald C 9 109 40 rfl rfl (by decide) hc43 hc44 (pc := 163) d_MM_clock_163 ?_
  refine z_iload C (pc := 164) d_MM_clock_164 0 rfl ?_
  refine z_ishr C (pc := 166) d_MM_clock_166 ?_
  refine z_iconst C (pc := 167) d_MM_clock_167 ?_
  refine z_iand C (pc := 168) d_MM_clock_168 ?_
  refine m_iast C 10 110 40 rfl rfl (by decide) hc43 hc44 (pc := 169) d_MM_clock_169 ?_
  refine zN h (fun σ47 eσ47 h => ?_)
  refine z_iinc (L' := [(3, .int (zi (v3 + 1))), (4, .int (zi z0)), (0, .ref (ad (0, 3))), (1, .int (zi v1)), (2, .int (zi v2))]) C (pc := 170) d_MM_clock_170 4 rfl (by decide) rfl ?_
  refine z_goto (tgt := 14) C (pc := 173) d_MM_clock_173 (by decide) ?_
  refine z_sub [2, 3, 4, 0] rfl ?_
  exact hJ14 _ _ _ _ h
set_option maxHeartbeats 4000000 in
set_option maxRecDepth 100000 in
theorem wk_MM_clock_119 {E : zE} {D : va_G} {g : zG} {A : Nat → Prop} {ad : zA} {Q : Int → zS → Prop} {J14 : Int → Int → Int → zS → Prop} (C : zX E b_MM_clock R_MM D g { frames := 1, cells := 0, slots := 0, locals := 24 } 5) (R : zRt E (some .int) (zQi D g ad Q A) 0 0 A) (hJ14 : ∀ (v1 : Int) (v2 : Int) (v3 : Int) (σ : zS), J14 v1 v2 v3 σ → zW E (zOK D A (zst E) g ad) 0 0 14 [(0, .ref (ad (0, 3))), (1, .int (zi v1)), (2, .int (zi v2)), (3, .int (zi v3))] [] σ) (v1 : Int) (v2 : Int) (v3 : Int) (z0 : Int) (σ : zS) (h : bk_MM_clock_119 Q J14 v1 v2 v3 z0 σ) : zW E (zOK D A (zst E) g ad) 0 0 119 [(0, .ref (ad (0, 3))), (1, .int (zi v1)), (2, .int (zi v2)), (3, .int (zi v3))] [.int (zi z0)] σ := by
  unfold bk_MM_clock_119 at h
  refine z_istore (L' := [(4, .int (zi z0)), (0, .ref (ad (0, 3))), (1, .int (zi v1)), (2, .int (zi v2)), (3, .int (zi v3))]) C (pc := 119) d_MM_clock_119 (by decide) rfl ?_
  refine z_aload_n C (pc := 121) d_MM_clock_121 1 rfl ?_
  refine m_getA C 8 (by decide) rfl wd_712 (pc := 122) d_MM_clock_122 ?_
  refine z_iload_n C (pc := 125) d_MM_clock_125 4 rfl ?_
  obtain ⟨hc40, hc41, h⟩ := h
  refine m_iald C 8 108 40 rfl rfl (by decide) hc40 hc41 (pc := 126) d_MM_clock_126 ?_
  obtain ⟨hc42, h⟩ := h
  refine z_if_lt (tgt := 149) C (pc := 127) d_MM_clock_127 (by decide) hc42 h (fun h => ?_) (fun h => ?_)
  · refine z_iload C (pc := 149) d_MM_clock_149 0 rfl ?_
    refine z_sub [1, 2, 3, 4] rfl ?_
    exact wk_MM_clock_151 C R hJ14 _ _ _ _ _ h
  · refine z_iload C (pc := 130) d_MM_clock_130 0 rfl ?_
    refine z_iconst C (pc := 132) d_MM_clock_132 ?_
    refine z_aload_n C (pc := 133) d_MM_clock_133 1 rfl ?_
    refine m_getA C 10 (by decide) rfl wd_714 (pc := 134) d_MM_clock_134 ?_
    refine z_aload_n C (pc := 137) d_MM_clock_137 1 rfl ?_
    refine m_getA C 8 (by decide) rfl wd_712 (pc := 138) d_MM_clock_138 ?_
    refine z_iload_n C (pc := 141) d_MM_clock_141 4 rfl ?_
    refine m_iald C 8 108 40 rfl rfl (by decide) hc40 hc41 (pc := 142) d_MM_clock_142 ?_
    obtain ⟨hc50, hc51, h⟩ := h
    refine m_iald C 10 110 40 rfl rfl (by decide) hc50 hc51 (pc := 143) d_MM_clock_143 ?_
    refine z_imul C (pc := 144) d_MM_clock_144 ?_
    refine z_iadd C (pc := 145) d_MM_clock_145 ?_
    refine z_goto (tgt := 151) C (pc := 146) d_MM_clock_146 (by decide) ?_
    refine z_sub [1, 2, 3, 4] rfl ?_
    exact wk_MM_clock_151 C R hJ14 _ _ _ _ _ h
set_option maxHeartbeats 4000000 in
set_option maxRecDepth 100000 in
theorem wk_MM_clock_14 {E : zE} {D : va_G} {g : zG} {A : Nat → Prop} {ad : zA} {Q : Int → zS → Prop} (C : zX E b_MM_clock R_MM D g { frames := 1, cells := 0, slots := 0, locals := 24 } 5) (R : zRt E (some .int) (zQi D g ad Q A) 0 0 A) : ∀ (n : Nat) (v1 : Int) (v2 : Int) (v3 : Int) (σ : zS), lp_MM_clock_14 Q n v1 v2 v3 σ → zW E (zOK D A (zst E) g ad) 0 0 14 [(0, .ref (ad (0, 3))), (1, .int (zi v1)), (2, .int (zi v2)), (3, .int (zi v3))] [] σ := by
  intro n
  induction n with
  | zero =>
    intro v1 v2 v3 σ h
    exact h.elim
  | succ n ih =>
    intro v1 v2 v3 σ h
    refine z_iload_n C (pc := 14) d_MM_clock_14 3 rfl ?_
    refine z_aload_n C (pc := 15) d_MM_clock_15 0 rfl ?_
    refine m_getI C 0 100 rfl (by decide) rfl wd_704 (pc := 16) d_MM_clock_16 ?_
    obtain ⟨hc4, hc5, h⟩ := h
    refine z_icmp_ge (tgt := 176) C (pc := 19) d_MM_clock_19 (by decide) hc4 hc5 h (fun h => ?_) (fun h => ?_)
    · refine z_iconst C (pc := 176) d_MM_clock_176 ?_
      refine z_istore_n (L' := [(3, .int (zi 0)), (0, .ref (ad (0, 3))), (1, .int (zi v1)), (2, .int (zi v2))]) C (pc := 177) d_MM_clock_177 (by decide) rfl ?_
      refine z_sub [1, 3, 0] rfl ?_
      obtain ⟨n26, h⟩ := h
      exact wk_MM_clock_178 C R n26 _ _ _ h
    · refine z_aload_n C (pc := 22) d_MM_clock_22 0 rfl ?_
      refine m_getA C 1 (by decide) rfl wd_705 (pc := 23) d_MM_clock_23 ?_
      refine z_iload_n C (pc := 26) d_MM_clock_26 3 rfl ?_
      obtain ⟨hc27, hc28, h⟩ := h
      refine m_iald C 1 101 40 rfl rfl (by decide) hc27 hc28 (pc := 27) d_MM_clock_27 ?_
      obtain ⟨hc29, h⟩ := h
      refine z_if_ne (tgt := 51) C (pc := 28) d_MM_clock_28 (by decide) hc29 h (fun h => ?_) (fun h => ?_)
      · refine z_aload_n C (pc := 51) d_MM_clock_51 0 rfl ?_
        refine m_getA C 1 (by decide) rfl wd_705 (pc := 52) d_MM_clock_52 ?_
        refine z_iload_n C (pc := 55) d_MM_clock_55 3 rfl ?_
        refine m_iald C 1 101 40 rfl rfl (by decide) hc27 hc28 (pc := 56) d_MM_clock_56 ?_
        refine z_iconst C (pc := 57) d_MM_clock_57 ?_
        refine z_icmp_ne (tgt := 76) C (pc := 58) d_MM_clock_58 (by decide) hc29 (by decide) h (fun h => ?_) (fun h => ?_)
        · refine z_aload_n C (pc := 76) d_MM_clock_76 0 rfl ?_
          refine m_getA C 10 (by decide) rfl wd_714 (pc := 77) d_MM_clock_77 ?_
          refine z_aload_n C (pc := 80) d_MM_clock_80 0 rfl ?_
          refine m_getA C 6 (by decide) rfl wd_710 (pc := 81) d_MM_clock_81 ?_
          refine z_iload_n C (pc := 84) d_MM_clock_84 3 rfl ?_
          refine m_iald C 6 106 40 rfl rfl (by decide) hc27 hc28 (pc := 85) d_MM_clock_85 ?_
          obtain ⟨hc34, hc35, h⟩ := h
          refine m_iald C 10 110 40 rfl rfl (by decide) hc34 hc35 (pc := 86) d_MM_clock_86 ?_
          refine zNi h (fun y36 ey36 h => ?_)
          refine z_istore (L' := [(4, .int (zi y36)), (0, .ref (ad (0, 3))), (1, .int (zi v1)), (2, .int (zi v2)), (3, .int (zi v3))]) C (pc := 87) d_MM_clock_87 (by decide) rfl ?_
          refine z_aload_n C (pc := 89) d_MM_clock_89 1 rfl ?_
          refine m_getA C 7 (by decide) rfl wd_711 (pc := 90) d_MM_clock_90 ?_
          refine z_iload_n C (pc := 93) d_MM_clock_93 4 rfl ?_
          refine m_iald C 7 107 40 rfl rfl (by decide) hc27 hc28 (pc := 94) d_MM_clock_94 ?_
          obtain ⟨hc39, h⟩ := h
          refine z_if_lt (tgt := 117) C (pc := 95) d_MM_clock_95 (by decide) hc39 h (fun h => ?_) (fun h => ?_)
          · refine z_iload C (pc := 117) d_MM_clock_117 0 rfl ?_
            refine z_sub [1, 2, 3, 4] rfl ?_
            exact wk_MM_clock_119 C R ih _ _ _ _ _ h
          · refine z_iload C (pc := 98) d_MM_clock_98 0 rfl ?_
            refine z_iconst C (pc := 100) d_MM_clock_100 ?_
            refine z_aload_n C (pc := 101) d_MM_clock_101 1 rfl ?_
            refine m_getA C 10 (by decide) rfl wd_714 (pc := 102) d_MM_clock_102 ?_
            refine z_aload_n C (pc := 105) d_MM_clock_105 1 rfl ?_
            refine m_getA C 7 (by decide) rfl wd_711 (pc := 106) d_MM_clock_106 ?_
            refine z_iload_n C (pc := 109) d_MM_clock_109 4 rfl ?_
            refine m_iald C 7 107 40 rfl rfl (by decide) hc27 hc28 (pc := 110) d_MM_clock_110 ?_
            obtain ⟨hc54, hc55, h⟩ := h
            refine m_iald C 10 110 40 rfl rfl (by decide) hc54 hc55 (pc := 111) d_MM_clock_111 ?_
            refine z_imul C (pc := 112) d_MM_clock_112 ?_
            refine z_iadd C (pc := 113) d_MM_clock_113 ?_
            refine z_goto (tgt := 119) C (pc := 114) d_MM_clock_114 (by decide) ?_
            refine z_sub [1, 2, 3, 4] rfl ?_
            exact wk_MM_clock_119 C R ih _ _ _ _ _ h
        · refine z_aload_n C (pc := 61) d_MM_clock_61 0 rfl ?_
          refine m_getA C 10 (by decide) rfl wd_714 (pc := 62) d_MM_clock_62 ?_
          refine z_iload_n C (pc := 65) d_MM_clock_65 3 rfl ?_
          refine z_aload_n C (pc := 66) d_MM_clock_66 0 rfl ?_
          refine m_getA C 4 (by decide) rfl wd_708 (pc := 67) d_MM_clock_67 ?_
          refine z_iload_n C (pc := 70) d_MM_clock_70 3 rfl ?_
          refine m_iald C 4 104 40 rfl rfl (by decide) hc27 hc28 (pc := 71) d_MM_clock_71 ?_
          refine m_iast C 10 110 40 rfl rfl (by decide) hc27 hc28 (pc := 72) d_MM_clock_72 ?_
          refine zN h (fun σ60 eσ60 h => ?_)
          refine z_goto (tgt := 170) C (pc := 73) d_MM_clock_73 (by decide) ?_
          refine z_iinc (L' := [(3, .int (zi (v3 + 1))), (0, .ref (ad (0, 3))), (1, .int (zi v1)), (2, .int (zi v2))]) C (pc := 170) d_MM_clock_170 3 rfl (by decide) rfl ?_
          refine z_goto (tgt := 14) C (pc := 173) d_MM_clock_173 (by decide) ?_
          refine z_sub [1, 2, 3, 0] rfl ?_
          exact ih _ _ _ _ h
      · refine z_aload_n C (pc := 31) d_MM_clock_31 0 rfl ?_
        refine m_getA C 10 (by decide) rfl wd_714 (pc := 32) d_MM_clock_32 ?_
        refine z_iload_n C (pc := 35) d_MM_clock_35 3 rfl ?_
        refine z_aload_n C (pc := 36) d_MM_clock_36 0 rfl ?_
        refine z_aload_n C (pc := 37) d_MM_clock_37 0 rfl ?_
        refine m_getA C 2 (by decide) rfl wd_706 (pc := 38) d_MM_clock_38 ?_
        refine z_iload_n C (pc := 41) d_MM_clock_41 3 rfl ?_
        refine m_iald C 2 102 40 rfl rfl (by decide) hc27 hc28 (pc := 42) d_MM_clock_42 ?_
        refine z_iload_n C (pc := 43) d_MM_clock_43 1 rfl ?_
        refine m_calli (As := [.int (zi (σ 102 v3)), .int (zi v1)]) C fy_MM_entering rfl wd_1081 (pc := 44) d_MM_clock_44 ⟨rfl, rfl, Nat.le_of_ble_eq_true rfl, Nat.le_of_ble_eq_true rfl⟩ rfl rfl (Nat.le_of_ble_eq_true rfl) h (c_MM_entering (zln E) D g ad _ _ _ _) (fun r64 σ63 h => ?_)
        refine m_iast C 10 110 40 rfl rfl (by decide) hc27 hc28 (pc := 47) d_MM_clock_47 ?_
        refine zN h (fun σ67 eσ67 h => ?_)
        refine z_goto (tgt := 170) C (pc := 48) d_MM_clock_48 (by decide) ?_
        refine z_iinc (L' := [(3, .int (zi (v3 + 1))), (0, .ref (ad (0, 3))), (1, .int (zi v1)), (2, .int (zi v2))]) C (pc := 170) d_MM_clock_170 3 rfl (by decide) rfl ?_
        refine z_goto (tgt := 14) C (pc := 173) d_MM_clock_173 (by decide) ?_
        refine z_sub [1, 2, 3, 0] rfl ?_
        exact ih _ _ _ _ h
set_option maxHeartbeats 4000000 in
set_option maxRecDepth 100000 in
theorem c_MM_clock (l : Launch) (D : va_G) (g : zG) (ad : zA) (v1 : Int) (Q : Int → zS → Prop) (σ : zS) (h : wp_MM_clock Q v1 σ) : zMi l y_MM_clock b_MM_clock 5 (some .int) { frames := 1, cells := 0, slots := 0, locals := 24 } D g ad σ [.ref (ad (0, 3)), .int (zi v1)] Q := by
  unfold wp_MM_clock at h
  refine zM_of (by decide) (Nat.le_of_ble_eq_true rfl) (fun E C R hl => ?_)
  have C : zX E b_MM_clock R_MM D g { frames := 1, cells := 0, slots := 0, locals := 24 } 5 := C
  refine z_sub (L' := [(0, .ref (ad (0, 3))), (1, .int (zi v1))]) [0, 1] rfl ?_
  refine z_aload_n C (pc := 0) d_MM_clock_0 0 rfl ?_
  refine m_calli (As := []) C fy_MM_undriven rfl wd_949 (pc := 1) d_MM_clock_1 ⟨rfl, rfl, Nat.le_of_ble_eq_true rfl, Nat.le_of_ble_eq_true rfl⟩ rfl rfl (Nat.le_of_ble_eq_true rfl) h (c_MM_undriven (zln E) D g ad _ _) (fun r2 σ1 h => ?_)
  obtain ⟨hc3, h⟩ := h
  refine z_if_eq (tgt := 10) C (pc := 4) d_MM_clock_4 (by decide) hc3 h (fun h => ?_) (fun h => ?_)
  · refine z_iconst C (pc := 10) d_MM_clock_10 ?_
    refine z_istore_n (L' := [(2, .int (zi 0)), (0, .ref (ad (0, 3))), (1, .int (zi v1))]) C (pc := 11) d_MM_clock_11 (by decide) rfl ?_
    refine z_iconst C (pc := 12) d_MM_clock_12 ?_
    refine z_istore_n (L' := [(3, .int (zi 0)), (2, .int (zi 0)), (0, .ref (ad (0, 3))), (1, .int (zi v1))]) C (pc := 13) d_MM_clock_13 (by decide) rfl ?_
    refine z_sub [2, 3, 1, 0] rfl ?_
    obtain ⟨n68, h⟩ := h
    exact wk_MM_clock_14 C R n68 _ _ _ _ h
  · refine z_bipush C (pc := 7) d_MM_clock_7 (by decide) ?_
    exact z_iret C R (pc := 9) d_MM_clock_9 h
theorem d_MM_arrived_0 : decode b_MM_arrived 0 = .ok (.aload_n 0, 1) := by decide +kernel
theorem d_MM_arrived_1 : decode b_MM_arrived 1 = .ok (.getfield 102, 3) := by decide +kernel
theorem d_MM_arrived_4 : decode b_MM_arrived 4 = .ok (.iload_n 1, 1) := by decide +kernel
theorem d_MM_arrived_5 : decode b_MM_arrived 5 = .ok (.iaload, 1) := by decide +kernel
theorem d_MM_arrived_6 : decode b_MM_arrived 6 = .ok (.ifCond .gt 17, 3) := by decide +kernel
theorem d_MM_arrived_9 : decode b_MM_arrived 9 = .ok (.aload_n 0, 1) := by decide +kernel
theorem d_MM_arrived_10 : decode b_MM_arrived 10 = .ok (.getfield 126, 3) := by decide +kernel
theorem d_MM_arrived_13 : decode b_MM_arrived 13 = .ok (.aload_n 0, 1) := by decide +kernel
theorem d_MM_arrived_14 : decode b_MM_arrived 14 = .ok (.getfield 92, 3) := by decide +kernel
theorem d_MM_arrived_17 : decode b_MM_arrived 17 = .ok (.iload_n 1, 1) := by decide +kernel
theorem d_MM_arrived_18 : decode b_MM_arrived 18 = .ok (.iaload, 1) := by decide +kernel
theorem d_MM_arrived_19 : decode b_MM_arrived 19 = .ok (.baload, 1) := by decide +kernel
theorem d_MM_arrived_20 : decode b_MM_arrived 20 = .ok (.ifCond .eq 7, 3) := by decide +kernel
theorem d_MM_arrived_23 : decode b_MM_arrived 23 = .ok (.iconst 1, 1) := by decide +kernel
theorem d_MM_arrived_24 : decode b_MM_arrived 24 = .ok (.goto 4, 3) := by decide +kernel
theorem d_MM_arrived_27 : decode b_MM_arrived 27 = .ok (.iconst 0, 1) := by decide +kernel
theorem d_MM_arrived_28 : decode b_MM_arrived 28 = .ok (.ireturn, 1) := by decide +kernel
def wp_MM_arrived (Q : Int → zS → Prop) (v1 : Int) (σ : zS) : Prop :=
  0 ≤ v1 ∧ v1 < 196 ∧ 
  zc (σ 138 v1) ∧ ((0 < σ 138 v1 →
    Q 1 σ) ∧
   (¬ 0 < σ 138 v1 →
    0 ≤ σ 135 v1 ∧ σ 135 v1 < 48 ∧ 
    zc (σ 148 (σ 135 v1)) ∧ ((σ 148 (σ 135 v1) = 0 →
      Q 0 σ) ∧
     (¬ σ 148 (σ 135 v1) = 0 →
      Q 1 σ))))
set_option maxHeartbeats 4000000 in
set_option maxRecDepth 100000 in
theorem c_MM_arrived (l : Launch) (D : va_G) (g : zG) (ad : zA) (v1 : Int) (Q : Int → zS → Prop) (σ : zS) (h : wp_MM_arrived Q v1 σ) : zMi l y_MM_arrived b_MM_arrived 2 (some .boolean) { frames := 0, cells := 0, slots := 0, locals := 0 } D g ad σ [.ref (ad (0, 3)), .int (zi v1)] Q := by
  unfold wp_MM_arrived at h
  refine zM_of (by decide) (Nat.le_of_ble_eq_true rfl) (fun E C R hl => ?_)
  have C : zX E b_MM_arrived R_MM D g { frames := 0, cells := 0, slots := 0, locals := 0 } 2 := C
  refine z_sub (L' := [(0, .ref (ad (0, 3))), (1, .int (zi v1))]) [0, 1] rfl ?_
  refine z_aload_n C (pc := 0) d_MM_arrived_0 0 rfl ?_
  refine m_getA C 38 (by decide) rfl wd_742 (pc := 1) d_MM_arrived_1 ?_
  refine z_iload_n C (pc := 4) d_MM_arrived_4 1 rfl ?_
  obtain ⟨hc1, hc2, h⟩ := h
  refine m_iald C 38 138 196 rfl rfl (by decide) hc1 hc2 (pc := 5) d_MM_arrived_5 ?_
  obtain ⟨hc3, h⟩ := h
  refine z_if_gt (tgt := 23) C (pc := 6) d_MM_arrived_6 (by decide) hc3 h (fun h => ?_) (fun h => ?_)
  · refine z_iconst C (pc := 23) d_MM_arrived_23 ?_
    refine z_goto (tgt := 28) C (pc := 24) d_MM_arrived_24 (by decide) ?_
    exact z_zret C R (pc := 28) d_MM_arrived_28 (by decide) h
  · refine z_aload_n C (pc := 9) d_MM_arrived_9 0 rfl ?_
    refine m_getA C 48 (by decide) rfl wd_752 (pc := 10) d_MM_arrived_10 ?_
    refine z_aload_n C (pc := 13) d_MM_arrived_13 0 rfl ?_
    refine m_getA C 35 (by decide) rfl wd_739 (pc := 14) d_MM_arrived_14 ?_
    refine z_iload_n C (pc := 17) d_MM_arrived_17 1 rfl ?_
    refine m_iald C 35 135 196 rfl rfl (by decide) hc1 hc2 (pc := 18) d_MM_arrived_18 ?_
    obtain ⟨hc6, hc7, h⟩ := h
    refine m_zald C 48 148 48 rfl rfl (by decide) hc6 hc7 (pc := 19) d_MM_arrived_19 ?_
    obtain ⟨hc8, h⟩ := h
    refine z_if_eq (tgt := 27) C (pc := 20) d_MM_arrived_20 (by decide) hc8 h (fun h => ?_) (fun h => ?_)
    · refine z_iconst C (pc := 27) d_MM_arrived_27 ?_
      exact z_zret C R (pc := 28) d_MM_arrived_28 (by decide) h
    · refine z_iconst C (pc := 23) d_MM_arrived_23 ?_
      refine z_goto (tgt := 28) C (pc := 24) d_MM_arrived_24 (by decide) ?_
      exact z_zret C R (pc := 28) d_MM_arrived_28 (by decide) h
theorem d_MM_ending_0 : decode b_MM_ending 0 = .ok (.aload_n 0, 1) := by decide +kernel
theorem d_MM_ending_1 : decode b_MM_ending 1 = .ok (.getfield 102, 3) := by decide +kernel
theorem d_MM_ending_4 : decode b_MM_ending 4 = .ok (.iload_n 1, 1) := by decide +kernel
theorem d_MM_ending_5 : decode b_MM_ending 5 = .ok (.iaload, 1) := by decide +kernel
theorem d_MM_ending_6 : decode b_MM_ending 6 = .ok (.ifCond .le 24, 3) := by decide +kernel
theorem d_MM_ending_9 : decode b_MM_ending 9 = .ok (.aload_n 0, 1) := by decide +kernel
theorem d_MM_ending_10 : decode b_MM_ending 10 = .ok (.getfield 108, 3) := by decide +kernel
theorem d_MM_ending_13 : decode b_MM_ending 13 = .ok (.iload_n 1, 1) := by decide +kernel
theorem d_MM_ending_14 : decode b_MM_ending 14 = .ok (.laload, 1) := by decide +kernel
theorem d_MM_ending_15 : decode b_MM_ending 15 = .ok (.aload_n 0, 1) := by decide +kernel
theorem d_MM_ending_16 : decode b_MM_ending 16 = .ok (.getfield 102, 3) := by decide +kernel
theorem d_MM_ending_19 : decode b_MM_ending 19 = .ok (.iload_n 1, 1) := by decide +kernel
theorem d_MM_ending_20 : decode b_MM_ending 20 = .ok (.iaload, 1) := by decide +kernel
theorem d_MM_ending_21 : decode b_MM_ending 21 = .ok (.iconst 1, 1) := by decide +kernel
theorem d_MM_ending_22 : decode b_MM_ending 22 = .ok (.isub, 1) := by decide +kernel
theorem d_MM_ending_23 : decode b_MM_ending 23 = .ok (.lshr, 1) := by decide +kernel
theorem d_MM_ending_24 : decode b_MM_ending 24 = .ok (.lconst 1, 1) := by decide +kernel
theorem d_MM_ending_25 : decode b_MM_ending 25 = .ok (.land, 1) := by decide +kernel
theorem d_MM_ending_26 : decode b_MM_ending 26 = .ok (.l2i, 1) := by decide +kernel
theorem d_MM_ending_27 : decode b_MM_ending 27 = .ok (.goto 14, 3) := by decide +kernel
theorem d_MM_ending_30 : decode b_MM_ending 30 = .ok (.aload_n 0, 1) := by decide +kernel
theorem d_MM_ending_31 : decode b_MM_ending 31 = .ok (.getfield 129, 3) := by decide +kernel
theorem d_MM_ending_34 : decode b_MM_ending 34 = .ok (.aload_n 0, 1) := by decide +kernel
theorem d_MM_ending_35 : decode b_MM_ending 35 = .ok (.getfield 92, 3) := by decide +kernel
theorem d_MM_ending_38 : decode b_MM_ending 38 = .ok (.iload_n 1, 1) := by decide +kernel
theorem d_MM_ending_39 : decode b_MM_ending 39 = .ok (.iaload, 1) := by decide +kernel
theorem d_MM_ending_40 : decode b_MM_ending 40 = .ok (.iaload, 1) := by decide +kernel
theorem d_MM_ending_41 : decode b_MM_ending 41 = .ok (.ireturn, 1) := by decide +kernel
def wp_MM_ending (Q : Int → zS → Prop) (v1 : Int) (σ : zS) : Prop :=
  0 ≤ v1 ∧ v1 < 196 ∧ 
  zc (σ 138 v1) ∧ ((σ 138 v1 ≤ 0 →
    0 ≤ σ 135 v1 ∧ σ 135 v1 < 48 ∧ 
    Q (σ 149 (σ 135 v1)) σ) ∧
   (¬ σ 138 v1 ≤ 0 →
    Q (zland (zlshr (σ 140 v1) ((σ 138 v1) - 1)) 1) σ))
set_option maxHeartbeats 4000000 in
set_option maxRecDepth 100000 in
theorem c_MM_ending (l : Launch) (D : va_G) (g : zG) (ad : zA) (v1 : Int) (Q : Int → zS → Prop) (σ : zS) (h : wp_MM_ending Q v1 σ) : zMi l y_MM_ending b_MM_ending 2 (some .int) { frames := 0, cells := 0, slots := 0, locals := 0 } D g ad σ [.ref (ad (0, 3)), .int (zi v1)] Q := by
  unfold wp_MM_ending at h
  refine zM_of (by decide) (Nat.le_of_ble_eq_true rfl) (fun E C R hl => ?_)
  have C : zX E b_MM_ending R_MM D g { frames := 0, cells := 0, slots := 0, locals := 0 } 2 := C
  refine z_sub (L' := [(0, .ref (ad (0, 3))), (1, .int (zi v1))]) [0, 1] rfl ?_
  refine z_aload_n C (pc := 0) d_MM_ending_0 0 rfl ?_
  refine m_getA C 38 (by decide) rfl wd_742 (pc := 1) d_MM_ending_1 ?_
  refine z_iload_n C (pc := 4) d_MM_ending_4 1 rfl ?_
  obtain ⟨hc1, hc2, h⟩ := h
  refine m_iald C 38 138 196 rfl rfl (by decide) hc1 hc2 (pc := 5) d_MM_ending_5 ?_
  obtain ⟨hc3, h⟩ := h
  refine z_if_le (tgt := 30) C (pc := 6) d_MM_ending_6 (by decide) hc3 h (fun h => ?_) (fun h => ?_)
  · refine z_aload_n C (pc := 30) d_MM_ending_30 0 rfl ?_
    refine m_getA C 49 (by decide) rfl wd_753 (pc := 31) d_MM_ending_31 ?_
    refine z_aload_n C (pc := 34) d_MM_ending_34 0 rfl ?_
    refine m_getA C 35 (by decide) rfl wd_739 (pc := 35) d_MM_ending_35 ?_
    refine z_iload_n C (pc := 38) d_MM_ending_38 1 rfl ?_
    refine m_iald C 35 135 196 rfl rfl (by decide) hc1 hc2 (pc := 39) d_MM_ending_39 ?_
    obtain ⟨hc6, hc7, h⟩ := h
    refine m_iald C 49 149 48 rfl rfl (by decide) hc6 hc7 (pc := 40) d_MM_ending_40 ?_
    exact z_iret C R (pc := 41) d_MM_ending_41 h
  · refine z_aload_n C (pc := 9) d_MM_ending_9 0 rfl ?_
    refine m_getA C 40 (by decide) rfl wd_744 (pc := 10) d_MM_ending_10 ?_
    refine z_iload_n C (pc := 13) d_MM_ending_13 1 rfl ?_
    refine m_lald C 40 140 196 rfl rfl (by decide) hc1 hc2 (pc := 14) d_MM_ending_14 ?_
    refine z_aload_n C (pc := 15) d_MM_ending_15 0 rfl ?_
    refine m_getA C 38 (by decide) rfl wd_742 (pc := 16) d_MM_ending_16 ?_
    refine z_iload_n C (pc := 19) d_MM_ending_19 1 rfl ?_
    refine m_iald C 38 138 196 rfl rfl (by decide) hc1 hc2 (pc := 20) d_MM_ending_20 ?_
    refine z_iconst C (pc := 21) d_MM_ending_21 ?_
    refine z_isub C (pc := 22) d_MM_ending_22 ?_
    refine z_lshr C (pc := 23) d_MM_ending_23 ?_
    refine z_lconst (y := 1) C (pc := 24) d_MM_ending_24 (by decide) ?_
    refine z_land C (pc := 25) d_MM_ending_25 ?_
    refine z_l2i C (pc := 26) d_MM_ending_26 ?_
    refine z_goto (tgt := 41) C (pc := 27) d_MM_ending_27 (by decide) ?_
    exact z_iret C R (pc := 41) d_MM_ending_41 h
theorem d_MM_worked_0 : decode b_MM_worked 0 = .ok (.aload_n 0, 1) := by decide +kernel
theorem d_MM_worked_1 : decode b_MM_worked 1 = .ok (.aload_n 0, 1) := by decide +kernel
theorem d_MM_worked_2 : decode b_MM_worked 2 = .ok (.getfield 77, 3) := by decide +kernel
theorem d_MM_worked_5 : decode b_MM_worked 5 = .ok (.iload_n 1, 1) := by decide +kernel
theorem d_MM_worked_6 : decode b_MM_worked 6 = .ok (.iaload, 1) := by decide +kernel
theorem d_MM_worked_7 : decode b_MM_worked 7 = .ok (.invokevirtual 249, 3) := by decide +kernel
theorem d_MM_worked_10 : decode b_MM_worked 10 = .ok (.istore_n 2, 1) := by decide +kernel
theorem d_MM_worked_11 : decode b_MM_worked 11 = .ok (.iconst 0, 1) := by decide +kernel
theorem d_MM_worked_12 : decode b_MM_worked 12 = .ok (.istore_n 3, 1) := by decide +kernel
theorem d_MM_worked_13 : decode b_MM_worked 13 = .ok (.iconst 0, 1) := by decide +kernel
theorem d_MM_worked_14 : decode b_MM_worked 14 = .ok (.istore 4, 2) := by decide +kernel
theorem d_MM_worked_16 : decode b_MM_worked 16 = .ok (.iload 4, 2) := by decide +kernel
theorem d_MM_worked_18 : decode b_MM_worked 18 = .ok (.iload_n 2, 1) := by decide +kernel
theorem d_MM_worked_19 : decode b_MM_worked 19 = .ok (.if_icmp .ge 40, 3) := by decide +kernel
theorem d_MM_worked_22 : decode b_MM_worked 22 = .ok (.aload_n 0, 1) := by decide +kernel
theorem d_MM_worked_23 : decode b_MM_worked 23 = .ok (.iconst 4, 1) := by decide +kernel
theorem d_MM_worked_24 : decode b_MM_worked 24 = .ok (.iload_n 1, 1) := by decide +kernel
theorem d_MM_worked_25 : decode b_MM_worked 25 = .ok (.imul, 1) := by decide +kernel
theorem d_MM_worked_26 : decode b_MM_worked 26 = .ok (.iload 4, 2) := by decide +kernel
theorem d_MM_worked_28 : decode b_MM_worked 28 = .ok (.iadd, 1) := by decide +kernel
theorem d_MM_worked_29 : decode b_MM_worked 29 = .ok (.invokevirtual 303, 3) := by decide +kernel
theorem d_MM_worked_32 : decode b_MM_worked 32 = .ok (.ifCond .ne 5, 3) := by decide +kernel
theorem d_MM_worked_35 : decode b_MM_worked 35 = .ok (.iconst 0, 1) := by decide +kernel
theorem d_MM_worked_36 : decode b_MM_worked 36 = .ok (.ireturn, 1) := by decide +kernel
theorem d_MM_worked_37 : decode b_MM_worked 37 = .ok (.iload_n 3, 1) := by decide +kernel
theorem d_MM_worked_38 : decode b_MM_worked 38 = .ok (.aload_n 0, 1) := by decide +kernel
theorem d_MM_worked_39 : decode b_MM_worked 39 = .ok (.iconst 4, 1) := by decide +kernel
theorem d_MM_worked_40 : decode b_MM_worked 40 = .ok (.iload_n 1, 1) := by decide +kernel
theorem d_MM_worked_41 : decode b_MM_worked 41 = .ok (.imul, 1) := by decide +kernel
theorem d_MM_worked_42 : decode b_MM_worked 42 = .ok (.iload 4, 2) := by decide +kernel
theorem d_MM_worked_44 : decode b_MM_worked 44 = .ok (.iadd, 1) := by decide +kernel
theorem d_MM_worked_45 : decode b_MM_worked 45 = .ok (.invokevirtual 306, 3) := by decide +kernel
theorem d_MM_worked_48 : decode b_MM_worked 48 = .ok (.iload 4, 2) := by decide +kernel
theorem d_MM_worked_50 : decode b_MM_worked 50 = .ok (.ishl, 1) := by decide +kernel
theorem d_MM_worked_51 : decode b_MM_worked 51 = .ok (.ior, 1) := by decide +kernel
theorem d_MM_worked_52 : decode b_MM_worked 52 = .ok (.istore_n 3, 1) := by decide +kernel
theorem d_MM_worked_53 : decode b_MM_worked 53 = .ok (.iinc 4 1, 3) := by decide +kernel
theorem d_MM_worked_56 : decode b_MM_worked 56 = .ok (.goto (-40), 3) := by decide +kernel
theorem d_MM_worked_59 : decode b_MM_worked 59 = .ok (.aload_n 0, 1) := by decide +kernel
theorem d_MM_worked_60 : decode b_MM_worked 60 = .ok (.getfield 129, 3) := by decide +kernel
theorem d_MM_worked_63 : decode b_MM_worked 63 = .ok (.iload_n 1, 1) := by decide +kernel
theorem d_MM_worked_64 : decode b_MM_worked 64 = .ok (.aload_n 0, 1) := by decide +kernel
theorem d_MM_worked_65 : decode b_MM_worked 65 = .ok (.aload_n 0, 1) := by decide +kernel
theorem d_MM_worked_66 : decode b_MM_worked 66 = .ok (.getfield 77, 3) := by decide +kernel
theorem d_MM_worked_69 : decode b_MM_worked 69 = .ok (.iload_n 1, 1) := by decide +kernel
theorem d_MM_worked_70 : decode b_MM_worked 70 = .ok (.iaload, 1) := by decide +kernel
theorem d_MM_worked_71 : decode b_MM_worked 71 = .ok (.iload_n 3, 1) := by decide +kernel
theorem d_MM_worked_72 : decode b_MM_worked 72 = .ok (.invokevirtual 259, 3) := by decide +kernel
theorem d_MM_worked_75 : decode b_MM_worked 75 = .ok (.iastore, 1) := by decide +kernel
theorem d_MM_worked_76 : decode b_MM_worked 76 = .ok (.aload_n 0, 1) := by decide +kernel
theorem d_MM_worked_77 : decode b_MM_worked 77 = .ok (.getfield 126, 3) := by decide +kernel
theorem d_MM_worked_80 : decode b_MM_worked 80 = .ok (.iload_n 1, 1) := by decide +kernel
theorem d_MM_worked_81 : decode b_MM_worked 81 = .ok (.iconst 1, 1) := by decide +kernel
theorem d_MM_worked_82 : decode b_MM_worked 82 = .ok (.bastore, 1) := by decide +kernel
theorem d_MM_worked_83 : decode b_MM_worked 83 = .ok (.iconst 1, 1) := by decide +kernel
theorem d_MM_worked_84 : decode b_MM_worked 84 = .ok (.ireturn, 1) := by decide +kernel
def lp_MM_worked_16 (Q : Int → zS → Prop) : Nat → Int → Int → Int → Int → zS → Prop
  | 0 => fun _ _ _ _ _ => False
  | n + 1 => fun v1 v2 v3 v4 σ =>
    zc v4 ∧ zc v2 ∧ ((v2 ≤ v4 →
      0 ≤ v1 ∧ v1 < 48 ∧ 
      wp_MM_work (fun r10 σ9 =>
        ∀ σ13, σ13 = zup σ9 149 v1 r10 →
        ∀ σ16, σ16 = zup σ13 148 v1 1 →
        Q 1 σ16) (σ 129 v1) v3 σ) ∧
     (¬ v2 ≤ v4 →
      wp_MM_arrived (fun r18 σ17 =>
        zc r18 ∧ ((r18 = 0 →
          Q 0 σ17) ∧
         (¬ r18 = 0 →
          wp_MM_ending (fun r21 σ20 =>
            ∀ y22, y22 = zor v3 (zshl r21 v4) →
            lp_MM_worked_16 Q n v1 v2 y22 (v4 + 1) σ20) ((4 * v1) + v4) σ17))) ((4 * v1) + v4) σ))
def wp_MM_worked (Q : Int → zS → Prop) (v1 : Int) (σ : zS) : Prop :=
  0 ≤ v1 ∧ v1 < 48 ∧ 
  wp_MM_pinsOf (fun r4 σ3 =>
    ∃ u16, lp_MM_worked_16 Q u16 v1 r4 0 0 σ3) (σ 129 v1) σ
set_option maxHeartbeats 4000000 in
set_option maxRecDepth 100000 in
theorem wk_MM_worked_16 {E : zE} {D : va_G} {g : zG} {A : Nat → Prop} {ad : zA} {Q : Int → zS → Prop} (C : zX E b_MM_worked R_MM D g { frames := 2, cells := 0, slots := 0, locals := 49 } 5) (R : zRt E (some .boolean) (zQi D g ad Q A) 0 0 A) : ∀ (n : Nat) (v1 : Int) (v2 : Int) (v3 : Int) (v4 : Int) (σ : zS), lp_MM_worked_16 Q n v1 v2 v3 v4 σ → zW E (zOK D A (zst E) g ad) 0 0 16 [(0, .ref (ad (0, 3))), (1, .int (zi v1)), (2, .int (zi v2)), (3, .int (zi v3)), (4, .int (zi v4))] [] σ := by
  intro n
  induction n with
  | zero =>
    intro v1 v2 v3 v4 σ h
    exact h.elim
  | succ n ih =>
    intro v1 v2 v3 v4 σ h
    refine z_iload C (pc := 16) d_MM_worked_16 4 rfl ?_
    refine z_iload_n C (pc := 18) d_MM_worked_18 2 rfl ?_
    obtain ⟨hc5, hc6, h⟩ := h
    refine z_icmp_ge (tgt := 59) C (pc := 19) d_MM_worked_19 (by decide) hc5 hc6 h (fun h => ?_) (fun h => ?_)
    · refine z_aload_n C (pc := 59) d_MM_worked_59 0 rfl ?_
      refine m_getA C 49 (by decide) rfl wd_753 (pc := 60) d_MM_worked_60 ?_
      refine z_iload_n C (pc := 63) d_MM_worked_63 1 rfl ?_
      refine z_aload_n C (pc := 64) d_MM_worked_64 0 rfl ?_
      refine z_aload_n C (pc := 65) d_MM_worked_65 0 rfl ?_
      refine m_getA C 29 (by decide) rfl wd_733 (pc := 66) d_MM_worked_66 ?_
      refine z_iload_n C (pc := 69) d_MM_worked_69 1 rfl ?_
      obtain ⟨hc7, hc8, h⟩ := h
      refine m_iald C 29 129 48 rfl rfl (by decide) hc7 hc8 (pc := 70) d_MM_worked_70 ?_
      refine z_iload_n C (pc := 71) d_MM_worked_71 3 rfl ?_
      refine m_calli (As := [.int (zi (σ 129 v1)), .int (zi v3)]) C fy_MM_work rfl wd_1038 (pc := 72) d_MM_worked_72 ⟨rfl, rfl, Nat.le_of_ble_eq_true rfl, Nat.le_of_ble_eq_true rfl⟩ rfl rfl (Nat.le_of_ble_eq_true rfl) h (c_MM_work (zln E) D g ad _ _ _ _) (fun r10 σ9 h => ?_)
      refine m_iast C 49 149 48 rfl rfl (by decide) hc7 hc8 (pc := 75) d_MM_worked_75 ?_
      refine zN h (fun σ13 eσ13 h => ?_)
      refine z_aload_n C (pc := 76) d_MM_worked_76 0 rfl ?_
      refine m_getA C 48 (by decide) rfl wd_752 (pc := 77) d_MM_worked_77 ?_
      refine z_iload_n C (pc := 80) d_MM_worked_80 1 rfl ?_
      refine z_iconst C (pc := 81) d_MM_worked_81 ?_
      refine m_zast C 48 148 48 rfl rfl (by decide) hc7 hc8 (by decide) (pc := 82) d_MM_worked_82 ?_
      refine zN h (fun σ16 eσ16 h => ?_)
      refine z_iconst C (pc := 83) d_MM_worked_83 ?_
      exact z_zret C R (pc := 84) d_MM_worked_84 (by decide) h
    · refine z_aload_n C (pc := 22) d_MM_worked_22 0 rfl ?_
      refine z_iconst C (pc := 23) d_MM_worked_23 ?_
      refine z_iload_n C (pc := 24) d_MM_worked_24 1 rfl ?_
      refine z_imul C (pc := 25) d_MM_worked_25 ?_
      refine z_iload C (pc := 26) d_MM_worked_26 4 rfl ?_
      refine z_iadd C (pc := 28) d_MM_worked_28 ?_
      refine m_calli (As := [.int (zi ((4 * v1) + v4))]) C fy_MM_arrived rfl wd_1093 (pc := 29) d_MM_worked_29 ⟨rfl, rfl, Nat.le_of_ble_eq_true rfl, Nat.le_of_ble_eq_true rfl⟩ rfl rfl (Nat.le_of_ble_eq_true rfl) h (c_MM_arrived (zln E) D g ad _ _ _) (fun r18 σ17 h => ?_)
      obtain ⟨hc19, h⟩ := h
      refine z_if_ne (tgt := 37) C (pc := 32) d_MM_worked_32 (by decide) hc19 h (fun h => ?_) (fun h => ?_)
      · refine z_iload_n C (pc := 37) d_MM_worked_37 3 rfl ?_
        refine z_aload_n C (pc := 38) d_MM_worked_38 0 rfl ?_
        refine z_iconst C (pc := 39) d_MM_worked_39 ?_
        refine z_iload_n C (pc := 40) d_MM_worked_40 1 rfl ?_
        refine z_imul C (pc := 41) d_MM_worked_41 ?_
        refine z_iload C (pc := 42) d_MM_worked_42 4 rfl ?_
        refine z_iadd C (pc := 44) d_MM_worked_44 ?_
        refine m_calli (As := [.int (zi ((4 * v1) + v4))]) C fy_MM_ending rfl wd_1097 (pc := 45) d_MM_worked_45 ⟨rfl, rfl, Nat.le_of_ble_eq_true rfl, Nat.le_of_ble_eq_true rfl⟩ rfl rfl (Nat.le_of_ble_eq_true rfl) h (c_MM_ending (zln E) D g ad _ _ _) (fun r21 σ20 h => ?_)
        refine z_iload C (pc := 48) d_MM_worked_48 4 rfl ?_
        refine z_ishl C (pc := 50) d_MM_worked_50 ?_
        refine z_ior C (pc := 51) d_MM_worked_51 ?_
        refine zNi h (fun y22 ey22 h => ?_)
        refine z_istore_n (L' := [(3, .int (zi y22)), (0, .ref (ad (0, 3))), (1, .int (zi v1)), (2, .int (zi v2)), (4, .int (zi v4))]) C (pc := 52) d_MM_worked_52 (by decide) rfl ?_
        refine z_iinc (L' := [(4, .int (zi (v4 + 1))), (3, .int (zi y22)), (0, .ref (ad (0, 3))), (1, .int (zi v1)), (2, .int (zi v2))]) C (pc := 53) d_MM_worked_53 4 rfl (by decide) rfl ?_
        refine z_goto (tgt := 16) C (pc := 56) d_MM_worked_56 (by decide) ?_
        refine z_sub [2, 3, 4, 1, 0] rfl ?_
        exact ih _ _ _ _ _ h
      · refine z_iconst C (pc := 35) d_MM_worked_35 ?_
        exact z_zret C R (pc := 36) d_MM_worked_36 (by decide) h
set_option maxHeartbeats 4000000 in
set_option maxRecDepth 100000 in
theorem c_MM_worked (l : Launch) (D : va_G) (g : zG) (ad : zA) (v1 : Int) (Q : Int → zS → Prop) (σ : zS) (h : wp_MM_worked Q v1 σ) : zMi l y_MM_worked b_MM_worked 5 (some .boolean) { frames := 2, cells := 0, slots := 0, locals := 49 } D g ad σ [.ref (ad (0, 3)), .int (zi v1)] Q := by
  unfold wp_MM_worked at h
  refine zM_of (by decide) (Nat.le_of_ble_eq_true rfl) (fun E C R hl => ?_)
  have C : zX E b_MM_worked R_MM D g { frames := 2, cells := 0, slots := 0, locals := 49 } 5 := C
  refine z_sub (L' := [(0, .ref (ad (0, 3))), (1, .int (zi v1))]) [0, 1] rfl ?_
  refine z_aload_n C (pc := 0) d_MM_worked_0 0 rfl ?_
  refine z_aload_n C (pc := 1) d_MM_worked_1 0 rfl ?_
  refine m_getA C 29 (by decide) rfl wd_733 (pc := 2) d_MM_worked_2 ?_
  refine z_iload_n C (pc := 5) d_MM_worked_5 1 rfl ?_
  obtain ⟨hc1, hc2, h⟩ := h
  refine m_iald C 29 129 48 rfl rfl (by decide) hc1 hc2 (pc := 6) d_MM_worked_6 ?_
  refine m_calli (As := [.int (zi (σ 129 v1))]) C fy_MM_pinsOf rfl wd_1026 (pc := 7) d_MM_worked_7 ⟨rfl, rfl, Nat.le_of_ble_eq_true rfl, Nat.le_of_ble_eq_true rfl⟩ rfl rfl (Nat.le_of_ble_eq_true rfl) h (c_MM_pinsOf (zln E) D g ad _ _ _) (fun r4 σ3 h => ?_)
  refine z_istore_n (L' := [(2, .int (zi r4)), (0, .ref (ad (0, 3))), (1, .int (zi v1))]) C (pc := 10) d_MM_worked_10 (by decide) rfl ?_
  refine z_iconst C (pc := 11) d_MM_worked_11 ?_
  refine z_istore_n (L' := [(3, .int (zi 0)), (2, .int (zi r4)), (0, .ref (ad (0, 3))), (1, .int (zi v1))]) C (pc := 12) d_MM_worked_12 (by decide) rfl ?_
  refine z_iconst C (pc := 13) d_MM_worked_13 ?_
  refine z_istore (L' := [(4, .int (zi 0)), (3, .int (zi 0)), (2, .int (zi r4)), (0, .ref (ad (0, 3))), (1, .int (zi v1))]) C (pc := 14) d_MM_worked_14 (by decide) rfl ?_
  refine z_sub [3, 4, 2, 1, 0] rfl ?_
  obtain ⟨n23, h⟩ := h
  exact wk_MM_worked_16 C R n23 _ _ _ _ _ h
