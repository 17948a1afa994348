theorem d_MM_needed_0 : decode b_MM_needed 0 = .ok (.aload_n 0, 1) := by decide +kernel
theorem d_MM_needed_1 : decode b_MM_needed 1 = .ok (.getfield 13, 3) := by decide +kernel
theorem d_MM_needed_4 : decode b_MM_needed 4 = .ok (.iload_n 1, 1) := by decide +kernel
theorem d_MM_needed_5 : decode b_MM_needed 5 = .ok (.iaload, 1) := by decide +kernel
theorem d_MM_needed_6 : decode b_MM_needed 6 = .ok (.istore_n 2, 1) := by decide +kernel
theorem d_MM_needed_7 : decode b_MM_needed 7 = .ok (.aload_n 0, 1) := by decide +kernel
theorem d_MM_needed_8 : decode b_MM_needed 8 = .ok (.getfield 64, 3) := by decide +kernel
theorem d_MM_needed_11 : decode b_MM_needed 11 = .ok (.iload_n 2, 1) := by decide +kernel
theorem d_MM_needed_12 : decode b_MM_needed 12 = .ok (.iconst 1, 1) := by decide +kernel
theorem d_MM_needed_13 : decode b_MM_needed 13 = .ok (.bastore, 1) := by decide +kernel
theorem d_MM_needed_14 : decode b_MM_needed 14 = .ok (.aload_n 0, 1) := by decide +kernel
theorem d_MM_needed_15 : decode b_MM_needed 15 = .ok (.getfield 68, 3) := by decide +kernel
theorem d_MM_needed_18 : decode b_MM_needed 18 = .ok (.iload_n 2, 1) := by decide +kernel
theorem d_MM_needed_19 : decode b_MM_needed 19 = .ok (.aload_n 0, 1) := by decide +kernel
theorem d_MM_needed_20 : decode b_MM_needed 20 = .ok (.iload_n 2, 1) := by decide +kernel
theorem d_MM_needed_21 : decode b_MM_needed 21 = .ok (.invokevirtual 203, 3) := by decide +kernel
theorem d_MM_needed_24 : decode b_MM_needed 24 = .ok (.bastore, 1) := by decide +kernel
theorem d_MM_needed_25 : decode b_MM_needed 25 = .ok (.return_, 1) := by decide +kernel
def wp_MM_needed (Q : zS → Prop) (v1 : Int) (σ : zS) : Prop :=
  0 ≤ v1 ∧ v1 < 40 ∧ 
  ∀ y3, y3 = σ 102 v1 →
  0 ≤ y3 ∧ y3 < 48 ∧ ∀ σ6, σ6 = zup σ 125 y3 1 →
  wp_MM_logic (fun r8 σ7 =>
    (r8 = 0 ∨ r8 = 1) ∧ ∀ σ12, σ12 = zup σ7 126 y3 r8 →
    Q σ12) y3 σ6
set_option maxHeartbeats 4000000 in
set_option maxRecDepth 100000 in
theorem c_MM_needed (l : Launch) (D : va_G) (g : zG) (ad : zA) (v1 : Int) (Q : zS → Prop) (σ : zS) (h : wp_MM_needed Q v1 σ) : zMv l y_MM_needed b_MM_needed 3 none { frames := 1, cells := 0, slots := 0, locals := 21 } D g ad σ [.ref (ad (0, 3)), .int (zi v1)] Q := by
  unfold wp_MM_needed at h
  refine zM_of (by decide) (Nat.le_of_ble_eq_true rfl) (fun E C R hl => ?_)
  have C : zX E b_MM_needed R_MM D g { frames := 1, cells := 0, slots := 0, locals := 21 } 3 := C
  refine z_sub (L' := [(0, .ref (ad (0, 3))), (1, .int (zi v1))]) [0, 1] rfl ?_
  refine z_aload_n C (pc := 0) d_MM_needed_0 0 rfl ?_
  refine m_getA C 2 (by decide) rfl wd_706 (pc := 1) d_MM_needed_1 ?_
  refine z_iload_n C (pc := 4) d_MM_needed_4 1 rfl ?_
  obtain ⟨hc1, hc2, h⟩ := h
  refine m_iald C 2 102 40 rfl rfl (by decide) hc1 hc2 (pc := 5) d_MM_needed_5 ?_
  refine zNi h (fun y3 ey3 h => ?_)
  refine z_istore_n (L' := [(2, .int (zi y3)), (0, .ref (ad (0, 3))), (1, .int (zi v1))]) C (pc := 6) d_MM_needed_6 (by decide) rfl ?_
  refine z_aload_n C (pc := 7) d_MM_needed_7 1 rfl ?_
  refine m_getA C 25 (by decide) rfl wd_729 (pc := 8) d_MM_needed_8 ?_
  refine z_iload_n C (pc := 11) d_MM_needed_11 0 rfl ?_
  refine z_iconst C (pc := 12) d_MM_needed_12 ?_
  obtain ⟨hc4, hc5, h⟩ := h
  refine m_zast C 25 125 48 rfl rfl (by decide) hc4 hc5 (by decide) (pc := 13) d_MM_needed_13 ?_
  refine zN h (fun σ6 eσ6 h => ?_)
  refine z_aload_n C (pc := 14) d_MM_needed_14 1 rfl ?_
  refine m_getA C 26 (by decide) rfl wd_730 (pc := 15) d_MM_needed_15 ?_
  refine z_iload_n C (pc := 18) d_MM_needed_18 0 rfl ?_
  refine z_aload_n C (pc := 19) d_MM_needed_19 1 rfl ?_
  refine z_iload_n C (pc := 20) d_MM_needed_20 0 rfl ?_
  refine m_calli (As := [.int (zi y3)]) C fy_MM_logic rfl wd_973 (pc := 21) d_MM_needed_21 ⟨rfl, rfl, Nat.le_of_ble_eq_true rfl, Nat.le_of_ble_eq_true rfl⟩ rfl rfl (Nat.le_of_ble_eq_true rfl) h (c_MM_logic (zln E) D g ad _ _ _) (fun r8 σ7 h => ?_)
  obtain ⟨hc11, h⟩ := h
  refine m_zast C 26 126 48 rfl rfl (by decide) hc4 hc5 hc11 (pc := 24) d_MM_needed_24 ?_
  refine zN h (fun σ12 eσ12 h => ?_)
  exact z_vret C R (pc := 25) d_MM_needed_25 h
theorem d_MM_findRoots_0 : decode b_MM_findRoots 0 = .ok (.iconst 0, 1) := by decide +kernel
theorem d_MM_findRoots_1 : decode b_MM_findRoots 1 = .ok (.istore_n 1, 1) := by decide +kernel
theorem d_MM_findRoots_2 : decode b_MM_findRoots 2 = .ok (.iload_n 1, 1) := by decide +kernel
theorem d_MM_findRoots_3 : decode b_MM_findRoots 3 = .ok (.bipush 48, 2) := by decide +kernel
theorem d_MM_findRoots_5 : decode b_MM_findRoots 5 = .ok (.if_icmp .ge 37, 3) := by decide +kernel
theorem d_MM_findRoots_8 : decode b_MM_findRoots 8 = .ok (.aload_n 0, 1) := by decide +kernel
theorem d_MM_findRoots_9 : decode b_MM_findRoots 9 = .ok (.getfield 64, 3) := by decide +kernel
theorem d_MM_findRoots_12 : decode b_MM_findRoots 12 = .ok (.iload_n 1, 1) := by decide +kernel
theorem d_MM_findRoots_13 : decode b_MM_findRoots 13 = .ok (.iconst 0, 1) := by decide +kernel
theorem d_MM_findRoots_14 : decode b_MM_findRoots 14 = .ok (.bastore, 1) := by decide +kernel
theorem d_MM_findRoots_15 : decode b_MM_findRoots 15 = .ok (.aload_n 0, 1) := by decide +kernel
theorem d_MM_findRoots_16 : decode b_MM_findRoots 16 = .ok (.getfield 68, 3) := by decide +kernel
theorem d_MM_findRoots_19 : decode b_MM_findRoots 19 = .ok (.iload_n 1, 1) := by decide +kernel
theorem d_MM_findRoots_20 : decode b_MM_findRoots 20 = .ok (.iconst 0, 1) := by decide +kernel
theorem d_MM_findRoots_21 : decode b_MM_findRoots 21 = .ok (.bastore, 1) := by decide +kernel
theorem d_MM_findRoots_22 : decode b_MM_findRoots 22 = .ok (.aload_n 0, 1) := by decide +kernel
theorem d_MM_findRoots_23 : decode b_MM_findRoots 23 = .ok (.getfield 83, 3) := by decide +kernel
theorem d_MM_findRoots_26 : decode b_MM_findRoots 26 = .ok (.iload_n 1, 1) := by decide +kernel
theorem d_MM_findRoots_27 : decode b_MM_findRoots 27 = .ok (.iconst 0, 1) := by decide +kernel
theorem d_MM_findRoots_28 : decode b_MM_findRoots 28 = .ok (.bastore, 1) := by decide +kernel
theorem d_MM_findRoots_29 : decode b_MM_findRoots 29 = .ok (.aload_n 0, 1) := by decide +kernel
theorem d_MM_findRoots_30 : decode b_MM_findRoots 30 = .ok (.getfield 71, 3) := by decide +kernel
theorem d_MM_findRoots_33 : decode b_MM_findRoots 33 = .ok (.iload_n 1, 1) := by decide +kernel
theorem d_MM_findRoots_34 : decode b_MM_findRoots 34 = .ok (.iconst 0, 1) := by decide +kernel
theorem d_MM_findRoots_35 : decode b_MM_findRoots 35 = .ok (.iastore, 1) := by decide +kernel
theorem d_MM_findRoots_36 : decode b_MM_findRoots 36 = .ok (.iinc 1 1, 3) := by decide +kernel
theorem d_MM_findRoots_39 : decode b_MM_findRoots 39 = .ok (.goto (-37), 3) := by decide +kernel
theorem d_MM_findRoots_42 : decode b_MM_findRoots 42 = .ok (.iconst 0, 1) := by decide +kernel
theorem d_MM_findRoots_43 : decode b_MM_findRoots 43 = .ok (.istore_n 1, 1) := by decide +kernel
theorem d_MM_findRoots_44 : decode b_MM_findRoots 44 = .ok (.iload_n 1, 1) := by decide +kernel
theorem d_MM_findRoots_45 : decode b_MM_findRoots 45 = .ok (.aload_n 0, 1) := by decide +kernel
theorem d_MM_findRoots_46 : decode b_MM_findRoots 46 = .ok (.getfield 194, 3) := by decide +kernel
theorem d_MM_findRoots_49 : decode b_MM_findRoots 49 = .ok (.if_icmp .ge 19, 3) := by decide +kernel
theorem d_MM_findRoots_52 : decode b_MM_findRoots 52 = .ok (.aload_n 0, 1) := by decide +kernel
theorem d_MM_findRoots_53 : decode b_MM_findRoots 53 = .ok (.aload_n 0, 1) := by decide +kernel
theorem d_MM_findRoots_54 : decode b_MM_findRoots 54 = .ok (.getfield 52, 3) := by decide +kernel
theorem d_MM_findRoots_57 : decode b_MM_findRoots 57 = .ok (.iload_n 1, 1) := by decide +kernel
theorem d_MM_findRoots_58 : decode b_MM_findRoots 58 = .ok (.iaload, 1) := by decide +kernel
theorem d_MM_findRoots_59 : decode b_MM_findRoots 59 = .ok (.invokevirtual 206, 3) := by decide +kernel
theorem d_MM_findRoots_62 : decode b_MM_findRoots 62 = .ok (.iinc 1 1, 3) := by decide +kernel
theorem d_MM_findRoots_65 : decode b_MM_findRoots 65 = .ok (.goto (-21), 3) := by decide +kernel
theorem d_MM_findRoots_68 : decode b_MM_findRoots 68 = .ok (.iconst 0, 1) := by decide +kernel
theorem d_MM_findRoots_69 : decode b_MM_findRoots 69 = .ok (.istore_n 1, 1) := by decide +kernel
theorem d_MM_findRoots_70 : decode b_MM_findRoots 70 = .ok (.iload_n 1, 1) := by decide +kernel
theorem d_MM_findRoots_71 : decode b_MM_findRoots 71 = .ok (.aload_n 0, 1) := by decide +kernel
theorem d_MM_findRoots_72 : decode b_MM_findRoots 72 = .ok (.getfield 168, 3) := by decide +kernel
theorem d_MM_findRoots_75 : decode b_MM_findRoots 75 = .ok (.if_icmp .ge 29, 3) := by decide +kernel
theorem d_MM_findRoots_78 : decode b_MM_findRoots 78 = .ok (.aload_n 0, 1) := by decide +kernel
theorem d_MM_findRoots_79 : decode b_MM_findRoots 79 = .ok (.getfield 7, 3) := by decide +kernel
theorem d_MM_findRoots_82 : decode b_MM_findRoots 82 = .ok (.iload_n 1, 1) := by decide +kernel
theorem d_MM_findRoots_83 : decode b_MM_findRoots 83 = .ok (.iaload, 1) := by decide +kernel
theorem d_MM_findRoots_84 : decode b_MM_findRoots 84 = .ok (.iconst 1, 1) := by decide +kernel
theorem d_MM_findRoots_85 : decode b_MM_findRoots 85 = .ok (.if_icmp .ne 13, 3) := by decide +kernel
theorem d_MM_findRoots_88 : decode b_MM_findRoots 88 = .ok (.aload_n 0, 1) := by decide +kernel
theorem d_MM_findRoots_89 : decode b_MM_findRoots 89 = .ok (.aload_n 0, 1) := by decide +kernel
theorem d_MM_findRoots_90 : decode b_MM_findRoots 90 = .ok (.getfield 22, 3) := by decide +kernel
theorem d_MM_findRoots_93 : decode b_MM_findRoots 93 = .ok (.iload_n 1, 1) := by decide +kernel
theorem d_MM_findRoots_94 : decode b_MM_findRoots 94 = .ok (.iaload, 1) := by decide +kernel
theorem d_MM_findRoots_95 : decode b_MM_findRoots 95 = .ok (.invokevirtual 206, 3) := by decide +kernel
theorem d_MM_findRoots_98 : decode b_MM_findRoots 98 = .ok (.iinc 1 1, 3) := by decide +kernel
theorem d_MM_findRoots_101 : decode b_MM_findRoots 101 = .ok (.goto (-31), 3) := by decide +kernel
theorem d_MM_findRoots_104 : decode b_MM_findRoots 104 = .ok (.aload_n 0, 1) := by decide +kernel
theorem d_MM_findRoots_105 : decode b_MM_findRoots 105 = .ok (.getfield 135, 3) := by decide +kernel
theorem d_MM_findRoots_108 : decode b_MM_findRoots 108 = .ok (.iconst 1, 1) := by decide +kernel
theorem d_MM_findRoots_109 : decode b_MM_findRoots 109 = .ok (.isub, 1) := by decide +kernel
theorem d_MM_findRoots_110 : decode b_MM_findRoots 110 = .ok (.istore_n 1, 1) := by decide +kernel
theorem d_MM_findRoots_111 : decode b_MM_findRoots 111 = .ok (.iload_n 1, 1) := by decide +kernel
theorem d_MM_findRoots_112 : decode b_MM_findRoots 112 = .ok (.ifCond .lt 90, 3) := by decide +kernel
theorem d_MM_findRoots_115 : decode b_MM_findRoots 115 = .ok (.aload_n 0, 1) := by decide +kernel
theorem d_MM_findRoots_116 : decode b_MM_findRoots 116 = .ok (.getfield 64, 3) := by decide +kernel
theorem d_MM_findRoots_119 : decode b_MM_findRoots 119 = .ok (.iload_n 1, 1) := by decide +kernel
theorem d_MM_findRoots_120 : decode b_MM_findRoots 120 = .ok (.baload, 1) := by decide +kernel
theorem d_MM_findRoots_121 : decode b_MM_findRoots 121 = .ok (.ifCond .eq 75, 3) := by decide +kernel
theorem d_MM_findRoots_124 : decode b_MM_findRoots 124 = .ok (.aload_n 0, 1) := by decide +kernel
theorem d_MM_findRoots_125 : decode b_MM_findRoots 125 = .ok (.iload_n 1, 1) := by decide +kernel
theorem d_MM_findRoots_126 : decode b_MM_findRoots 126 = .ok (.invokevirtual 203, 3) := by decide +kernel
theorem d_MM_findRoots_129 : decode b_MM_findRoots 129 = .ok (.ifCond .eq 67, 3) := by decide +kernel
theorem d_MM_findRoots_132 : decode b_MM_findRoots 132 = .ok (.aload_n 0, 1) := by decide +kernel
theorem d_MM_findRoots_133 : decode b_MM_findRoots 133 = .ok (.getfield 64, 3) := by decide +kernel
theorem d_MM_findRoots_136 : decode b_MM_findRoots 136 = .ok (.aload_n 0, 1) := by decide +kernel
theorem d_MM_findRoots_137 : decode b_MM_findRoots 137 = .ok (.getfield 43, 3) := by decide +kernel
theorem d_MM_findRoots_140 : decode b_MM_findRoots 140 = .ok (.iload_n 1, 1) := by decide +kernel
theorem d_MM_findRoots_141 : decode b_MM_findRoots 141 = .ok (.iaload, 1) := by decide +kernel
theorem d_MM_findRoots_142 : decode b_MM_findRoots 142 = .ok (.iconst 1, 1) := by decide +kernel
theorem d_MM_findRoots_143 : decode b_MM_findRoots 143 = .ok (.bastore, 1) := by decide +kernel
theorem d_MM_findRoots_144 : decode b_MM_findRoots 144 = .ok (.aload_n 0, 1) := by decide +kernel
theorem d_MM_findRoots_145 : decode b_MM_findRoots 145 = .ok (.getfield 71, 3) := by decide +kernel
theorem d_MM_findRoots_148 : decode b_MM_findRoots 148 = .ok (.aload_n 0, 1) := by decide +kernel
theorem d_MM_findRoots_149 : decode b_MM_findRoots 149 = .ok (.getfield 43, 3) := by decide +kernel
theorem d_MM_findRoots_152 : decode b_MM_findRoots 152 = .ok (.iload_n 1, 1) := by decide +kernel
theorem d_MM_findRoots_153 : decode b_MM_findRoots 153 = .ok (.iaload, 1) := by decide +kernel
theorem d_MM_findRoots_154 : decode b_MM_findRoots 154 = .ok (.dup2, 1) := by decide +kernel
theorem d_MM_findRoots_155 : decode b_MM_findRoots 155 = .ok (.iaload, 1) := by decide +kernel
theorem d_MM_findRoots_156 : decode b_MM_findRoots 156 = .ok (.iconst 1, 1) := by decide +kernel
theorem d_MM_findRoots_157 : decode b_MM_findRoots 157 = .ok (.iadd, 1) := by decide +kernel
theorem d_MM_findRoots_158 : decode b_MM_findRoots 158 = .ok (.iastore, 1) := by decide +kernel
theorem d_MM_findRoots_159 : decode b_MM_findRoots 159 = .ok (.aload_n 0, 1) := by decide +kernel
theorem d_MM_findRoots_160 : decode b_MM_findRoots 160 = .ok (.getfield 40, 3) := by decide +kernel
theorem d_MM_findRoots_163 : decode b_MM_findRoots 163 = .ok (.iload_n 1, 1) := by decide +kernel
theorem d_MM_findRoots_164 : decode b_MM_findRoots 164 = .ok (.iaload, 1) := by decide +kernel
theorem d_MM_findRoots_165 : decode b_MM_findRoots 165 = .ok (.iconst 2, 1) := by decide +kernel
theorem d_MM_findRoots_166 : decode b_MM_findRoots 166 = .ok (.if_icmp .ne 30, 3) := by decide +kernel
theorem d_MM_findRoots_169 : decode b_MM_findRoots 169 = .ok (.aload_n 0, 1) := by decide +kernel
theorem d_MM_findRoots_170 : decode b_MM_findRoots 170 = .ok (.getfield 64, 3) := by decide +kernel
theorem d_MM_findRoots_173 : decode b_MM_findRoots 173 = .ok (.aload_n 0, 1) := by decide +kernel
theorem d_MM_findRoots_174 : decode b_MM_findRoots 174 = .ok (.getfield 46, 3) := by decide +kernel
theorem d_MM_findRoots_177 : decode b_MM_findRoots 177 = .ok (.iload_n 1, 1) := by decide +kernel
theorem d_MM_findRoots_178 : decode b_MM_findRoots 178 = .ok (.iaload, 1) := by decide +kernel
theorem d_MM_findRoots_179 : decode b_MM_findRoots 179 = .ok (.iconst 1, 1) := by decide +kernel
theorem d_MM_findRoots_180 : decode b_MM_findRoots 180 = .ok (.bastore, 1) := by decide +kernel
theorem d_MM_findRoots_181 : decode b_MM_findRoots 181 = .ok (.aload_n 0, 1) := by decide +kernel
theorem d_MM_findRoots_182 : decode b_MM_findRoots 182 = .ok (.getfield 71, 3) := by decide +kernel
theorem d_MM_findRoots_185 : decode b_MM_findRoots 185 = .ok (.aload_n 0, 1) := by decide +kernel
theorem d_MM_findRoots_186 : decode b_MM_findRoots 186 = .ok (.getfield 46, 3) := by decide +kernel
theorem d_MM_findRoots_189 : decode b_MM_findRoots 189 = .ok (.iload_n 1, 1) := by decide +kernel
theorem d_MM_findRoots_190 : decode b_MM_findRoots 190 = .ok (.iaload, 1) := by decide +kernel
theorem d_MM_findRoots_191 : decode b_MM_findRoots 191 = .ok (.dup2, 1) := by decide +kernel
theorem d_MM_findRoots_192 : decode b_MM_findRoots 192 = .ok (.iaload, 1) := by decide +kernel
theorem d_MM_findRoots_193 : decode b_MM_findRoots 193 = .ok (.iconst 1, 1) := by decide +kernel
theorem d_MM_findRoots_194 : decode b_MM_findRoots 194 = .ok (.iadd, 1) := by decide +kernel
theorem d_MM_findRoots_195 : decode b_MM_findRoots 195 = .ok (.iastore, 1) := by decide +kernel
theorem d_MM_findRoots_196 : decode b_MM_findRoots 196 = .ok (.iinc 1 (-1), 3) := by decide +kernel
theorem d_MM_findRoots_199 : decode b_MM_findRoots 199 = .ok (.goto (-88), 3) := by decide +kernel
theorem d_MM_findRoots_202 : decode b_MM_findRoots 202 = .ok (.iconst 0, 1) := by decide +kernel
theorem d_MM_findRoots_203 : decode b_MM_findRoots 203 = .ok (.istore_n 1, 1) := by decide +kernel
theorem d_MM_findRoots_204 : decode b_MM_findRoots 204 = .ok (.iload_n 1, 1) := by decide +kernel
theorem d_MM_findRoots_205 : decode b_MM_findRoots 205 = .ok (.aload_n 0, 1) := by decide +kernel
theorem d_MM_findRoots_206 : decode b_MM_findRoots 206 = .ok (.getfield 135, 3) := by decide +kernel
theorem d_MM_findRoots_209 : decode b_MM_findRoots 209 = .ok (.if_icmp .ge 47, 3) := by decide +kernel
theorem d_MM_findRoots_212 : decode b_MM_findRoots 212 = .ok (.aload_n 0, 1) := by decide +kernel
theorem d_MM_findRoots_213 : decode b_MM_findRoots 213 = .ok (.getfield 68, 3) := by decide +kernel
theorem d_MM_findRoots_216 : decode b_MM_findRoots 216 = .ok (.iload_n 1, 1) := by decide +kernel
theorem d_MM_findRoots_217 : decode b_MM_findRoots 217 = .ok (.aload_n 0, 1) := by decide +kernel
theorem d_MM_findRoots_218 : decode b_MM_findRoots 218 = .ok (.getfield 68, 3) := by decide +kernel
theorem d_MM_findRoots_221 : decode b_MM_findRoots 221 = .ok (.iload_n 1, 1) := by decide +kernel
theorem d_MM_findRoots_222 : decode b_MM_findRoots 222 = .ok (.baload, 1) := by decide +kernel
theorem d_MM_findRoots_223 : decode b_MM_findRoots 223 = .ok (.ifCond .ne 21, 3) := by decide +kernel
theorem d_MM_findRoots_226 : decode b_MM_findRoots 226 = .ok (.aload_n 0, 1) := by decide +kernel
theorem d_MM_findRoots_227 : decode b_MM_findRoots 227 = .ok (.iload_n 1, 1) := by decide +kernel
theorem d_MM_findRoots_228 : decode b_MM_findRoots 228 = .ok (.invokevirtual 203, 3) := by decide +kernel
theorem d_MM_findRoots_231 : decode b_MM_findRoots 231 = .ok (.ifCond .eq 17, 3) := by decide +kernel
theorem d_MM_findRoots_234 : decode b_MM_findRoots 234 = .ok (.aload_n 0, 1) := by decide +kernel
theorem d_MM_findRoots_235 : decode b_MM_findRoots 235 = .ok (.getfield 71, 3) := by decide +kernel
theorem d_MM_findRoots_238 : decode b_MM_findRoots 238 = .ok (.iload_n 1, 1) := by decide +kernel
theorem d_MM_findRoots_239 : decode b_MM_findRoots 239 = .ok (.iaload, 1) := by decide +kernel
theorem d_MM_findRoots_240 : decode b_MM_findRoots 240 = .ok (.iconst 1, 1) := by decide +kernel
theorem d_MM_findRoots_241 : decode b_MM_findRoots 241 = .ok (.if_icmp .le 7, 3) := by decide +kernel
theorem d_MM_findRoots_244 : decode b_MM_findRoots 244 = .ok (.iconst 1, 1) := by decide +kernel
theorem d_MM_findRoots_245 : decode b_MM_findRoots 245 = .ok (.goto 4, 3) := by decide +kernel
theorem d_MM_findRoots_248 : decode b_MM_findRoots 248 = .ok (.iconst 0, 1) := by decide +kernel
theorem d_MM_findRoots_249 : decode b_MM_findRoots 249 = .ok (.bastore, 1) := by decide +kernel
theorem d_MM_findRoots_250 : decode b_MM_findRoots 250 = .ok (.iinc 1 1, 3) := by decide +kernel
theorem d_MM_findRoots_253 : decode b_MM_findRoots 253 = .ok (.goto (-49), 3) := by decide +kernel
theorem d_MM_findRoots_256 : decode b_MM_findRoots 256 = .ok (.return_, 1) := by decide +kernel
def bk_MM_findRoots_249 (Q : zS → Prop) (J204 : Int → zS → Prop) (v1 : Int) (z0 : Int) (z1 : Int) (σ : zS) : Prop :=
  0 ≤ z1 ∧ z1 < 48 ∧ (z0 = 0 ∨ z0 = 1) ∧ ∀ σ16, σ16 = zup σ 126 z1 z0 →
  J204 (v1 + 1) σ16
def bk_MM_findRoots_244 (Q : zS → Prop) (J204 : Int → zS → Prop) (v1 : Int) (z0 : Int) (σ : zS) : Prop :=
  bk_MM_findRoots_249 Q J204 v1 1 z0 σ
def bk_MM_findRoots_248 (Q : zS → Prop) (J204 : Int → zS → Prop) (v1 : Int) (z0 : Int) (σ : zS) : Prop :=
  bk_MM_findRoots_249 Q J204 v1 0 z0 σ
def lp_MM_findRoots_204 (Q : zS → Prop) : Nat → Int → zS → Prop
  | 0 => fun _ _ => False
  | n + 1 => fun v1 σ =>
    zc v1 ∧ zc (σ 113 0) ∧ ((σ 113 0 ≤ v1 →
      Q σ) ∧
     (¬ σ 113 0 ≤ v1 →
      0 ≤ v1 ∧ v1 < 48 ∧ 
      zc (σ 126 v1) ∧ ((σ 126 v1 = 0 →
        wp_MM_logic (fun r18 σ17 =>
          zc r18 ∧ ((r18 = 0 →
            bk_MM_findRoots_248 Q (lp_MM_findRoots_204 Q n) v1 v1 σ17) ∧
           (¬ r18 = 0 →
            zc (σ17 127 v1) ∧ ((σ17 127 v1 ≤ 1 →
              bk_MM_findRoots_248 Q (lp_MM_findRoots_204 Q n) v1 v1 σ17) ∧
             (¬ σ17 127 v1 ≤ 1 →
              bk_MM_findRoots_244 Q (lp_MM_findRoots_204 Q n) v1 v1 σ17))))) v1 σ) ∧
       (¬ σ 126 v1 = 0 →
        bk_MM_findRoots_244 Q (lp_MM_findRoots_204 Q n) v1 v1 σ))))
def lp_MM_findRoots_111 (Q : zS → Prop) : Nat → Int → zS → Prop
  | 0 => fun _ _ => False
  | n + 1 => fun v1 σ =>
    zc v1 ∧ ((v1 < 0 →
      ∃ u204, lp_MM_findRoots_204 Q u204 0 σ) ∧
     (¬ v1 < 0 →
      0 ≤ v1 ∧ v1 < 48 ∧ 
      zc (σ 125 v1) ∧ ((σ 125 v1 = 0 →
        lp_MM_findRoots_111 Q n (v1 + (-1)) σ) ∧
       (¬ σ 125 v1 = 0 →
        wp_MM_logic (fun r28 σ27 =>
          zc r28 ∧ ((r28 = 0 →
            lp_MM_findRoots_111 Q n (v1 + (-1)) σ27) ∧
           (¬ r28 = 0 →
            0 ≤ σ27 115 v1 ∧ σ27 115 v1 < 48 ∧ ∀ σ34, σ34 = zup σ27 125 (σ27 115 v1) 1 →
            0 ≤ σ34 115 v1 ∧ σ34 115 v1 < 48 ∧ 
            ∀ σ41, σ41 = zup σ34 127 (σ34 115 v1) ((σ34 127 (σ34 115 v1)) + 1) →
            zc (σ41 114 v1) ∧ ((σ41 114 v1 = 2 →
              0 ≤ σ41 116 v1 ∧ σ41 116 v1 < 48 ∧ ∀ σ49, σ49 = zup σ41 125 (σ41 116 v1) 1 →
              0 ≤ σ49 116 v1 ∧ σ49 116 v1 < 48 ∧ 
              ∀ σ56, σ56 = zup σ49 127 (σ49 116 v1) ((σ49 127 (σ49 116 v1)) + 1) →
              lp_MM_findRoots_111 Q n (v1 + (-1)) σ56) ∧
             (¬ σ41 114 v1 = 2 →
              lp_MM_findRoots_111 Q n (v1 + (-1)) σ41))))) v1 σ))))
def lp_MM_findRoots_70 (Q : zS → Prop) : Nat → Int → zS → Prop
  | 0 => fun _ _ => False
  | n + 1 => fun v1 σ =>
    zc v1 ∧ zc (σ 100 0) ∧ ((σ 100 0 ≤ v1 →
      ∀ y6, y6 = (σ 113 0) - 1 →
      ∃ u111, lp_MM_findRoots_111 Q u111 y6 σ) ∧
     (¬ σ 100 0 ≤ v1 →
      0 ≤ v1 ∧ v1 < 40 ∧ 
      zc (σ 101 v1) ∧ ((σ 101 v1 = 1 →
        wp_MM_needed (fun σ63 =>
          lp_MM_findRoots_70 Q n (v1 + 1) σ63) (σ 105 v1) σ) ∧
       (¬ σ 101 v1 = 1 →
        lp_MM_findRoots_70 Q n (v1 + 1) σ))))
def lp_MM_findRoots_44 (Q : zS → Prop) : Nat → Int → zS → Prop
  | 0 => fun _ _ => False
  | n + 1 => fun v1 σ =>
    zc v1 ∧ zc (σ 118 0) ∧ ((σ 118 0 ≤ v1 →
      ∃ u70, lp_MM_findRoots_70 Q u70 0 σ) ∧
     (¬ σ 118 0 ≤ v1 →
      0 ≤ v1 ∧ v1 < 4 ∧ 
      wp_MM_needed (fun σ68 =>
        lp_MM_findRoots_44 Q n (v1 + 1) σ68) (σ 119 v1) σ))
def lp_MM_findRoots_2 (Q : zS → Prop) : Nat → Int → zS → Prop
  | 0 => fun _ _ => False
  | n + 1 => fun v1 σ =>
    zc v1 ∧ ((48 ≤ v1 →
      ∃ u44, lp_MM_findRoots_44 Q u44 0 σ) ∧
     (¬ 48 ≤ v1 →
      0 ≤ v1 ∧ v1 < 48 ∧ ∀ σ73, σ73 = zup σ 125 v1 0 →
      ∀ σ76, σ76 = zup σ73 126 v1 0 →
      ∀ σ79, σ79 = zup σ76 131 v1 0 →
      ∀ σ82, σ82 = zup σ79 127 v1 0 →
      lp_MM_findRoots_2 Q n (v1 + 1) σ82))
def wp_MM_findRoots (Q : zS → Prop) (σ : zS) : Prop :=
  ∃ u2, lp_MM_findRoots_2 Q u2 0 σ
set_option maxHeartbeats 4000000 in
set_option maxRecDepth 100000 in
theorem wk_MM_findRoots_249 {E : zE} {D : va_G} {g : zG} {A : Nat → Prop} {ad : zA} {Q : zS → Prop} {J204 : Int → zS → Prop} (C : zX E b_MM_findRoots R_MM D g { frames := 2, cells := 0, slots := 0, locals := 43 } 2) (R : zRt E none (zQv D g ad Q A) 0 0 A) (hJ204 : ∀ (v1 : Int) (σ : zS), J204 v1 σ → zW E (zOK D A (zst E) g ad) 0 0 204 [(0, .ref (ad (0, 3))), (1, .int (zi v1))] [] σ) (v1 : Int) (z0 : Int) (z1 : Int) (σ : zS) (h : bk_MM_findRoots_249 Q J204 v1 z0 z1 σ) : zW E (zOK D A (zst E) g ad) 0 0 249 [(0, .ref (ad (0, 3))), (1, .int (zi v1))] [.int (zi z0), .int (zi z1), .ref (ad (7, 26))] σ := by
  unfold bk_MM_findRoots_249 at h
  obtain ⟨hc13, hc14, hc15, h⟩ := h
  refine m_zast C 26 126 48 rfl rfl (by decide) hc13 hc14 hc15 (pc := 249) d_MM_findRoots_249 ?_
  refine zN h (fun σ16 eσ16 h => ?_)
  refine z_iinc (L' := [(1, .int (zi (v1 + 1))), (0, .ref (ad (0, 3)))]) C (pc := 250) d_MM_findRoots_250 1 rfl (by decide) rfl ?_
  refine z_goto (tgt := 204) C (pc := 253) d_MM_findRoots_253 (by decide) ?_
  refine z_sub [1, 0] rfl ?_
  exact hJ204 _ _ h
set_option maxHeartbeats 4000000 in
set_option maxRecDepth 100000 in
theorem wk_MM_findRoots_244 {E : zE} {D : va_G} {g : zG} {A : Nat → Prop} {ad : zA} {Q : zS → Prop} {J204 : Int → zS → Prop} (C : zX E b_MM_findRoots R_MM D g { frames := 2, cells := 0, slots := 0, locals := 43 } 2) (R : zRt E none (zQv D g ad Q A) 0 0 A) (hJ204 : ∀ (v1 : Int) (σ : zS), J204 v1 σ → zW E (zOK D A (zst E) g ad) 0 0 204 [(0, .ref (ad (0, 3))), (1, .int (zi v1))] [] σ) (v1 : Int) (z0 : Int) (σ : zS) (h : bk_MM_findRoots_244 Q J204 v1 z0 σ) : zW E (zOK D A (zst E) g ad) 0 0 244 [(0, .ref (ad (0, 3))), (1, .int (zi v1))] [.int (zi z0), .ref (ad (7, 26))] σ := by
  unfold bk_MM_findRoots_244 at h
  refine z_iconst C (pc := 244) d_MM_findRoots_244 ?_
  refine z_goto (tgt := 249) C (pc := 245) d_MM_findRoots_245 (by decide) ?_
  exact wk_MM_findRoots_249 C R hJ204 _ _ _ _ h
set_option maxHeartbeats 4000000 in
set_option maxRecDepth 100000 in
theorem wk_MM_findRoots_248 {E : zE} {D : va_G} {g : zG} {A : Nat → Prop} {ad : zA} {Q : zS → Prop} {J204 : Int → zS → Prop} (C : zX E b_MM_findRoots R_MM D g { frames := 2, cells := 0, slots := 0, locals := 43 } 2) (R : zRt E none (zQv D g ad Q A) 0 0 A) (hJ204 : ∀ (v1 : Int) (σ : zS), J204 v1 σ → zW E (zOK D A (zst E) g ad) 0 0 204 [(0, .ref (ad (0, 3))), (1, .int (zi v1))] [] σ) (v1 : Int) (z0 : Int) (σ : zS) (h : bk_MM_findRoots_248 Q J204 v1 z0 σ) : zW E (zOK D A (zst E) g ad) 0 0 248 [(0, .ref (ad (0, 3))), (1, .int (zi v1))] [.int (zi z0), .ref (ad (7, 26))] σ := by
  unfold bk_MM_findRoots_248 at h
  refine z_iconst C (pc := 248) d_MM_findRoots_248 ?_
  exact wk_MM_findRoots_249 C R hJ204 _ _ _ _ h
set_option maxHeartbeats 4000000 in
set_option maxRecDepth 100000 in
theorem wk_MM_findRoots_204 {E : zE} {D : va_G} {g : zG} {A : Nat → Prop} {ad : zA} {Q : zS → Prop} (C : zX E b_MM_findRoots R_MM D g { frames := 2, cells := 0, slots := 0, locals := 43 } 2) (R : zRt E none (zQv D g ad Q A) 0 0 A) : ∀ (n : Nat) (v1 : Int) (σ : zS), lp_MM_findRoots_204 Q n v1 σ → zW E (zOK D A (zst E) g ad) 0 0 204 [(0, .ref (ad (0, 3))), (1, .int (zi v1))] [] σ := by
  intro n
  induction n with
  | zero =>
    intro v1 σ h
    exact h.elim
  | succ n ih =>
    intro v1 σ h
    refine z_iload_n C (pc := 204) d_MM_findRoots_204 1 rfl ?_
    refine z_aload_n C (pc := 205) d_MM_findRoots_205 0 rfl ?_
    refine m_getI C 13 113 rfl (by decide) rfl wd_717 (pc := 206) d_MM_findRoots_206 ?_
    obtain ⟨hc8, hc9, h⟩ := h
    refine z_icmp_ge (tgt := 256) C (pc := 209) d_MM_findRoots_209 (by decide) hc8 hc9 h (fun h => ?_) (fun h => ?_)
    · exact z_vret C R (pc := 256) d_MM_findRoots_256 h
    · refine z_aload_n C (pc := 212) d_MM_findRoots_212 0 rfl ?_
      refine m_getA C 26 (by decide) rfl wd_730 (pc := 213) d_MM_findRoots_213 ?_
      refine z_iload_n C (pc := 216) d_MM_findRoots_216 1 rfl ?_
      refine z_aload_n C (pc := 217) d_MM_findRoots_217 0 rfl ?_
      refine m_getA C 26 (by decide) rfl wd_730 (pc := 218) d_MM_findRoots_218 ?_
      refine z_iload_n C (pc := 221) d_MM_findRoots_221 1 rfl ?_
      obtain ⟨hc10, hc11, h⟩ := h
      refine m_zald C 26 126 48 rfl rfl (by decide) hc10 hc11 (pc := 222) d_MM_findRoots_222 ?_
      obtain ⟨hc12, h⟩ := h
      refine z_if_ne (tgt := 244) C (pc := 223) d_MM_findRoots_223 (by decide) hc12 h (fun h => ?_) (fun h => ?_)
      · exact wk_MM_findRoots_244 C R ih _ _ _ h
      · refine z_aload_n C (pc := 226) d_MM_findRoots_226 0 rfl ?_
        refine z_iload_n C (pc := 227) d_MM_findRoots_227 1 rfl ?_
        refine m_calli (As := [.int (zi v1)]) C fy_MM_logic rfl wd_973 (pc := 228) d_MM_findRoots_228 ⟨rfl, rfl, Nat.le_of_ble_eq_true rfl, Nat.le_of_ble_eq_true rfl⟩ rfl rfl (Nat.le_of_ble_eq_true rfl) h (c_MM_logic (zln E) D g ad _ _ _) (fun r18 σ17 h => ?_)
        obtain ⟨hc19, h⟩ := h
        refine z_if_eq (tgt := 248) C (pc := 231) d_MM_findRoots_231 (by decide) hc19 h (fun h => ?_) (fun h => ?_)
        · exact wk_MM_findRoots_248 C R ih _ _ _ h
        · refine z_aload_n C (pc := 234) d_MM_findRoots_234 0 rfl ?_
          refine m_getA C 27 (by decide) rfl wd_731 (pc := 235) d_MM_findRoots_235 ?_
          refine z_iload_n C (pc := 238) d_MM_findRoots_238 1 rfl ?_
          refine m_iald C 27 127 48 rfl rfl (by decide) hc10 hc11 (pc := 239) d_MM_findRoots_239 ?_
          refine z_iconst C (pc := 240) d_MM_findRoots_240 ?_
          obtain ⟨hc22, h⟩ := h
          refine z_icmp_le (tgt := 248) C (pc := 241) d_MM_findRoots_241 (by decide) hc22 (by decide) h (fun h => ?_) (fun h => ?_)
          · exact wk_MM_findRoots_248 C R ih _ _ _ h
          · exact wk_MM_findRoots_244 C R ih _ _ _ h
set_option maxHeartbeats 4000000 in
set_option maxRecDepth 100000 in
theorem wk_MM_findRoots_111 {E : zE} {D : va_G} {g : zG} {A : Nat → Prop} {ad : zA} {Q : zS → Prop} (C : zX E b_MM_findRoots R_MM D g { frames := 2, cells := 0, slots := 0, locals := 43 } 2) (R : zRt E none (zQv D g ad Q A) 0 0 A) : ∀ (n : Nat) (v1 : Int) (σ : zS), lp_MM_findRoots_111 Q n v1 σ → zW E (zOK D A (zst E) g ad) 0 0 111 [(0, .ref (ad (0, 3))), (1, .int (zi v1))] [] σ := by
  intro n
  induction n with
  | zero =>
    intro v1 σ h
    exact h.elim
  | succ n ih =>
    intro v1 σ h
    refine z_iload_n C (pc := 111) d_MM_findRoots_111 1 rfl ?_
    obtain ⟨hc7, h⟩ := h
    refine z_if_lt (tgt := 202) C (pc := 112) d_MM_findRoots_112 (by decide) hc7 h (fun h => ?_) (fun h => ?_)
    · refine z_iconst C (pc := 202) d_MM_findRoots_202 ?_
      refine z_istore_n (L' := [(1, .int (zi 0)), (0, .ref (ad (0, 3)))]) C (pc := 203) d_MM_findRoots_203 (by decide) rfl ?_
      refine z_sub [1, 0] rfl ?_
      obtain ⟨n23, h⟩ := h
      exact wk_MM_findRoots_204 C R n23 _ _ h
    · refine z_aload_n C (pc := 115) d_MM_findRoots_115 0 rfl ?_
      refine m_getA C 25 (by decide) rfl wd_729 (pc := 116) d_MM_findRoots_116 ?_
      refine z_iload_n C (pc := 119) d_MM_findRoots_119 1 rfl ?_
      obtain ⟨hc24, hc25, h⟩ := h
      refine m_zald C 25 125 48 rfl rfl (by decide) hc24 hc25 (pc := 120) d_MM_findRoots_120 ?_
      obtain ⟨hc26, h⟩ := h
      refine z_if_eq (tgt := 196) C (pc := 121) d_MM_findRoots_121 (by decide) hc26 h (fun h => ?_) (fun h => ?_)
      · refine z_iinc (L' := [(1, .int (zi (v1 + (-1)))), (0, .ref (ad (0, 3)))]) C (pc := 196) d_MM_findRoots_196 1 rfl (by decide) rfl ?_
        refine z_goto (tgt := 111) C (pc := 199) d_MM_findRoots_199 (by decide) ?_
        refine z_sub [1, 0] rfl ?_
        exact ih _ _ h
      · refine z_aload_n C (pc := 124) d_MM_findRoots_124 0 rfl ?_
        refine z_iload_n C (pc := 125) d_MM_findRoots_125 1 rfl ?_
        refine m_calli (As := [.int (zi v1)]) C fy_MM_logic rfl wd_973 (pc := 126) d_MM_findRoots_126 ⟨rfl, rfl, Nat.le_of_ble_eq_true rfl, Nat.le_of_ble_eq_true rfl⟩ rfl rfl (Nat.le_of_ble_eq_true rfl) h (c_MM_logic (zln E) D g ad _ _ _) (fun r28 σ27 h => ?_)
        obtain ⟨hc29, h⟩ := h
        refine z_if_eq (tgt := 196) C (pc := 129) d_MM_findRoots_129 (by decide) hc29 h (fun h => ?_) (fun h => ?_)
        · refine z_iinc (L' := [(1, .int (zi (v1 + (-1)))), (0, .ref (ad (0, 3)))]) C (pc := 196) d_MM_findRoots_196 1 rfl (by decide) rfl ?_
          refine z_goto (tgt := 111) C (pc := 199) d_MM_findRoots_199 (by decide) ?_
          refine z_sub [1, 0] rfl ?_
          exact ih _ _ h
        · refine z_aload_n C (pc := 132) d_MM_findRoots_132 0 rfl ?_
          refine m_getA C 25 (by decide) rfl wd_729 (pc := 133) d_MM_findRoots_133 ?_
          refine z_aload_n C (pc := 136) d_MM_findRoots_136 0 rfl ?_
          refine m_getA C 15 (by decide) rfl wd_719 (pc := 137) d_MM_findRoots_137 ?_
          refine z_iload_n C (pc := 140) d_MM_findRoots_140 1 rfl ?_
          refine m_iald C 15 115 48 rfl rfl (by decide) hc24 hc25 (pc := 141) d_MM_findRoots_141 ?_
          refine z_iconst C (pc := 142) d_MM_findRoots_142 ?_
          obtain ⟨hc32, hc33, h⟩ := h
          refine m_zast C 25 125 48 rfl rfl (by decide) hc32 hc33 (by decide) (pc := 143) d_MM_findRoots_143 ?_
          refine zN h (fun σ34 eσ34 h => ?_)
          refine z_aload_n C (pc := 144) d_MM_findRoots_144 0 rfl ?_
          refine m_getA C 27 (by decide) rfl wd_731 (pc := 145) d_MM_findRoots_145 ?_
          refine z_aload_n C (pc := 148) d_MM_findRoots_148 0 rfl ?_
          refine m_getA C 15 (by decide) rfl wd_719 (pc := 149) d_MM_findRoots_149 ?_
          refine z_iload_n C (pc := 152) d_MM_findRoots_152 1 rfl ?_
          refine m_iald C 15 115 48 rfl rfl (by decide) hc24 hc25 (pc := 153) d_MM_findRoots_153 ?_
          refine z_dup2 C (pc := 154) d_MM_findRoots_154 rfl rfl ?_
          obtain ⟨hc37, hc38, h⟩ := h
          refine m_iald C 27 127 48 rfl rfl (by decide) hc37 hc38 (pc := 155) d_MM_findRoots_155 ?_
          refine z_iconst C (pc := 156) d_MM_findRoots_156 ?_
          refine z_iadd C (pc := 157) d_MM_findRoots_157 ?_
          refine m_iast C 27 127 48 rfl rfl (by decide) hc37 hc38 (pc := 158) d_MM_findRoots_158 ?_
          refine zN h (fun σ41 eσ41 h => ?_)
          refine z_aload_n C (pc := 159) d_MM_findRoots_159 0 rfl ?_
          refine m_getA C 14 (by decide) rfl wd_718 (pc := 160) d_MM_findRoots_160 ?_
          refine z_iload_n C (pc := 163) d_MM_findRoots_163 1 rfl ?_
          refine m_iald C 14 114 48 rfl rfl (by decide) hc24 hc25 (pc := 164) d_MM_findRoots_164 ?_
          refine z_iconst C (pc := 165) d_MM_findRoots_165 ?_
          obtain ⟨hc44, h⟩ := h
          refine z_icmp_ne (tgt := 196) C (pc := 166) d_MM_findRoots_166 (by decide) hc44 (by decide) h (fun h => ?_) (fun h => ?_)
          · refine z_iinc (L' := [(1, .int (zi (v1 + (-1)))), (0, .ref (ad (0, 3)))]) C (pc := 196) d_MM_findRoots_196 1 rfl (by decide) rfl ?_
            refine z_goto (tgt := 111) C (pc := 199) d_MM_findRoots_199 (by decide) ?_
            refine z_sub [1, 0] rfl ?_
            exact ih _ _ h
          · refine z_aload_n C (pc := 169) d_MM_findRoots_169 0 rfl ?_
            refine m_getA C 25 (by decide) rfl wd_729 (pc := 170) d_MM_findRoots_170 ?_
            refine z_aload_n C (pc := 173) d_MM_findRoots_173 0 rfl ?_
            refine m_getA C 16 (by decide) rfl wd_720 (pc := 174) d_MM_findRoots_174 ?_
            refine z_iload_n C (pc := 177) d_MM_findRoots_177 1 rfl ?_
            refine m_iald C 16 116 48 rfl rfl (by decide) hc24 hc25 (pc := 178) d_MM_findRoots_178 ?_
            refine z_iconst C (pc := 179) d_MM_findRoots_179 ?_
            obtain ⟨hc47, hc48, h⟩ := h
            refine m_zast C 25 125 48 rfl rfl (by decide) hc47 hc48 (by decide) (pc := 180) d_MM_findRoots_180 ?_
            refine zN h (fun σ49 eσ49 h => ?_)
            refine z_aload_n C (pc := 181) d_MM_findRoots_181 0 rfl ?_
            refine m_getA C 27 (by decide) rfl wd_731 (pc := 182) d_MM_findRoots_182 ?_
            refine z_aload_n C (pc := 185) d_MM_findRoots_185 0 rfl ?_
            refine m_getA C 16 (by decide) rfl wd_720 (pc := 186) d_MM_findRoots_186 ?_
            refine z_iload_n C (pc := 189) d_MM_findRoots_189 1 rfl ?_
            refine m_iald C 16 116 48 rfl rfl (by decide) hc24 hc25 (pc := 190) d_MM_findRoots_190 ?_
            refine z_dup2 C (pc := 191) d_MM_findRoots_191 rfl rfl ?_
            obtain ⟨hc52, hc53, h⟩ := h
            refine m_iald C 27 127 48 rfl rfl (by decide) hc52 hc53 (pc := 192) d_MM_findRoots_192 ?_
            refine z_iconst C (pc := 193) d_MM_findRoots_193 ?_
            refine z_iadd C (pc := 194) d_MM_findRoots_194 ?_
            refine m_iast C 27 127 48 rfl rfl (by decide) hc52 hc53 (pc := 195) d_MM_findRoots_195 ?_
            refine zN h (fun σ56 eσ56 h => ?_)
            refine z_iinc (L' := [(1, .int (zi (v1 + (-1)))), (0, .ref (ad (0, 3)))]) C (pc := 196) d_MM_findRoots_196 1 rfl (by decide) rfl ?_
            refine z_goto (tgt := 111) C (pc := 199) d_MM_findRoots_199 (by decide) ?_
            refine z_sub [1, 0] rfl ?_
            exact ih _ _ h
set_option maxHeartbeats 4000000 in
set_option maxRecDepth 100000 in
theorem wk_MM_findRoots_70 {E : zE} {D : va_G} {g : zG} {A : Nat → Prop} {ad : zA} {Q : zS → Prop} (C : zX E b_MM_findRoots R_MM D g { frames := 2, cells := 0, slots := 0, locals := 43 } 2) (R : zRt E none (zQv D g ad Q A) 0 0 A) : ∀ (n : Nat) (v1 : Int) (σ : zS), lp_MM_findRoots_70 Q n v1 σ → zW E (zOK D A (zst E) g ad) 0 0 70 [(0, .ref (ad (0, 3))), (1, .int (zi v1))] [] σ := by
  intro n
  induction n with
  | zero =>
    intro v1 σ h
    exact h.elim
  | succ n ih =>
    intro v1 σ h
    refine z_iload_n C (pc := 70) d_MM_findRoots_70 1 rfl ?_
    refine z_aload_n C (pc := 71) d_MM_findRoots_71 0 rfl ?_
    refine m_getI C 0 100 rfl (by decide) rfl wd_704 (pc := 72) d_MM_findRoots_72 ?_
    obtain ⟨hc4, hc5, h⟩ := h
    refine z_icmp_ge (tgt := 104) C (pc := 75) d_MM_findRoots_75 (by decide) hc4 hc5 h (fun h => ?_) (fun h => ?_)
    · refine z_aload_n C (pc := 104) d_MM_findRoots_104 0 rfl ?_
      refine m_getI C 13 113 rfl (by decide) rfl wd_717 (pc := 105) d_MM_findRoots_105 ?_
      refine z_iconst C (pc := 108) d_MM_findRoots_108 ?_
      refine z_isub C (pc := 109) d_MM_findRoots_109 ?_
      refine zNi h (fun y6 ey6 h => ?_)
      refine z_istore_n (L' := [(1, .int (zi y6)), (0, .ref (ad (0, 3)))]) C (pc := 110) d_MM_findRoots_110 (by decide) rfl ?_
      refine z_sub [1, 0] rfl ?_
      obtain ⟨n57, h⟩ := h
      exact wk_MM_findRoots_111 C R n57 _ _ h
    · refine z_aload_n C (pc := 78) d_MM_findRoots_78 0 rfl ?_
      refine m_getA C 1 (by decide) rfl wd_705 (pc := 79) d_MM_findRoots_79 ?_
      refine z_iload_n C (pc := 82) d_MM_findRoots_82 1 rfl ?_
      obtain ⟨hc58, hc59, h⟩ := h
      refine m_iald C 1 101 40 rfl rfl (by decide) hc58 hc59 (pc := 83) d_MM_findRoots_83 ?_
      refine z_iconst C (pc := 84) d_MM_findRoots_84 ?_
      obtain ⟨hc60, h⟩ := h
      refine z_icmp_ne (tgt := 98) C (pc := 85) d_MM_findRoots_85 (by decide) hc60 (by decide) h (fun h => ?_) (fun h => ?_)
      · refine z_iinc (L' := [(1, .int (zi (v1 + 1))), (0, .ref (ad (0, 3)))]) C (pc := 98) d_MM_findRoots_98 1 rfl (by decide) rfl ?_
        refine z_goto (tgt := 70) C (pc := 101) d_MM_findRoots_101 (by decide) ?_
        refine z_sub [1, 0] rfl ?_
        exact ih _ _ h
      · refine z_aload_n C (pc := 88) d_MM_findRoots_88 0 rfl ?_
        refine z_aload_n C (pc := 89) d_MM_findRoots_89 0 rfl ?_
        refine m_getA C 5 (by decide) rfl wd_709 (pc := 90) d_MM_findRoots_90 ?_
        refine z_iload_n C (pc := 93) d_MM_findRoots_93 1 rfl ?_
        refine m_iald C 5 105 40 rfl rfl (by decide) hc58 hc59 (pc := 94) d_MM_findRoots_94 ?_
        refine m_callv (As := [.int (zi (σ 105 v1))]) C fy_MM_needed rfl wd_969 (pc := 95) d_MM_findRoots_95 ⟨rfl, rfl, Nat.le_of_ble_eq_true rfl, Nat.le_of_ble_eq_true rfl⟩ rfl rfl (Nat.le_of_ble_eq_true rfl) h (c_MM_needed (zln E) D g ad _ _ _) (fun σ63 h => ?_)
        refine z_iinc (L' := [(1, .int (zi (v1 + 1))), (0, .ref (ad (0, 3)))]) C (pc := 98) d_MM_findRoots_98 1 rfl (by decide) rfl ?_
        refine z_goto (tgt := 70) C (pc := 101) d_MM_findRoots_101 (by decide) ?_
        refine z_sub [1, 0] rfl ?_
        exact ih _ _ h
set_option maxHeartbeats 4000000 in
set_option maxRecDepth 100000 in
theorem wk_MM_findRoots_44 {E : zE} {D : va_G} {g : zG} {A : Nat → Prop} {ad : zA} {Q : zS → Prop} (C : zX E b_MM_findRoots R_MM D g { frames := 2, cells := 0, slots := 0, locals := 43 } 2) (R : zRt E none (zQv D g ad Q A) 0 0 A) : ∀ (n : Nat) (v1 : Int) (σ : zS), lp_MM_findRoots_44 Q n v1 σ → zW E (zOK D A (zst E) g ad) 0 0 44 [(0, .ref (ad (0, 3))), (1, .int (zi v1))] [] σ := by
  intro n
  induction n with
  | zero =>
    intro v1 σ h
    exact h.elim
  | succ n ih =>
    intro v1 σ h
    refine z_iload_n C (pc := 44) d_MM_findRoots_44 1 rfl ?_
    refine z_aload_n C (pc := 45) d_MM_findRoots_45 0 rfl ?_
    refine m_getI C 18 118 rfl (by decide) rfl wd_722 (pc := 46) d_MM_findRoots_46 ?_
    obtain ⟨hc2, hc3, h⟩ := h
    refine z_icmp_ge (tgt := 68) C (pc := 49) d_MM_findRoots_49 (by decide) hc2 hc3 h (fun h => ?_) (fun h => ?_)
    · refine z_iconst C (pc := 68) d_MM_findRoots_68 ?_
      refine z_istore_n (L' := [(1, .int (zi 0)), (0, .ref (ad (0, 3)))]) C (pc := 69) d_MM_findRoots_69 (by decide) rfl ?_
      refine z_sub [1, 0] rfl ?_
      obtain ⟨n65, h⟩ := h
      exact wk_MM_findRoots_70 C R n65 _ _ h
    · refine z_aload_n C (pc := 52) d_MM_findRoots_52 0 rfl ?_
      refine z_aload_n C (pc := 53) d_MM_findRoots_53 0 rfl ?_
      refine m_getA C 19 (by decide) rfl wd_723 (pc := 54) d_MM_findRoots_54 ?_
      refine z_iload_n C (pc := 57) d_MM_findRoots_57 1 rfl ?_
      obtain ⟨hc66, hc67, h⟩ := h
      refine m_iald C 19 119 4 rfl rfl (by decide) hc66 hc67 (pc := 58) d_MM_findRoots_58 ?_
      refine m_callv (As := [.int (zi (σ 119 v1))]) C fy_MM_needed rfl wd_969 (pc := 59) d_MM_findRoots_59 ⟨rfl, rfl, Nat.le_of_ble_eq_true rfl, Nat.le_of_ble_eq_true rfl⟩ rfl rfl (Nat.le_of_ble_eq_true rfl) h (c_MM_needed (zln E) D g ad _ _ _) (fun σ68 h => ?_)
      refine z_iinc (L' := [(1, .int (zi (v1 + 1))), (0, .ref (ad (0, 3)))]) C (pc := 62) d_MM_findRoots_62 1 rfl (by decide) rfl ?_
      refine z_goto (tgt := 44) C (pc := 65) d_MM_findRoots_65 (by decide) ?_
      refine z_sub [1, 0] rfl ?_
      exact ih _ _ h
set_option maxHeartbeats 4000000 in
set_option maxRecDepth 100000 in
theorem wk_MM_findRoots_2 {E : zE} {D : va_G} {g : zG} {A : Nat → Prop} {ad : zA} {Q : zS → Prop} (C : zX E b_MM_findRoots R_MM D g { frames := 2, cells := 0, slots := 0, locals := 43 } 2) (R : zRt E none (zQv D g ad Q A) 0 0 A) : ∀ (n : Nat) (v1 : Int) (σ : zS), lp_MM_findRoots_2 Q n v1 σ → zW E (zOK D A (zst E) g ad) 0 0 2 [(0, .ref (ad (0, 3))), (1, .int (zi v1))] [] σ := by
  intro n
  induction n with
  | zero =>
    intro v1 σ h
    exact h.elim
  | succ n ih =>
    intro v1 σ h
    refine z_iload_n C (pc := 2) d_MM_findRoots_2 1 rfl ?_
    refine z_bipush C (pc := 3) d_MM_findRoots_3 (by decide) ?_
    obtain ⟨hc1, h⟩ := h
    refine z_icmp_ge (tgt := 42) C (pc := 5) d_MM_findRoots_5 (by decide) hc1 (by decide) h (fun h => ?_) (fun h => ?_)
    · refine z_iconst C (pc := 42) d_MM_findRoots_42 ?_
      refine z_istore_n (L' := [(1, .int (zi 0)), (0, .ref (ad (0, 3)))]) C (pc := 43) d_MM_findRoots_43 (by decide) rfl ?_
      refine z_sub [1, 0] rfl ?_
      obtain ⟨n70, h⟩ := h
      exact wk_MM_findRoots_44 C R n70 _ _ h
    · refine z_aload_n C (pc := 8) d_MM_findRoots_8 0 rfl ?_
      refine m_getA C 25 (by decide) rfl wd_729 (pc := 9) d_MM_findRoots_9 ?_
      refine z_iload_n C (pc := 12) d_MM_findRoots_12 1 rfl ?_
      refine z_iconst C (pc := 13) d_MM_findRoots_13 ?_
      obtain ⟨hc71, hc72, h⟩ := h
      refine m_zast C 25 125 48 rfl rfl (by decide) hc71 hc72 (by decide) (pc := 14) d_MM_findRoots_14 ?_
      refine zN h (fun σ73 eσ73 h => ?_)
      refine z_aload_n C (pc := 15) d_MM_findRoots_15 0 rfl ?_
      refine m_getA C 26 (by decide) rfl wd_730 (pc := 16) d_MM_findRoots_16 ?_
      refine z_iload_n C (pc := 19) d_MM_findRoots_19 1 rfl ?_
      refine z_iconst C (pc := 20) d_MM_findRoots_20 ?_
      refine m_zast C 26 126 48 rfl rfl (by decide) hc71 hc72 (by decide) (pc := 21) d_MM_findRoots_21 ?_
      refine zN h (fun σ76 eσ76 h => ?_)
      refine z_aload_n C (pc := 22) d_MM_findRoots_22 0 rfl ?_
      refine m_getA C 31 (by decide) rfl wd_735 (pc := 23) d_MM_findRoots_23 ?_
      refine z_iload_n C (pc := 26) d_MM_findRoots_26 1 rfl ?_
      refine z_iconst C (pc := 27) d_MM_findRoots_27 ?_
      refine m_zast C 31 131 48 rfl rfl (by decide) hc71 hc72 (by decide) (pc := 28) d_MM_findRoots_28 ?_
      refine zN h (fun σ79 eσ79 h => ?_)
      refine z_aload_n C (pc := 29) d_MM_findRoots_29 0 rfl ?_
      refine m_getA C 27 (by decide) rfl wd_731 (pc := 30) d_MM_findRoots_30 ?_
      refine z_iload_n C (pc := 33) d_MM_findRoots_33 1 rfl ?_
      refine z_iconst C (pc := 34) d_MM_findRoots_34 ?_
      refine m_iast C 27 127 48 rfl rfl (by decide) hc71 hc72 (pc := 35) d_MM_findRoots_35 ?_
      refine zN h (fun σ82 eσ82 h => ?_)
      refine z_iinc (L' := [(1, .int (zi (v1 + 1))), (0, .ref (ad (0, 3)))]) C (pc := 36) d_MM_findRoots_36 1 rfl (by decide) rfl ?_
      refine z_goto (tgt := 2) C (pc := 39) d_MM_findRoots_39 (by decide) ?_
      refine z_sub [1, 0] rfl ?_
      exact ih _ _ h
set_option maxHeartbeats 4000000 in
set_option maxRecDepth 100000 in
theorem c_MM_findRoots (l : Launch) (D : va_G) (g : zG) (ad : zA) (Q : zS → Prop) (σ : zS) (h : wp_MM_findRoots Q σ) : zMv l y_MM_findRoots b_MM_findRoots 2 none { frames := 2, cells := 0, slots := 0, locals := 43 } D g ad σ [.ref (ad (0, 3))] Q := by
  unfold wp_MM_findRoots at h
  refine zM_of (by decide) (Nat.le_of_ble_eq_true rfl) (fun E C R hl => ?_)
  have C : zX E b_MM_findRoots R_MM D g { frames := 2, cells := 0, slots := 0, locals := 43 } 2 := C
  refine z_sub (L' := [(0, .ref (ad (0, 3)))]) [0] rfl ?_
  refine z_iconst C (pc := 0) d_MM_findRoots_0 ?_
  refine z_istore_n (L' := [(1, .int (zi 0)), (0, .ref (ad (0, 3)))]) C (pc := 1) d_MM_findRoots_1 (by decide) rfl ?_
  refine z_sub [1, 0] rfl ?_
  obtain ⟨n83, h⟩ := h
  exact wk_MM_findRoots_2 C R n83 _ _ h
theorem d_MM_nands_0 : decode b_MM_nands 0 = .ok (.iconst 0, 1) := by decide +kernel
theorem d_MM_nands_1 : decode b_MM_nands 1 = .ok (.istore_n 2, 1) := by decide +kernel
theorem d_MM_nands_2 : decode b_MM_nands 2 = .ok (.aload_n 0, 1) := by decide +kernel
theorem d_MM_nands_3 : decode b_MM_nands 3 = .ok (.getfield 55, 3) := by decide +kernel
theorem d_MM_nands_6 : decode b_MM_nands 6 = .ok (.iload_n 1, 1) := by decide +kernel
theorem d_MM_nands_7 : decode b_MM_nands 7 = .ok (.iaload, 1) := by decide +kernel
theorem d_MM_nands_8 : decode b_MM_nands 8 = .ok (.istore_n 3, 1) := by decide +kernel
theorem d_MM_nands_9 : decode b_MM_nands 9 = .ok (.iload_n 3, 1) := by decide +kernel
theorem d_MM_nands_10 : decode b_MM_nands 10 = .ok (.ifCond .eq 25, 3) := by decide +kernel
theorem d_MM_nands_13 : decode b_MM_nands 13 = .ok (.iload_n 3, 1) := by decide +kernel
theorem d_MM_nands_14 : decode b_MM_nands 14 = .ok (.iconst 3, 1) := by decide +kernel
theorem d_MM_nands_15 : decode b_MM_nands 15 = .ok (.iand, 1) := by decide +kernel
theorem d_MM_nands_16 : decode b_MM_nands 16 = .ok (.iconst 3, 1) := by decide +kernel
theorem d_MM_nands_17 : decode b_MM_nands 17 = .ok (.if_icmp .ne 9, 3) := by decide +kernel
theorem d_MM_nands_20 : decode b_MM_nands 20 = .ok (.iload_n 2, 1) := by decide +kernel
theorem d_MM_nands_21 : decode b_MM_nands 21 = .ok (.iconst 1, 1) := by decide +kernel
theorem d_MM_nands_22 : decode b_MM_nands 22 = .ok (.iadd, 1) := by decide +kernel
theorem d_MM_nands_23 : decode b_MM_nands 23 = .ok (.goto 4, 3) := by decide +kernel
theorem d_MM_nands_26 : decode b_MM_nands 26 = .ok (.iload_n 2, 1) := by decide +kernel
theorem d_MM_nands_27 : decode b_MM_nands 27 = .ok (.istore_n 2, 1) := by decide +kernel
theorem d_MM_nands_28 : decode b_MM_nands 28 = .ok (.iload_n 3, 1) := by decide +kernel
theorem d_MM_nands_29 : decode b_MM_nands 29 = .ok (.iconst 2, 1) := by decide +kernel
theorem d_MM_nands_30 : decode b_MM_nands 30 = .ok (.ishr, 1) := by decide +kernel
theorem d_MM_nands_31 : decode b_MM_nands 31 = .ok (.istore_n 3, 1) := by decide +kernel
theorem d_MM_nands_32 : decode b_MM_nands 32 = .ok (.goto (-23), 3) := by decide +kernel
theorem d_MM_nands_35 : decode b_MM_nands 35 = .ok (.iload_n 2, 1) := by decide +kernel
theorem d_MM_nands_36 : decode b_MM_nands 36 = .ok (.ireturn, 1) := by decide +kernel
def bk_MM_nands_27 (Q : Int → zS → Prop) (J9 : Int → Int → zS → Prop) (v3 : Int) (z0 : Int) (σ : zS) : Prop :=
  ∀ y5, y5 = zshr v3 2 →
  J9 z0 y5 σ
def lp_MM_nands_9 (Q : Int → zS → Prop) : Nat → Int → Int → zS → Prop
  | 0 => fun _ _ _ => False
  | n + 1 => fun v2 v3 σ =>
    zc v3 ∧ ((v3 = 0 →
      Q v2 σ) ∧
     (¬ v3 = 0 →
      ((zand v3 3 = 3 →
        bk_MM_nands_27 Q (lp_MM_nands_9 Q n) v3 (v2 + 1) σ) ∧
       (¬ zand v3 3 = 3 →
        bk_MM_nands_27 Q (lp_MM_nands_9 Q n) v3 v2 σ))))
def wp_MM_nands (Q : Int → zS → Prop) (v1 : Int) (σ : zS) : Prop :=
  0 ≤ v1 ∧ v1 < 8 ∧ 
  ∀ y3, y3 = σ 121 v1 →
  ∃ u9, lp_MM_nands_9 Q u9 0 y3 σ
set_option maxHeartbeats 4000000 in
set_option maxRecDepth 100000 in
theorem wk_MM_nands_27 {E : zE} {D : va_G} {g : zG} {A : Nat → Prop} {ad : zA} {Q : Int → zS → Prop} {J9 : Int → Int → zS → Prop} (C : zX E b_MM_nands R_MM D g { frames := 0, cells := 0, slots := 0, locals := 0 } 4) (R : zRt E (some .int) (zQi D g ad Q A) 0 0 A) (hJ9 : ∀ (v2 : Int) (v3 : Int) (σ : zS), J9 v2 v3 σ → zW E (zOK D A (zst E) g ad) 0 0 9 [(2, .int (zi v2)), (3, .int (zi v3))] [] σ) (v3 : Int) (z0 : Int) (σ : zS) (h : bk_MM_nands_27 Q J9 v3 z0 σ) : zW E (zOK D A (zst E) g ad) 0 0 27 [(3, .int (zi v3))] [.int (zi z0)] σ := by
  unfold bk_MM_nands_27 at h
  refine z_istore_n (L' := [(2, .int (zi z0)), (3, .int (zi v3))]) C (pc := 27) d_MM_nands_27 (by decide) rfl ?_
  refine z_iload_n C (pc := 28) d_MM_nands_28 1 rfl ?_
  refine z_iconst C (pc := 29) d_MM_nands_29 ?_
  refine z_ishr C (pc := 30) d_MM_nands_30 ?_
  refine zNi h (fun y5 ey5 h => ?_)
  refine z_istore_n (L' := [(3, .int (zi y5)), (2, .int (zi z0))]) C (pc := 31) d_MM_nands_31 (by decide) rfl ?_
  refine z_goto (tgt := 9) C (pc := 32) d_MM_nands_32 (by decide) ?_
  refine z_sub [1, 0] rfl ?_
  exact hJ9 _ _ _ h
set_option maxHeartbeats 4000000 in
set_option maxRecDepth 100000 in
theorem wk_MM_nands_9 {E : zE} {D : va_G} {g : zG} {A : Nat → Prop} {ad : zA} {Q : Int → zS → Prop} (C : zX E b_MM_nands R_MM D g { frames := 0, cells := 0, slots := 0, locals := 0 } 4) (R : zRt E (some .int) (zQi D g ad Q A) 0 0 A) : ∀ (n : Nat) (v2 : Int) (v3 : Int) (σ : zS), lp_MM_nands_9 Q n v2 v3 σ → zW E (zOK D A (zst E) g ad) 0 0 9 [(2, .int (zi v2)), (3, .int (zi v3))] [] σ := by
  intro n
  induction n with
  | zero =>
    intro v2 v3 σ h
    exact h.elim
  | succ n ih =>
    intro v2 v3 σ h
    refine z_iload_n C (pc := 9) d_MM_nands_9 1 rfl ?_
    obtain ⟨hc4, h⟩ := h
    refine z_if_eq (tgt := 35) C (pc := 10) d_MM_nands_10 (by decide) hc4 h (fun h => ?_) (fun h => ?_)
    · refine z_iload_n C (pc := 35) d_MM_nands_35 0 rfl ?_
      exact z_iret C R (pc := 36) d_MM_nands_36 h
    · refine z_iload_n C (pc := 13) d_MM_nands_13 1 rfl ?_
      refine z_iconst C (pc := 14) d_MM_nands_14 ?_
      refine z_iand C (pc := 15) d_MM_nands_15 ?_
      refine z_iconst C (pc := 16) d_MM_nands_16 ?_
      refine z_icmp_ne (tgt := 26) C (pc := 17) d_MM_nands_17 (by decide) (zc_and _ _) (by decide) h (fun h => ?_) (fun h => ?_)
      · refine z_iload_n C (pc := 26) d_MM_nands_26 0 rfl ?_
        refine z_sub [1] rfl ?_
        exact wk_MM_nands_27 C R ih _ _ _ h
      · refine z_iload_n C (pc := 20) d_MM_nands_20 0 rfl ?_
        refine z_iconst C (pc := 21) d_MM_nands_21 ?_
        refine z_iadd C (pc := 22) d_MM_nands_22 ?_
        refine z_goto (tgt := 27) C (pc := 23) d_MM_nands_23 (by decide) ?_
        refine z_sub [1] rfl ?_
        exact wk_MM_nands_27 C R ih _ _ _ h
set_option maxHeartbeats 4000000 in
set_option maxRecDepth 100000 in
theorem c_MM_nands (l : Launch) (D : va_G) (g : zG) (ad : zA) (v1 : Int) (Q : Int → zS → Prop) (σ : zS) (h : wp_MM_nands Q v1 σ) : zMi l y_MM_nands b_MM_nands 4 (some .int) { frames := 0, cells := 0, slots := 0, locals := 0 } D g ad σ [.ref (ad (0, 3)), .int (zi v1)] Q := by
  unfold wp_MM_nands at h
  refine zM_of (by decide) (Nat.le_of_ble_eq_true rfl) (fun E C R hl => ?_)
  have C : zX E b_MM_nands R_MM D g { frames := 0, cells := 0, slots := 0, locals := 0 } 4 := C
  refine z_sub (L' := [(0, .ref (ad (0, 3))), (1, .int (zi v1))]) [0, 1] rfl ?_
  refine z_iconst C (pc := 0) d_MM_nands_0 ?_
  refine z_istore_n (L' := [(2, .int (zi 0)), (0, .ref (ad (0, 3))), (1, .int (zi v1))]) C (pc := 1) d_MM_nands_1 (by decide) rfl ?_
  refine z_aload_n C (pc := 2) d_MM_nands_2 1 rfl ?_
  refine m_getA C 21 (by decide) rfl wd_725 (pc := 3) d_MM_nands_3 ?_
  refine z_iload_n C (pc := 6) d_MM_nands_6 2 rfl ?_
  obtain ⟨hc1, hc2, h⟩ := h
  refine m_iald C 21 121 8 rfl rfl (by decide) hc1 hc2 (pc := 7) d_MM_nands_7 ?_
  refine zNi h (fun y3 ey3 h => ?_)
  refine z_istore_n (L' := [(3, .int (zi y3)), (2, .int (zi 0)), (0, .ref (ad (0, 3))), (1, .int (zi v1))]) C (pc := 8) d_MM_nands_8 (by decide) rfl ?_
  refine z_sub [1, 0] rfl ?_
  obtain ⟨n6, h⟩ := h
  exact wk_MM_nands_9 C R n6 _ _ _ h
theorem d_MM_lay_0 : decode b_MM_lay 0 = .ok (.aload_n 0, 1) := by decide +kernel
theorem d_MM_lay_1 : decode b_MM_lay 1 = .ok (.getfield 58, 3) := by decide +kernel
theorem d_MM_lay_4 : decode b_MM_lay 4 = .ok (.iload_n 2, 1) := by decide +kernel
theorem d_MM_lay_5 : decode b_MM_lay 5 = .ok (.iaload, 1) := by decide +kernel
theorem d_MM_lay_6 : decode b_MM_lay 6 = .ok (.istore 4, 2) := by decide +kernel
theorem d_MM_lay_8 : decode b_MM_lay 8 = .ok (.aload_n 0, 1) := by decide +kernel
theorem d_MM_lay_9 : decode b_MM_lay 9 = .ok (.iload_n 2, 1) := by decide +kernel
theorem d_MM_lay_10 : decode b_MM_lay 10 = .ok (.invokevirtual 210, 3) := by decide +kernel
theorem d_MM_lay_13 : decode b_MM_lay 13 = .ok (.iconst 1, 1) := by decide +kernel
theorem d_MM_lay_14 : decode b_MM_lay 14 = .ok (.isub, 1) := by decide +kernel
theorem d_MM_lay_15 : decode b_MM_lay 15 = .ok (.istore 5, 2) := by decide +kernel
theorem d_MM_lay_17 : decode b_MM_lay 17 = .ok (.iconst 1, 1) := by decide +kernel
theorem d_MM_lay_18 : decode b_MM_lay 18 = .ok (.istore 6, 2) := by decide +kernel
theorem d_MM_lay_20 : decode b_MM_lay 20 = .ok (.aload_n 0, 1) := by decide +kernel
theorem d_MM_lay_21 : decode b_MM_lay 21 = .ok (.iconst 0, 1) := by decide +kernel
theorem d_MM_lay_22 : decode b_MM_lay 22 = .ok (.putfield 213, 3) := by decide +kernel
theorem d_MM_lay_25 : decode b_MM_lay 25 = .ok (.aload_n 0, 1) := by decide +kernel
theorem d_MM_lay_26 : decode b_MM_lay 26 = .ok (.getfield 86, 3) := by decide +kernel
theorem d_MM_lay_29 : decode b_MM_lay 29 = .ok (.iconst 0, 1) := by decide +kernel
theorem d_MM_lay_30 : decode b_MM_lay 30 = .ok (.iload_n 1, 1) := by decide +kernel
theorem d_MM_lay_31 : decode b_MM_lay 31 = .ok (.iastore, 1) := by decide +kernel
theorem d_MM_lay_32 : decode b_MM_lay 32 = .ok (.aload_n 0, 1) := by decide +kernel
theorem d_MM_lay_33 : decode b_MM_lay 33 = .ok (.getfield 55, 3) := by decide +kernel
theorem d_MM_lay_36 : decode b_MM_lay 36 = .ok (.iload_n 2, 1) := by decide +kernel
theorem d_MM_lay_37 : decode b_MM_lay 37 = .ok (.iaload, 1) := by decide +kernel
theorem d_MM_lay_38 : decode b_MM_lay 38 = .ok (.istore 7, 2) := by decide +kernel
theorem d_MM_lay_40 : decode b_MM_lay 40 = .ok (.iload 7, 2) := by decide +kernel
theorem d_MM_lay_42 : decode b_MM_lay 42 = .ok (.ifCond .eq 252, 3) := by decide +kernel
theorem d_MM_lay_45 : decode b_MM_lay 45 = .ok (.iinc 6 (-1), 3) := by decide +kernel
theorem d_MM_lay_48 : decode b_MM_lay 48 = .ok (.aload_n 0, 1) := by decide +kernel
theorem d_MM_lay_49 : decode b_MM_lay 49 = .ok (.getfield 86, 3) := by decide +kernel
theorem d_MM_lay_52 : decode b_MM_lay 52 = .ok (.iload 6, 2) := by decide +kernel
theorem d_MM_lay_54 : decode b_MM_lay 54 = .ok (.iaload, 1) := by decide +kernel
theorem d_MM_lay_55 : decode b_MM_lay 55 = .ok (.istore 8, 2) := by decide +kernel
theorem d_MM_lay_57 : decode b_MM_lay 57 = .ok (.iload 7, 2) := by decide +kernel
theorem d_MM_lay_59 : decode b_MM_lay 59 = .ok (.iconst 3, 1) := by decide +kernel
theorem d_MM_lay_60 : decode b_MM_lay 60 = .ok (.iand, 1) := by decide +kernel
theorem d_MM_lay_61 : decode b_MM_lay 61 = .ok (.iconst 1, 1) := by decide +kernel
theorem d_MM_lay_62 : decode b_MM_lay 62 = .ok (.if_icmp .ne 63, 3) := by decide +kernel
theorem d_MM_lay_65 : decode b_MM_lay 65 = .ok (.aload_n 0, 1) := by decide +kernel
theorem d_MM_lay_66 : decode b_MM_lay 66 = .ok (.getfield 89, 3) := by decide +kernel
theorem d_MM_lay_69 : decode b_MM_lay 69 = .ok (.aload_n 0, 1) := by decide +kernel
theorem d_MM_lay_70 : decode b_MM_lay 70 = .ok (.getfield 213, 3) := by decide +kernel
theorem d_MM_lay_73 : decode b_MM_lay 73 = .ok (.iload 8, 2) := by decide +kernel
theorem d_MM_lay_75 : decode b_MM_lay 75 = .ok (.iastore, 1) := by decide +kernel
theorem d_MM_lay_76 : decode b_MM_lay 76 = .ok (.aload_n 0, 1) := by decide +kernel
theorem d_MM_lay_77 : decode b_MM_lay 77 = .ok (.dup, 1) := by decide +kernel
theorem d_MM_lay_78 : decode b_MM_lay 78 = .ok (.getfield 213, 3) := by decide +kernel
theorem d_MM_lay_81 : decode b_MM_lay 81 = .ok (.iconst 1, 1) := by decide +kernel
theorem d_MM_lay_82 : decode b_MM_lay 82 = .ok (.iadd, 1) := by decide +kernel
theorem d_MM_lay_83 : decode b_MM_lay 83 = .ok (.putfield 213, 3) := by decide +kernel
theorem d_MM_lay_86 : decode b_MM_lay 86 = .ok (.aload_n 0, 1) := by decide +kernel
theorem d_MM_lay_87 : decode b_MM_lay 87 = .ok (.iload 8, 2) := by decide +kernel
theorem d_MM_lay_89 : decode b_MM_lay 89 = .ok (.invokevirtual 203, 3) := by decide +kernel
theorem d_MM_lay_92 : decode b_MM_lay 92 = .ok (.ifCond .eq 26, 3) := by decide +kernel
theorem d_MM_lay_95 : decode b_MM_lay 95 = .ok (.aload_n 0, 1) := by decide +kernel
theorem d_MM_lay_96 : decode b_MM_lay 96 = .ok (.getfield 68, 3) := by decide +kernel
theorem d_MM_lay_99 : decode b_MM_lay 99 = .ok (.iload 8, 2) := by decide +kernel
theorem d_MM_lay_101 : decode b_MM_lay 101 = .ok (.baload, 1) := by decide +kernel
theorem d_MM_lay_102 : decode b_MM_lay 102 = .ok (.ifCond .ne 16, 3) := by decide +kernel
theorem d_MM_lay_105 : decode b_MM_lay 105 = .ok (.iload 4, 2) := by decide +kernel
theorem d_MM_lay_107 : decode b_MM_lay 107 = .ok (.aload_n 0, 1) := by decide +kernel
theorem d_MM_lay_108 : decode b_MM_lay 108 = .ok (.getfield 74, 3) := by decide +kernel
theorem d_MM_lay_111 : decode b_MM_lay 111 = .ok (.iload 8, 2) := by decide +kernel
theorem d_MM_lay_113 : decode b_MM_lay 113 = .ok (.iaload, 1) := by decide +kernel
theorem d_MM_lay_114 : decode b_MM_lay 114 = .ok (.iadd, 1) := by decide +kernel
theorem d_MM_lay_115 : decode b_MM_lay 115 = .ok (.goto 5, 3) := by decide +kernel
theorem d_MM_lay_118 : decode b_MM_lay 118 = .ok (.iload 4, 2) := by decide +kernel
theorem d_MM_lay_120 : decode b_MM_lay 120 = .ok (.istore 4, 2) := by decide +kernel
theorem d_MM_lay_122 : decode b_MM_lay 122 = .ok (.goto 163, 3) := by decide +kernel
theorem d_MM_lay_125 : decode b_MM_lay 125 = .ok (.aload_n 0, 1) := by decide +kernel
theorem d_MM_lay_126 : decode b_MM_lay 126 = .ok (.getfield 40, 3) := by decide +kernel
theorem d_MM_lay_129 : decode b_MM_lay 129 = .ok (.iload 8, 2) := by decide +kernel
theorem d_MM_lay_131 : decode b_MM_lay 131 = .ok (.iaload, 1) := by decide +kernel
theorem d_MM_lay_132 : decode b_MM_lay 132 = .ok (.iload 7, 2) := by decide +kernel
theorem d_MM_lay_134 : decode b_MM_lay 134 = .ok (.iconst 3, 1) := by decide +kernel
theorem d_MM_lay_135 : decode b_MM_lay 135 = .ok (.iand, 1) := by decide +kernel
theorem d_MM_lay_136 : decode b_MM_lay 136 = .ok (.iconst 2, 1) := by decide +kernel
theorem d_MM_lay_137 : decode b_MM_lay 137 = .ok (.if_icmp .ne 7, 3) := by decide +kernel
theorem d_MM_lay_140 : decode b_MM_lay 140 = .ok (.iconst 3, 1) := by decide +kernel
theorem d_MM_lay_141 : decode b_MM_lay 141 = .ok (.goto 4, 3) := by decide +kernel
theorem d_MM_lay_144 : decode b_MM_lay 144 = .ok (.iconst 2, 1) := by decide +kernel
theorem d_MM_lay_145 : decode b_MM_lay 145 = .ok (.if_icmp .ne 24, 3) := by decide +kernel
theorem d_MM_lay_148 : decode b_MM_lay 148 = .ok (.iload 7, 2) := by decide +kernel
theorem d_MM_lay_150 : decode b_MM_lay 150 = .ok (.aload_n 0, 1) := by decide +kernel
theorem d_MM_lay_151 : decode b_MM_lay 151 = .ok (.getfield 55, 3) := by decide +kernel
theorem d_MM_lay_154 : decode b_MM_lay 154 = .ok (.iload_n 2, 1) := by decide +kernel
theorem d_MM_lay_155 : decode b_MM_lay 155 = .ok (.iaload, 1) := by decide +kernel
theorem d_MM_lay_156 : decode b_MM_lay 156 = .ok (.if_icmp .eq 15, 3) := by decide +kernel
theorem d_MM_lay_159 : decode b_MM_lay 159 = .ok (.aload_n 0, 1) := by decide +kernel
theorem d_MM_lay_160 : decode b_MM_lay 160 = .ok (.getfield 68, 3) := by decide +kernel
theorem d_MM_lay_163 : decode b_MM_lay 163 = .ok (.iload 8, 2) := by decide +kernel
theorem d_MM_lay_165 : decode b_MM_lay 165 = .ok (.baload, 1) := by decide +kernel
theorem d_MM_lay_166 : decode b_MM_lay 166 = .ok (.ifCond .eq 5, 3) := by decide +kernel
theorem d_MM_lay_169 : decode b_MM_lay 169 = .ok (.iconst (-1), 1) := by decide +kernel
theorem d_MM_lay_170 : decode b_MM_lay 170 = .ok (.ireturn, 1) := by decide +kernel
theorem d_MM_lay_171 : decode b_MM_lay 171 = .ok (.iload 7, 2) := by decide +kernel
theorem d_MM_lay_173 : decode b_MM_lay 173 = .ok (.iconst 3, 1) := by decide +kernel
theorem d_MM_lay_174 : decode b_MM_lay 174 = .ok (.iand, 1) := by decide +kernel
theorem d_MM_lay_175 : decode b_MM_lay 175 = .ok (.iconst 2, 1) := by decide +kernel
theorem d_MM_lay_176 : decode b_MM_lay 176 = .ok (.if_icmp .ne 23, 3) := by decide +kernel
theorem d_MM_lay_179 : decode b_MM_lay 179 = .ok (.aload_n 0, 1) := by decide +kernel
theorem d_MM_lay_180 : decode b_MM_lay 180 = .ok (.getfield 86, 3) := by decide +kernel
theorem d_MM_lay_183 : decode b_MM_lay 183 = .ok (.iload 6, 2) := by decide +kernel
theorem d_MM_lay_185 : decode b_MM_lay 185 = .ok (.aload_n 0, 1) := by decide +kernel
theorem d_MM_lay_186 : decode b_MM_lay 186 = .ok (.getfield 43, 3) := by decide +kernel
theorem d_MM_lay_189 : decode b_MM_lay 189 = .ok (.iload 8, 2) := by decide +kernel
theorem d_MM_lay_191 : decode b_MM_lay 191 = .ok (.iaload, 1) := by decide +kernel
theorem d_MM_lay_192 : decode b_MM_lay 192 = .ok (.iastore, 1) := by decide +kernel
theorem d_MM_lay_193 : decode b_MM_lay 193 = .ok (.iinc 6 1, 3) := by decide +kernel
theorem d_MM_lay_196 : decode b_MM_lay 196 = .ok (.goto 89, 3) := by decide +kernel
theorem d_MM_lay_199 : decode b_MM_lay 199 = .ok (.iload_n 3, 1) := by decide +kernel
theorem d_MM_lay_200 : decode b_MM_lay 200 = .ok (.iload 5, 2) := by decide +kernel
theorem d_MM_lay_202 : decode b_MM_lay 202 = .ok (.ishr, 1) := by decide +kernel
theorem d_MM_lay_203 : decode b_MM_lay 203 = .ok (.iconst 1, 1) := by decide +kernel
theorem d_MM_lay_204 : decode b_MM_lay 204 = .ok (.iand, 1) := by decide +kernel
theorem d_MM_lay_205 : decode b_MM_lay 205 = .ok (.iconst 1, 1) := by decide +kernel
theorem d_MM_lay_206 : decode b_MM_lay 206 = .ok (.if_icmp .ne 7, 3) := by decide +kernel
theorem d_MM_lay_209 : decode b_MM_lay 209 = .ok (.iconst 1, 1) := by decide +kernel
theorem d_MM_lay_210 : decode b_MM_lay 210 = .ok (.goto 4, 3) := by decide +kernel
theorem d_MM_lay_213 : decode b_MM_lay 213 = .ok (.iconst 0, 1) := by decide +kernel
theorem d_MM_lay_214 : decode b_MM_lay 214 = .ok (.istore 9, 2) := by decide +kernel
theorem d_MM_lay_216 : decode b_MM_lay 216 = .ok (.aload_n 0, 1) := by decide +kernel
theorem d_MM_lay_217 : decode b_MM_lay 217 = .ok (.getfield 86, 3) := by decide +kernel
theorem d_MM_lay_220 : decode b_MM_lay 220 = .ok (.iload 6, 2) := by decide +kernel
theorem d_MM_lay_222 : decode b_MM_lay 222 = .ok (.iload 9, 2) := by decide +kernel
theorem d_MM_lay_224 : decode b_MM_lay 224 = .ok (.ifCond .eq 13, 3) := by decide +kernel
theorem d_MM_lay_227 : decode b_MM_lay 227 = .ok (.aload_n 0, 1) := by decide +kernel
theorem d_MM_lay_228 : decode b_MM_lay 228 = .ok (.getfield 43, 3) := by decide +kernel
theorem d_MM_lay_231 : decode b_MM_lay 231 = .ok (.iload 8, 2) := by decide +kernel
theorem d_MM_lay_233 : decode b_MM_lay 233 = .ok (.iaload, 1) := by decide +kernel
theorem d_MM_lay_234 : decode b_MM_lay 234 = .ok (.goto 10, 3) := by decide +kernel
theorem d_MM_lay_237 : decode b_MM_lay 237 = .ok (.aload_n 0, 1) := by decide +kernel
theorem d_MM_lay_238 : decode b_MM_lay 238 = .ok (.getfield 46, 3) := by decide +kernel
theorem d_MM_lay_241 : decode b_MM_lay 241 = .ok (.iload 8, 2) := by decide +kernel
theorem d_MM_lay_243 : decode b_MM_lay 243 = .ok (.iaload, 1) := by decide +kernel
theorem d_MM_lay_244 : decode b_MM_lay 244 = .ok (.iastore, 1) := by decide +kernel
theorem d_MM_lay_245 : decode b_MM_lay 245 = .ok (.aload_n 0, 1) := by decide +kernel
theorem d_MM_lay_246 : decode b_MM_lay 246 = .ok (.getfield 86, 3) := by decide +kernel
theorem d_MM_lay_249 : decode b_MM_lay 249 = .ok (.iload 6, 2) := by decide +kernel
theorem d_MM_lay_251 : decode b_MM_lay 251 = .ok (.iconst 1, 1) := by decide +kernel
theorem d_MM_lay_252 : decode b_MM_lay 252 = .ok (.iadd, 1) := by decide +kernel
theorem d_MM_lay_253 : decode b_MM_lay 253 = .ok (.iload 9, 2) := by decide +kernel
theorem d_MM_lay_255 : decode b_MM_lay 255 = .ok (.ifCond .eq 13, 3) := by decide +kernel
theorem d_MM_lay_258 : decode b_MM_lay 258 = .ok (.aload_n 0, 1) := by decide +kernel
theorem d_MM_lay_259 : decode b_MM_lay 259 = .ok (.getfield 46, 3) := by decide +kernel
theorem d_MM_lay_262 : decode b_MM_lay 262 = .ok (.iload 8, 2) := by decide +kernel
theorem d_MM_lay_264 : decode b_MM_lay 264 = .ok (.iaload, 1) := by decide +kernel
theorem d_MM_lay_265 : decode b_MM_lay 265 = .ok (.goto 10, 3) := by decide +kernel
theorem d_MM_lay_268 : decode b_MM_lay 268 = .ok (.aload_n 0, 1) := by decide +kernel
theorem d_MM_lay_269 : decode b_MM_lay 269 = .ok (.getfield 43, 3) := by decide +kernel
theorem d_MM_lay_272 : decode b_MM_lay 272 = .ok (.iload 8, 2) := by decide +kernel
theorem d_MM_lay_274 : decode b_MM_lay 274 = .ok (.iaload, 1) := by decide +kernel
theorem d_MM_lay_275 : decode b_MM_lay 275 = .ok (.iastore, 1) := by decide +kernel
theorem d_MM_lay_276 : decode b_MM_lay 276 = .ok (.iload 6, 2) := by decide +kernel
theorem d_MM_lay_278 : decode b_MM_lay 278 = .ok (.iconst 2, 1) := by decide +kernel
theorem d_MM_lay_279 : decode b_MM_lay 279 = .ok (.iadd, 1) := by decide +kernel
theorem d_MM_lay_280 : decode b_MM_lay 280 = .ok (.istore 6, 2) := by decide +kernel
theorem d_MM_lay_282 : decode b_MM_lay 282 = .ok (.iinc 5 (-1), 3) := by decide +kernel
theorem d_MM_lay_285 : decode b_MM_lay 285 = .ok (.iload 7, 2) := by decide +kernel
theorem d_MM_lay_287 : decode b_MM_lay 287 = .ok (.iconst 2, 1) := by decide +kernel
theorem d_MM_lay_288 : decode b_MM_lay 288 = .ok (.ishr, 1) := by decide +kernel
theorem d_MM_lay_289 : decode b_MM_lay 289 = .ok (.istore 7, 2) := by decide +kernel
theorem d_MM_lay_291 : decode b_MM_lay 291 = .ok (.goto (-251), 3) := by decide +kernel
theorem d_MM_lay_294 : decode b_MM_lay 294 = .ok (.iload 4, 2) := by decide +kernel
theorem d_MM_lay_296 : decode b_MM_lay 296 = .ok (.ireturn, 1) := by decide +kernel
def bk_MM_lay_285 (Q : Int → zS → Prop) (J40 : Int → Int → Int → Int → Int → Int → zS → Prop) (v2 : Int) (v3 : Int) (v4 : Int) (v5 : Int) (v6 : Int) (v7 : Int) (σ : zS) : Prop :=
  ∀ y39, y39 = zshr v7 2 →
  J40 v2 v3 v4 v5 v6 y39 σ
def bk_MM_lay_275 (Q : Int → zS → Prop) (J40 : Int → Int → Int → Int → Int → Int → zS → Prop) (v2 : Int) (v3 : Int) (v4 : Int) (v5 : Int) (v6 : Int) (v7 : Int) (z0 : Int) (z1 : Int) (σ : zS) : Prop :=
  0 ≤ z1 ∧ z1 < 8 ∧ ∀ σ37, σ37 = zup σ 132 z1 z0 →
  ∀ y38, y38 = v6 + 2 →
  bk_MM_lay_285 Q J40 v2 v3 v4 (v5 + (-1)) y38 v7 σ37
def bk_MM_lay_244 (Q : Int → zS → Prop) (J40 : Int → Int → Int → Int → Int → Int → zS → Prop) (v2 : Int) (v3 : Int) (v4 : Int) (v5 : Int) (v6 : Int) (v7 : Int) (v8 : Int) (v9 : Int) (z0 : Int) (z1 : Int) (σ : zS) : Prop :=
  0 ≤ z1 ∧ z1 < 8 ∧ ∀ σ31, σ31 = zup σ 132 z1 z0 →
  zc v9 ∧ ((v9 = 0 →
    0 ≤ v8 ∧ v8 < 48 ∧ 
    bk_MM_lay_275 Q J40 v2 v3 v4 v5 v6 v7 (σ31 115 v8) (v6 + 1) σ31) ∧
   (¬ v9 = 0 →
    0 ≤ v8 ∧ v8 < 48 ∧ 
    bk_MM_lay_275 Q J40 v2 v3 v4 v5 v6 v7 (σ31 116 v8) (v6 + 1) σ31))
def bk_MM_lay_214 (Q : Int → zS → Prop) (J40 : Int → Int → Int → Int → Int → Int → zS → Prop) (v2 : Int) (v3 : Int) (v4 : Int) (v5 : Int) (v6 : Int) (v7 : Int) (v8 : Int) (z0 : Int) (σ : zS) : Prop :=
  zc z0 ∧ ((z0 = 0 →
    0 ≤ v8 ∧ v8 < 48 ∧ 
    bk_MM_lay_244 Q J40 v2 v3 v4 v5 v6 v7 v8 z0 (σ 116 v8) v6 σ) ∧
   (¬ z0 = 0 →
    0 ≤ v8 ∧ v8 < 48 ∧ 
    bk_MM_lay_244 Q J40 v2 v3 v4 v5 v6 v7 v8 z0 (σ 115 v8) v6 σ))
def bk_MM_lay_171 (Q : Int → zS → Prop) (J40 : Int → Int → Int → Int → Int → Int → zS → Prop) (v2 : Int) (v3 : Int) (v4 : Int) (v5 : Int) (v6 : Int) (v7 : Int) (v8 : Int) (σ : zS) : Prop :=
  ((zand v7 3 = 2 →
    0 ≤ v8 ∧ v8 < 48 ∧ 
    0 ≤ v6 ∧ v6 < 8 ∧ ∀ σ48, σ48 = zup σ 132 v6 (σ 115 v8) →
    bk_MM_lay_285 Q J40 v2 v3 v4 v5 (v6 + 1) v7 σ48) ∧
   (¬ zand v7 3 = 2 →
    ((zand (zshr v3 v5) 1 = 1 →
      bk_MM_lay_214 Q J40 v2 v3 v4 v5 v6 v7 v8 1 σ) ∧
     (¬ zand (zshr v3 v5) 1 = 1 →
      bk_MM_lay_214 Q J40 v2 v3 v4 v5 v6 v7 v8 0 σ))))
def bk_MM_lay_145 (Q : Int → zS → Prop) (J40 : Int → Int → Int → Int → Int → Int → zS → Prop) (v2 : Int) (v3 : Int) (v4 : Int) (v5 : Int) (v6 : Int) (v7 : Int) (v8 : Int) (z0 : Int) (z1 : Int) (σ : zS) : Prop :=
  zc z1 ∧ zc z0 ∧ ((z1 = z0 →
    0 ≤ v2 ∧ v2 < 8 ∧ 
    zc v7 ∧ zc (σ 121 v2) ∧ ((v7 = σ 121 v2 →
      bk_MM_lay_171 Q J40 v2 v3 v4 v5 v6 v7 v8 σ) ∧
     (¬ v7 = σ 121 v2 →
      0 ≤ v8 ∧ v8 < 48 ∧ 
      zc (σ 126 v8) ∧ ((σ 126 v8 = 0 →
        bk_MM_lay_171 Q J40 v2 v3 v4 v5 v6 v7 v8 σ) ∧
       (¬ σ 126 v8 = 0 →
        Q (-1) σ))))) ∧
   (¬ z1 = z0 →
    Q (-1) σ))
def bk_MM_lay_120 (Q : Int → zS → Prop) (J40 : Int → Int → Int → Int → Int → Int → zS → Prop) (v2 : Int) (v3 : Int) (v5 : Int) (v6 : Int) (v7 : Int) (z0 : Int) (σ : zS) : Prop :=
  bk_MM_lay_285 Q J40 v2 v3 z0 v5 v6 v7 σ
def bk_MM_lay_118 (Q : Int → zS → Prop) (J40 : Int → Int → Int → Int → Int → Int → zS → Prop) (v2 : Int) (v3 : Int) (v4 : Int) (v5 : Int) (v6 : Int) (v7 : Int) (σ : zS) : Prop :=
  bk_MM_lay_120 Q J40 v2 v3 v5 v6 v7 v4 σ
def lp_MM_lay_40 (Q : Int → zS → Prop) : Nat → Int → Int → Int → Int → Int → Int → zS → Prop
  | 0 => fun _ _ _ _ _ _ _ => False
  | n + 1 => fun v2 v3 v4 v5 v6 v7 σ =>
    zc v7 ∧ ((v7 = 0 →
      Q v4 σ) ∧
     (¬ v7 = 0 →
      0 ≤ v6 + (-1) ∧ v6 + (-1) < 8 ∧ 
      ∀ y17, y17 = σ 132 (v6 + (-1)) →
      ((zand v7 3 = 1 →
        0 ≤ σ 134 0 ∧ σ 134 0 < 4 ∧ ∀ σ54, σ54 = zup σ 133 (σ 134 0) y17 →
        ∀ σ55, σ55 = zup σ54 134 0 ((σ54 134 0) + 1) →
        wp_MM_logic (fun r57 σ56 =>
          zc r57 ∧ ((r57 = 0 →
            bk_MM_lay_118 Q (lp_MM_lay_40 Q n) v2 v3 v4 v5 (v6 + (-1)) v7 σ56) ∧
           (¬ r57 = 0 →
            0 ≤ y17 ∧ y17 < 48 ∧ 
            zc (σ56 126 y17) ∧ ((σ56 126 y17 = 0 →
              bk_MM_lay_120 Q (lp_MM_lay_40 Q n) v2 v3 v5 (v6 + (-1)) v7 (v4 + (σ56 128 y17)) σ56) ∧
             (¬ σ56 126 y17 = 0 →
              bk_MM_lay_118 Q (lp_MM_lay_40 Q n) v2 v3 v4 v5 (v6 + (-1)) v7 σ56))))) y17 σ55) ∧
       (¬ zand v7 3 = 1 →
        0 ≤ y17 ∧ y17 < 48 ∧ 
        ((zand v7 3 = 2 →
          bk_MM_lay_145 Q (lp_MM_lay_40 Q n) v2 v3 v4 v5 (v6 + (-1)) v7 y17 3 (σ 114 y17) σ) ∧
         (¬ zand v7 3 = 2 →
          bk_MM_lay_145 Q (lp_MM_lay_40 Q n) v2 v3 v4 v5 (v6 + (-1)) v7 y17 2 (σ 114 y17) σ))))))
def wp_MM_lay (Q : Int → zS → Prop) (v1 : Int) (v2 : Int) (v3 : Int) (σ : zS) : Prop :=
  0 ≤ v2 ∧ v2 < 8 ∧ 
  ∀ y3, y3 = σ 122 v2 →
  wp_MM_nands (fun r5 σ4 =>
    ∀ y6, y6 = r5 - 1 →
    ∀ σ7, σ7 = zup σ4 134 0 0 →
    ∀ σ10, σ10 = zup σ7 132 0 v1 →
    ∀ y13, y13 = σ10 121 v2 →
    ∃ u40, lp_MM_lay_40 Q u40 v2 v3 y3 y6 1 y13 σ10) v2 σ
set_option maxHeartbeats 4000000 in
set_option maxRecDepth 100000 in
theorem wk_MM_lay_285 {E : zE} {D : va_G} {g : zG} {A : Nat → Prop} {ad : zA} {Q : Int → zS → Prop} {J40 : Int → Int → Int → Int → Int → Int → zS → Prop} (C : zX E b_MM_lay R_MM D g { frames := 1, cells := 0, slots := 0, locals := 23 } 10) (R : zRt E (some .int) (zQi D g ad Q A) 0 0 A) (hJ40 : ∀ (v2 : Int) (v3 : Int) (v4 : Int) (v5 : Int) (v6 : Int) (v7 : Int) (σ : zS), J40 v2 v3 v4 v5 v6 v7 σ → zW E (zOK D A (zst E) g ad) 0 0 40 [(0, .ref (ad (0, 3))), (2, .int (zi v2)), (3, .int (zi v3)), (4, .int (zi v4)), (5, .int (zi v5)), (6, .int (zi v6)), (7, .int (zi v7))] [] σ) (v2 : Int) (v3 : Int) (v4 : Int) (v5 : Int) (v6 : Int) (v7 : Int) (σ : zS) (h : bk_MM_lay_285 Q J40 v2 v3 v4 v5 v6 v7 σ) : zW E (zOK D A (zst E) g ad) 0 0 285 [(0, .ref (ad (0, 3))), (2, .int (zi v2)), (3, .int (zi v3)), (4, .int (zi v4)), (5, .int (zi v5)), (6, .int (zi v6)), (7, .int (zi v7))] [] σ := by
  unfold bk_MM_lay_285 at h
  refine z_iload C (pc := 285) d_MM_lay_285 6 rfl ?_
  refine z_iconst C (pc := 287) d_MM_lay_287 ?_
  refine z_ishr C (pc := 288) d_MM_lay_288 ?_
  refine zNi h (fun y39 ey39 h => ?_)
  refine z_istore (L' := [(7, .int (zi y39)), (0, .ref (ad (0, 3))), (2, .int (zi v2)), (3, .int (zi v3)), (4, .int (zi v4)), (5, .int (zi v5)), (6, .int (zi v6))]) C (pc := 289) d_MM_lay_289 (by decide) rfl ?_
  refine z_goto (tgt := 40) C (pc := 291) d_MM_lay_291 (by decide) ?_
  refine z_sub [1, 2, 3, 4, 5, 6, 0] rfl ?_
  exact hJ40 _ _ _ _ _ _ _ h
set_option maxHeartbeats 4000000 in
set_option maxRecDepth 100000 in
theorem wk_MM_lay_275 {E : zE} {D : va_G} {g : zG} {A : Nat → Prop} {ad : zA} {Q : Int → zS → Prop} {J40 : Int → Int → Int → Int → Int → Int → zS → Prop} (C : zX E b_MM_lay R_MM D g { frames := 1, cells := 0, slots := 0, locals := 23 } 10) (R : zRt E (some .int) (zQi D g ad Q A) 0 0 A) (hJ40 : ∀ (v2 : Int) (v3 : Int) (v4 : Int) (v5 : Int) (v6 : Int) (v7 : Int) (σ : zS), J40 v2 v3 v4 v5 v6 v7 σ → zW E (zOK D A (zst E) g ad) 0 0 40 [(0, .ref (ad (0, 3))), (2, .int (zi v2)), (3, .int (zi v3)), (4, .int (zi v4)), (5, .int (zi v5)), (6, .int (zi v6)), (7, .int (zi v7))] [] σ) (v2 : Int) (v3 : Int) (v4 : Int) (v5 : Int) (v6 : Int) (v7 : Int) (z0 : Int) (z1 : Int) (σ : zS) (h : bk_MM_lay_275 Q J40 v2 v3 v4 v5 v6 v7 z0 z1 σ) : zW E (zOK D A (zst E) g ad) 0 0 275 [(0, .ref (ad (0, 3))), (2, .int (zi v2)), (3, .int (zi v3)), (4, .int (zi v4)), (5, .int (zi v5)), (6, .int (zi v6)), (7, .int (zi v7))] [.int (zi z0), .int (zi z1), .ref (ad (7, 32))] σ := by
  unfold bk_MM_lay_275 at h
  obtain ⟨hc35, hc36, h⟩ := h
  refine m_iast C 32 132 8 rfl rfl (by decide) hc35 hc36 (pc := 275) d_MM_lay_275 ?_
  refine zN h (fun σ37 eσ37 h => ?_)
  refine z_iload C (pc := 276) d_MM_lay_276 5 rfl ?_
  refine z_iconst C (pc := 278) d_MM_lay_278 ?_
  refine z_iadd C (pc := 279) d_MM_lay_279 ?_
  refine zNi h (fun y38 ey38 h => ?_)
  refine z_istore (L' := [(6, .int (zi y38)), (0, .ref (ad (0, 3))), (2, .int (zi v2)), (3, .int (zi v3)), (4, .int (zi v4)), (5, .int (zi v5)), (7, .int (zi v7))]) C (pc := 280) d_MM_lay_280 (by decide) rfl ?_
  refine z_iinc (L' := [(5, .int (zi (v5 + (-1)))), (6, .int (zi y38)), (0, .ref (ad (0, 3))), (2, .int (zi v2)), (3, .int (zi v3)), (4, .int (zi v4)), (7, .int (zi v7))]) C (pc := 282) d_MM_lay_282 5 rfl (by decide) rfl ?_
  refine z_sub [2, 3, 4, 5, 0, 1, 6] rfl ?_
  exact wk_MM_lay_285 C R hJ40 _ _ _ _ _ _ _ h
set_option maxHeartbeats 4000000 in
set_option maxRecDepth 100000 in
theorem wk_MM_lay_244 {E : zE} {D : va_G} {g : zG} {A : Nat → Prop} {ad : zA} {Q : Int → zS → Prop} {J40 : Int → Int → Int → Int → Int → Int → zS → Prop} (C : zX E b_MM_lay R_MM D g { frames := 1, cells := 0, slots := 0, locals := 23 } 10) (R : zRt E (some .int) (zQi D g ad Q A) 0 0 A) (hJ40 : ∀ (v2 : Int) (v3 : Int) (v4 : Int) (v5 : Int) (v6 : Int) (v7 : Int) (σ : zS), J40 v2 v3 v4 v5 v6 v7 σ → zW E (zOK D A (zst E) g ad) 0 0 40 [(0, .ref (ad (0, 3))), (2, .int (zi v2)), (3, .int (zi v3)), (4, .int (zi v4)), (5, .int (zi v5)), (6, .int (zi v6)), (7, .int (zi v7))] [] σ) (v2 : Int) (v3 : Int) (v4 : Int) (v5 : Int) (v6 : Int) (v7 : Int) (v8 : Int) (v9 : Int) (z0 : Int) (z1 : Int) (σ : zS) (h : bk_MM_lay_244 Q J40 v2 v3 v4 v5 v6 v7 v8 v9 z0 z1 σ) : zW E (zOK D A (zst E) g ad) 0 0 244 [(0, .ref (ad (0, 3))), (2, .int (zi v2)), (3, .int (zi v3)), (4, .int (zi v4)), (5, .int (zi v5)), (6, .int (zi v6)), (7, .int (zi v7)), (8, .int (zi v8)), (9, .int (zi v9))] [.int (zi z0), .int (zi z1), .ref (ad (7, 32))] σ := by
  unfold bk_MM_lay_244 at h
  obtain ⟨hc29, hc30, h⟩ := h
  refine m_iast C 32 132 8 rfl rfl (by decide) hc29 hc30 (pc := 244) d_MM_lay_244 ?_
  refine zN h (fun σ31 eσ31 h => ?_)
  refine z_aload_n C (pc := 245) d_MM_lay_245 0 rfl ?_
  refine m_getA C 32 (by decide) rfl wd_736 (pc := 246) d_MM_lay_246 ?_
  refine z_iload C (pc := 249) d_MM_lay_249 5 rfl ?_
  refine z_iconst C (pc := 251) d_MM_lay_251 ?_
  refine z_iadd C (pc := 252) d_MM_lay_252 ?_
  refine z_iload C (pc := 253) d_MM_lay_253 8 rfl ?_
  obtain ⟨hc32, h⟩ := h
  refine z_if_eq (tgt := 268) C (pc := 255) d_MM_lay_255 (by decide) hc32 h (fun h => ?_) (fun h => ?_)
  · refine z_aload_n C (pc := 268) d_MM_lay_268 0 rfl ?_
    refine m_getA C 15 (by decide) rfl wd_719 (pc := 269) d_MM_lay_269 ?_
    refine z_iload C (pc := 272) d_MM_lay_272 7 rfl ?_
    obtain ⟨hc33, hc34, h⟩ := h
    refine m_iald C 15 115 48 rfl rfl (by decide) hc33 hc34 (pc := 274) d_MM_lay_274 ?_
    refine z_sub [0, 1, 2, 3, 4, 5, 6] rfl ?_
    exact wk_MM_lay_275 C R hJ40 _ _ _ _ _ _ _ _ _ h
  · refine z_aload_n C (pc := 258) d_MM_lay_258 0 rfl ?_
    refine m_getA C 16 (by decide) rfl wd_720 (pc := 259) d_MM_lay_259 ?_
    refine z_iload C (pc := 262) d_MM_lay_262 7 rfl ?_
    obtain ⟨hc40, hc41, h⟩ := h
    refine m_iald C 16 116 48 rfl rfl (by decide) hc40 hc41 (pc := 264) d_MM_lay_264 ?_
    refine z_goto (tgt := 275) C (pc := 265) d_MM_lay_265 (by decide) ?_
    refine z_sub [0, 1, 2, 3, 4, 5, 6] rfl ?_
    exact wk_MM_lay_275 C R hJ40 _ _ _ _ _ _ _ _ _ h
set_option maxHeartbeats 4000000 in
set_option maxRecDepth 100000 in
theorem wk_MM_lay_214 {E : zE} {D : va_G} {g : zG} {A : Nat → Prop} {ad : zA} {Q : Int → zS → Prop} {J40 : Int → Int → Int → Int → Int → Int → zS → Prop} (C : zX E b_MM_lay R_MM D g { frames := 1, cells := 0, slots := 0, locals := 23 } 10) (R : zRt E (some .int) (zQi D g ad Q A) 0 0 A) (hJ40 : ∀ (v2 : Int) (v3 : Int) (v4 : Int) (v5 : Int) (v6 : Int) (v7 : Int) (σ : zS), J40 v2 v3 v4 v5 v6 v7 σ → zW E (zOK D A (zst E) g ad) 0 0 40 [(0, .ref (ad (0, 3))), (2, .int (zi v2)), (3, .int (zi v3)), (4, .int (zi v4)), (5, .int (zi v5)), (6, .int (zi v6)), (7, .int (zi v7))] [] σ) (v2 : Int) (v3 : Int) (v4 : Int) (v5 : Int) (v6 : Int) (v7 : Int) (v8 : Int) (z0 : Int) (σ : zS) (h : bk_MM_lay_214 Q J40 v2 v3 v4 v5 v6 v7 v8 z0 σ) : zW E (zOK D A (zst E) g ad) 0 0 214 [(0, .ref (ad (0, 3))), (2, .int (zi v2)), (3, .int (zi v3)), (4, .int (zi v4)), (5, .int (zi v5)), (6, .int (zi v6)), (7, .int (zi v7)), (8, .int (zi v8))] [.int (zi z0)] σ := by
  unfold bk_MM_lay_214 at h
  refine z_istore (L' := [(9, .int (zi z0)), (0, .ref (ad (0, 3))), (2, .int (zi v2)), (3, .int (zi v3)), (4, .int (zi v4)), (5, .int (zi v5)), (6, .int (zi v6)), (7, .int (zi v7)), (8, .int (zi v8))]) C (pc := 214) d_MM_lay_214 (by decide) rfl ?_
  refine z_aload_n C (pc := 216) d_MM_lay_216 1 rfl ?_
  refine m_getA C 32 (by decide) rfl wd_736 (pc := 217) d_MM_lay_217 ?_
  refine z_iload C (pc := 220) d_MM_lay_220 6 rfl ?_
  refine z_iload C (pc := 222) d_MM_lay_222 0 rfl ?_
  obtain ⟨hc26, h⟩ := h
  refine z_if_eq (tgt := 237) C (pc := 224) d_MM_lay_224 (by decide) hc26 h (fun h => ?_) (fun h => ?_)
  · refine z_aload_n C (pc := 237) d_MM_lay_237 1 rfl ?_
    refine m_getA C 16 (by decide) rfl wd_720 (pc := 238) d_MM_lay_238 ?_
    refine z_iload C (pc := 241) d_MM_lay_241 8 rfl ?_
    obtain ⟨hc27, hc28, h⟩ := h
    refine m_iald C 16 116 48 rfl rfl (by decide) hc27 hc28 (pc := 243) d_MM_lay_243 ?_
    refine z_sub [1, 2, 3, 4, 5, 6, 7, 8, 0] rfl ?_
    exact wk_MM_lay_244 C R hJ40 _ _ _ _ _ _ _ _ _ _ _ h
  · refine z_aload_n C (pc := 227) d_MM_lay_227 1 rfl ?_
    refine m_getA C 15 (by decide) rfl wd_719 (pc := 228) d_MM_lay_228 ?_
    refine z_iload C (pc := 231) d_MM_lay_231 8 rfl ?_
    obtain ⟨hc42, hc43, h⟩ := h
    refine m_iald C 15 115 48 rfl rfl (by decide) hc42 hc43 (pc := 233) d_MM_lay_233 ?_
    refine z_goto (tgt := 244) C (pc := 234) d_MM_lay_234 (by decide) ?_
    refine z_sub [1, 2, 3, 4, 5, 6, 7, 8, 0] rfl ?_
    exact wk_MM_lay_244 C R hJ40 _ _ _ _ _ _ _ _ _ _ _ h
set_option maxHeartbeats 4000000 in
set_option maxRecDepth 100000 in
theorem wk_MM_lay_171 {E : zE} {D : va_G} {g : zG} {A : Nat → Prop} {ad : zA} {Q : Int → zS → Prop} {J40 : Int → Int → Int → Int → Int → Int → zS → Prop} (C : zX E b_MM_lay R_MM D g { frames := 1, cells := 0, slots := 0, locals := 23 } 10) (R : zRt E (some .int) (zQi D g ad Q A) 0 0 A) (hJ40 : ∀ (v2 : Int) (v3 : Int) (v4 : Int) (v5 : Int) (v6 : Int) (v7 : Int) (σ : zS), J40 v2 v3 v4 v5 v6 v7 σ → zW E (zOK D A (zst E) g ad) 0 0 40 [(0, .ref (ad (0, 3))), (2, .int (zi v2)), (3, .int (zi v3)), (4, .int (zi v4)), (5, .int (zi v5)), (6, .int (zi v6)), (7, .int (zi v7))] [] σ) (v2 : Int) (v3 : Int) (v4 : Int) (v5 : Int) (v6 : Int) (v7 : Int) (v8 : Int) (σ : zS) (h : bk_MM_lay_171 Q J40 v2 v3 v4 v5 v6 v7 v8 σ) : zW E (zOK D A (zst E) g ad) 0 0 171 [(0, .ref (ad (0, 3))), (2, .int (zi v2)), (3, .int (zi v3)), (4, .int (zi v4)), (5, .int (zi v5)), (6, .int (zi v6)), (7, .int (zi v7)), (8, .int (zi v8))] [] σ := by
  unfold bk_MM_lay_171 at h
  refine z_iload C (pc := 171) d_MM_lay_171 6 rfl ?_
  refine z_iconst C (pc := 173) d_MM_lay_173 ?_
  refine z_iand C (pc := 174) d_MM_lay_174 ?_
  refine z_iconst C (pc := 175) d_MM_lay_175 ?_
  refine z_icmp_ne (tgt := 199) C (pc := 176) d_MM_lay_176 (by decide) (zc_and _ _) (by decide) h (fun h => ?_) (fun h => ?_)
  · refine z_iload_n C (pc := 199) d_MM_lay_199 2 rfl ?_
    refine z_iload C (pc := 200) d_MM_lay_200 4 rfl ?_
    refine z_ishr C (pc := 202) d_MM_lay_202 ?_
    refine z_iconst C (pc := 203) d_MM_lay_203 ?_
    refine z_iand C (pc := 204) d_MM_lay_204 ?_
    refine z_iconst C (pc := 205) d_MM_lay_205 ?_
    refine z_icmp_ne (tgt := 213) C (pc := 206) d_MM_lay_206 (by decide) (zc_and _ _) (by decide) h (fun h => ?_) (fun h => ?_)
    · refine z_iconst C (pc := 213) d_MM_lay_213 ?_
      exact wk_MM_lay_214 C R hJ40 _ _ _ _ _ _ _ _ _ h
    · refine z_iconst C (pc := 209) d_MM_lay_209 ?_
      refine z_goto (tgt := 214) C (pc := 210) d_MM_lay_210 (by decide) ?_
      exact wk_MM_lay_214 C R hJ40 _ _ _ _ _ _ _ _ _ h
  · refine z_aload_n C (pc := 179) d_MM_lay_179 0 rfl ?_
    refine m_getA C 32 (by decide) rfl wd_736 (pc := 180) d_MM_lay_180 ?_
    refine z_iload C (pc := 183) d_MM_lay_183 5 rfl ?_
    refine z_aload_n C (pc := 185) d_MM_lay_185 0 rfl ?_
    refine m_getA C 15 (by decide) rfl wd_719 (pc := 186) d_MM_lay_186 ?_
    refine z_iload C (pc := 189) d_MM_lay_189 7 rfl ?_
    obtain ⟨hc44, hc45, h⟩ := h
    refine m_iald C 15 115 48 rfl rfl (by decide) hc44 hc45 (pc := 191) d_MM_lay_191 ?_
    obtain ⟨hc46, hc47, h⟩ := h
    refine m_iast C 32 132 8 rfl rfl (by decide) hc46 hc47 (pc := 192) d_MM_lay_192 ?_
    refine zN h (fun σ48 eσ48 h => ?_)
    refine z_iinc (L' := [(6, .int (zi (v6 + 1))), (0, .ref (ad (0, 3))), (2, .int (zi v2)), (3, .int (zi v3)), (4, .int (zi v4)), (5, .int (zi v5)), (7, .int (zi v7)), (8, .int (zi v8))]) C (pc := 193) d_MM_lay_193 5 rfl (by decide) rfl ?_
    refine z_goto (tgt := 285) C (pc := 196) d_MM_lay_196 (by decide) ?_
    refine z_sub [1, 2, 3, 4, 5, 0, 6] rfl ?_
    exact wk_MM_lay_285 C R hJ40 _ _ _ _ _ _ _ h
set_option maxHeartbeats 4000000 in
set_option maxRecDepth 100000 in
theorem wk_MM_lay_145 {E : zE} {D : va_G} {g : zG} {A : Nat → Prop} {ad : zA} {Q : Int → zS → Prop} {J40 : Int → Int → Int → Int → Int → Int → zS → Prop} (C : zX E b_MM_lay R_MM D g { frames := 1, cells := 0, slots := 0, locals := 23 } 10) (R : zRt E (some .int) (zQi D g ad Q A) 0 0 A) (hJ40 : ∀ (v2 : Int) (v3 : Int) (v4 : Int) (v5 : Int) (v6 : Int) (v7 : Int) (σ : zS), J40 v2 v3 v4 v5 v6 v7 σ → zW E (zOK D A (zst E) g ad) 0 0 40 [(0, .ref (ad (0, 3))), (2, .int (zi v2)), (3, .int (zi v3)), (4, .int (zi v4)), (5, .int (zi v5)), (6, .int (zi v6)), (7, .int (zi v7))] [] σ) (v2 : Int) (v3 : Int) (v4 : Int) (v5 : Int) (v6 : Int) (v7 : Int) (v8 : Int) (z0 : Int) (z1 : Int) (σ : zS) (h : bk_MM_lay_145 Q J40 v2 v3 v4 v5 v6 v7 v8 z0 z1 σ) : zW E (zOK D A (zst E) g ad) 0 0 145 [(0, .ref (ad (0, 3))), (2, .int (zi v2)), (3, .int (zi v3)), (4, .int (zi v4)), (5, .int (zi v5)), (6, .int (zi v6)), (7, .int (zi v7)), (8, .int (zi v8))] [.int (zi z0), .int (zi z1)] σ := by
  unfold bk_MM_lay_145 at h
  obtain ⟨hc20, hc21, h⟩ := h
  refine z_icmp_ne (tgt := 169) C (pc := 145) d_MM_lay_145 (by decide) hc20 hc21 h (fun h => ?_) (fun h => ?_)
  · refine z_iconst C (pc := 169) d_MM_lay_169 ?_
    exact z_iret C R (pc := 170) d_MM_lay_170 h
  · refine z_iload C (pc := 148) d_MM_lay_148 6 rfl ?_
    refine z_aload_n C (pc := 150) d_MM_lay_150 0 rfl ?_
    refine m_getA C 21 (by decide) rfl wd_725 (pc := 151) d_MM_lay_151 ?_
    refine z_iload_n C (pc := 154) d_MM_lay_154 1 rfl ?_
    obtain ⟨hc22, hc23, h⟩ := h
    refine m_iald C 21 121 8 rfl rfl (by decide) hc22 hc23 (pc := 155) d_MM_lay_155 ?_
    obtain ⟨hc24, hc25, h⟩ := h
    refine z_icmp_eq (tgt := 171) C (pc := 156) d_MM_lay_156 (by decide) hc24 hc25 h (fun h => ?_) (fun h => ?_)
    · exact wk_MM_lay_171 C R hJ40 _ _ _ _ _ _ _ _ h
    · refine z_aload_n C (pc := 159) d_MM_lay_159 0 rfl ?_
      refine m_getA C 26 (by decide) rfl wd_730 (pc := 160) d_MM_lay_160 ?_
      refine z_iload C (pc := 163) d_MM_lay_163 7 rfl ?_
      obtain ⟨hc49, hc50, h⟩ := h
      refine m_zald C 26 126 48 rfl rfl (by decide) hc49 hc50 (pc := 165) d_MM_lay_165 ?_
      obtain ⟨hc51, h⟩ := h
      refine z_if_eq (tgt := 171) C (pc := 166) d_MM_lay_166 (by decide) hc51 h (fun h => ?_) (fun h => ?_)
      · exact wk_MM_lay_171 C R hJ40 _ _ _ _ _ _ _ _ h
      · refine z_iconst C (pc := 169) d_MM_lay_169 ?_
        exact z_iret C R (pc := 170) d_MM_lay_170 h
set_option maxHeartbeats 4000000 in
set_option maxRecDepth 100000 in
theorem wk_MM_lay_120 {E : zE} {D : va_G} {g : zG} {A : Nat → Prop} {ad : zA} {Q : Int → zS → Prop} {J40 : Int → Int → Int → Int → Int → Int → zS → Prop} (C : zX E b_MM_lay R_MM D g { frames := 1, cells := 0, slots := 0, locals := 23 } 10) (R : zRt E (some .int) (zQi D g ad Q A) 0 0 A) (hJ40 : ∀ (v2 : Int) (v3 : Int) (v4 : Int) (v5 : Int) (v6 : Int) (v7 : Int) (σ : zS), J40 v2 v3 v4 v5 v6 v7 σ → zW E (zOK D A (zst E) g ad) 0 0 40 [(0, .ref (ad (0, 3))), (2, .int (zi v2)), (3, .int (zi v3)), (4, .int (zi v4)), (5, .int (zi v5)), (6, .int (zi v6)), (7, .int (zi v7))] [] σ) (v2 : Int) (v3 : Int) (v5 : Int) (v6 : Int) (v7 : Int) (z0 : Int) (σ : zS) (h : bk_MM_lay_120 Q J40 v2 v3 v5 v6 v7 z0 σ) : zW E (zOK D A (zst E) g ad) 0 0 120 [(0, .ref (ad (0, 3))), (2, .int (zi v2)), (3, .int (zi v3)), (5, .int (zi v5)), (6, .int (zi v6)), (7, .int (zi v7))] [.int (zi z0)] σ := by
  unfold bk_MM_lay_120 at h
  refine z_istore (L' := [(4, .int (zi z0)), (0, .ref (ad (0, 3))), (2, .int (zi v2)), (3, .int (zi v3)), (5, .int (zi v5)), (6, .int (zi v6)), (7, .int (zi v7))]) C (pc := 120) d_MM_lay_120 (by decide) rfl ?_
  refine z_goto (tgt := 285) C (pc := 122) d_MM_lay_122 (by decide) ?_
  refine z_sub [1, 2, 3, 0, 4, 5, 6] rfl ?_
  exact wk_MM_lay_285 C R hJ40 _ _ _ _ _ _ _ h
set_option maxHeartbeats 4000000 in
set_option maxRecDepth 100000 in
theorem wk_MM_lay_118 {E : zE} {D : va_G} {g : zG} {A : Nat → Prop} {ad : zA} {Q : Int → zS → Prop} {J40 : Int → Int → Int → Int → Int → Int → zS → Prop} (C : zX E b_MM_lay R_MM D g { frames := 1, cells := 0, slots := 0, locals := 23 } 10) (R : zRt E (some .int) (zQi D g ad Q A) 0 0 A) (hJ40 : ∀ (v2 : Int) (v3 : Int) (v4 : Int) (v5 : Int) (v6 : Int) (v7 : Int) (σ : zS), J40 v2 v3 v4 v5 v6 v7 σ → zW E (zOK D A (zst E) g ad) 0 0 40 [(0, .ref (ad (0, 3))), (2, .int (zi v2)), (3, .int (zi v3)), (4, .int (zi v4)), (5, .int (zi v5)), (6, .int (zi v6)), (7, .int (zi v7))] [] σ) (v2 : Int) (v3 : Int) (v4 : Int) (v5 : Int) (v6 : Int) (v7 : Int) (σ : zS) (h : bk_MM_lay_118 Q J40 v2 v3 v4 v5 v6 v7 σ) : zW E (zOK D A (zst E) g ad) 0 0 118 [(0, .ref (ad (0, 3))), (2, .int (zi v2)), (3, .int (zi v3)), (4, .int (zi v4)), (5, .int (zi v5)), (6, .int (zi v6)), (7, .int (zi v7))] [] σ := by
  unfold bk_MM_lay_118 at h
  refine z_iload C (pc := 118) d_MM_lay_118 3 rfl ?_
  refine z_sub [0, 1, 2, 4, 5, 6] rfl ?_
  exact wk_MM_lay_120 C R hJ40 _ _ _ _ _ _ _ h
set_option maxHeartbeats 4000000 in
set_option maxRecDepth 100000 in
theorem wk_MM_lay_40 {E : zE} {D : va_G} {g : zG} {A : Nat → Prop} {ad : zA} {Q : Int → zS → Prop} (C : zX E b_MM_lay R_MM D g { frames := 1, cells := 0, slots := 0, locals := 23 } 10) (R : zRt E (some .int) (zQi D g ad Q A) 0 0 A) : ∀ (n : Nat) (v2 : Int) (v3 : Int) (v4 : Int) (v5 : Int) (v6 : Int) (v7 : Int) (σ : zS), lp_MM_lay_40 Q n v2 v3 v4 v5 v6 v7 σ → zW E (zOK D A (zst E) g ad) 0 0 40 [(0, .ref (ad (0, 3))), (2, .int (zi v2)), (3, .int (zi v3)), (4, .int (zi v4)), (5, .int (zi v5)), (6, .int (zi v6)), (7, .int (zi v7))] [] σ := by
  intro n
  induction n with
  | zero =>
    intro v2 v3 v4 v5 v6 v7 σ h
    exact h.elim
  | succ n ih =>
    intro v2 v3 v4 v5 v6 v7 σ h
    refine z_iload C (pc := 40) d_MM_lay_40 6 rfl ?_
    obtain ⟨hc14, h⟩ := h
    refine z_if_eq (tgt := 294) C (pc := 42) d_MM_lay_42 (by decide) hc14 h (fun h => ?_) (fun h => ?_)
    · refine z_iload C (pc := 294) d_MM_lay_294 3 rfl ?_
      exact z_iret C R (pc := 296) d_MM_lay_296 h
    · refine z_iinc (L' := [(6, .int (zi (v6 + (-1)))), (0, .ref (ad (0, 3))), (2, .int (zi v2)), (3, .int (zi v3)), (4, .int (zi v4)), (5, .int (zi v5)), (7, .int (zi v7))]) C (pc := 45) d_MM_lay_45 5 rfl (by decide) rfl ?_
      refine z_aload_n C (pc := 48) d_MM_lay_48 1 rfl ?_
      refine m_getA C 32 (by decide) rfl wd_736 (pc := 49) d_MM_lay_49 ?_
      refine z_iload C (pc := 52) d_MM_lay_52 0 rfl ?_
      obtain ⟨hc15, hc16, h⟩ := h
      refine m_iald C 32 132 8 rfl rfl (by decide) hc15 hc16 (pc := 54) d_MM_lay_54 ?_
      refine zNi h (fun y17 ey17 h => ?_)
      refine z_istore (L' := [(8, .int (zi y17)), (6, .int (zi (v6 + (-1)))), (0, .ref (ad (0, 3))), (2, .int (zi v2)), (3, .int (zi v3)), (4, .int (zi v4)), (5, .int (zi v5)), (7, .int (zi v7))]) C (pc := 55) d_MM_lay_55 (by decide) rfl ?_
      refine z_iload C (pc := 57) d_MM_lay_57 7 rfl ?_
      refine z_iconst C (pc := 59) d_MM_lay_59 ?_
      refine z_iand C (pc := 60) d_MM_lay_60 ?_
      refine z_iconst C (pc := 61) d_MM_lay_61 ?_
      refine z_icmp_ne (tgt := 125) C (pc := 62) d_MM_lay_62 (by decide) (zc_and _ _) (by decide) h (fun h => ?_) (fun h => ?_)
      · refine z_aload_n C (pc := 125) d_MM_lay_125 2 rfl ?_
        refine m_getA C 14 (by decide) rfl wd_718 (pc := 126) d_MM_lay_126 ?_
        refine z_iload C (pc := 129) d_MM_lay_129 0 rfl ?_
        obtain ⟨hc18, hc19, h⟩ := h
        refine m_iald C 14 114 48 rfl rfl (by decide) hc18 hc19 (pc := 131) d_MM_lay_131 ?_
        refine z_iload C (pc := 132) d_MM_lay_132 7 rfl ?_
        refine z_iconst C (pc := 134) d_MM_lay_134 ?_
        refine z_iand C (pc := 135) d_MM_lay_135 ?_
        refine z_iconst C (pc := 136) d_MM_lay_136 ?_
        refine z_icmp_ne (tgt := 144) C (pc := 137) d_MM_lay_137 (by decide) (zc_and _ _) (by decide) h (fun h => ?_) (fun h => ?_)
        · refine z_iconst C (pc := 144) d_MM_lay_144 ?_
          refine z_sub [2, 3, 4, 5, 6, 1, 7, 0] rfl ?_
          exact wk_MM_lay_145 C R ih _ _ _ _ _ _ _ _ _ _ h
        · refine z_iconst C (pc := 140) d_MM_lay_140 ?_
          refine z_goto (tgt := 145) C (pc := 141) d_MM_lay_141 (by decide) ?_
          refine z_sub [2, 3, 4, 5, 6, 1, 7, 0] rfl ?_
          exact wk_MM_lay_145 C R ih _ _ _ _ _ _ _ _ _ _ h
      · refine z_aload_n C (pc := 65) d_MM_lay_65 2 rfl ?_
        refine m_getA C 33 (by decide) rfl wd_737 (pc := 66) d_MM_lay_66 ?_
        refine z_aload_n C (pc := 69) d_MM_lay_69 2 rfl ?_
        refine m_getI C 34 134 rfl (by decide) rfl wd_738 (pc := 70) d_MM_lay_70 ?_
        refine z_iload C (pc := 73) d_MM_lay_73 0 rfl ?_
        obtain ⟨hc52, hc53, h⟩ := h
        refine m_iast C 33 133 4 rfl rfl (by decide) hc52 hc53 (pc := 75) d_MM_lay_75 ?_
        refine zN h (fun σ54 eσ54 h => ?_)
        refine z_aload_n C (pc := 76) d_MM_lay_76 2 rfl ?_
        refine z_dup C (pc := 77) d_MM_lay_77 rfl ?_
        refine m_getI C 34 134 rfl (by decide) rfl wd_738 (pc := 78) d_MM_lay_78 ?_
        refine z_iconst C (pc := 81) d_MM_lay_81 ?_
        refine z_iadd C (pc := 82) d_MM_lay_82 ?_
        refine m_putI C 34 134 rfl (by decide) rfl wd_738 ⟨rfl, rfl⟩ (pc := 83) d_MM_lay_83 ?_
        refine zN h (fun σ55 eσ55 h => ?_)
        refine z_aload_n C (pc := 86) d_MM_lay_86 2 rfl ?_
        refine z_iload C (pc := 87) d_MM_lay_87 0 rfl ?_
        refine m_calli (As := [.int (zi y17)]) C fy_MM_logic rfl wd_973 (pc := 89) d_MM_lay_89 ⟨rfl, rfl, Nat.le_of_ble_eq_true rfl, Nat.le_of_ble_eq_true rfl⟩ rfl rfl (Nat.le_of_ble_eq_true rfl) h (c_MM_logic (zln E) D g ad _ _ _) (fun r57 σ56 h => ?_)
        obtain ⟨hc58, h⟩ := h
        refine z_if_eq (tgt := 118) C (pc := 92) d_MM_lay_92 (by decide) hc58 h (fun h => ?_) (fun h => ?_)
        · refine z_sub [2, 3, 4, 5, 6, 1, 7] rfl ?_
          exact wk_MM_lay_118 C R ih _ _ _ _ _ _ _ h
        · refine z_aload_n C (pc := 95) d_MM_lay_95 2 rfl ?_
          refine m_getA C 26 (by decide) rfl wd_730 (pc := 96) d_MM_lay_96 ?_
          refine z_iload C (pc := 99) d_MM_lay_99 0 rfl ?_
          obtain ⟨hc59, hc60, h⟩ := h
          refine m_zald C 26 126 48 rfl rfl (by decide) hc59 hc60 (pc := 101) d_MM_lay_101 ?_
          obtain ⟨hc61, h⟩ := h
          refine z_if_ne (tgt := 118) C (pc := 102) d_MM_lay_102 (by decide) hc61 h (fun h => ?_) (fun h => ?_)
          · refine z_sub [2, 3, 4, 5, 6, 1, 7] rfl ?_
            exact wk_MM_lay_118 C R ih _ _ _ _ _ _ _ h
          · refine z_iload C (pc := 105) d_MM_lay_105 5 rfl ?_
            refine z_aload_n C (pc := 107) d_MM_lay_107 2 rfl ?_
            refine m_getA C 28 (by decide) rfl wd_732 (pc := 108) d_MM_lay_108 ?_
            refine z_iload C (pc := 111) d_MM_lay_111 0 rfl ?_
            refine m_iald C 28 128 48 rfl rfl (by decide) hc59 hc60 (pc := 113) d_MM_lay_113 ?_
            refine z_iadd C (pc := 114) d_MM_lay_114 ?_
            refine z_goto (tgt := 120) C (pc := 115) d_MM_lay_115 (by decide) ?_
            refine z_sub [2, 3, 4, 6, 1, 7] rfl ?_
            exact wk_MM_lay_120 C R ih _ _ _ _ _ _ _ h
set_option maxHeartbeats 4000000 in
set_option maxRecDepth 100000 in
theorem c_MM_lay (l : Launch) (D : va_G) (g : zG) (ad : zA) (v1 : Int) (v2 : Int) (v3 : Int) (Q : Int → zS → Prop) (σ : zS) (h : wp_MM_lay Q v1 v2 v3 σ) : zMi l y_MM_lay b_MM_lay 10 (some .int) { frames := 1, cells := 0, slots := 0, locals := 23 } D g ad σ [.ref (ad (0, 3)), .int (zi v1), .int (zi v2), .int (zi v3)] Q := by
  unfold wp_MM_lay at h
  refine zM_of (by decide) (Nat.le_of_ble_eq_true rfl) (fun E C R hl => ?_)
  have C : zX E b_MM_lay R_MM D g { frames := 1, cells := 0, slots := 0, locals := 23 } 10 := C
  refine z_sub (L' := [(0, .ref (ad (0, 3))), (1, .int (zi v1)), (2, .int (zi v2)), (3, .int (zi v3))]) [0, 1, 2, 3] rfl ?_
  refine z_aload_n C (pc := 0) d_MM_lay_0 0 rfl ?_
  refine m_getA C 22 (by decide) rfl wd_726 (pc := 1) d_MM_lay_1 ?_
  refine z_iload_n C (pc := 4) d_MM_lay_4 2 rfl ?_
  obtain ⟨hc1, hc2, h⟩ := h
  refine m_iald C 22 122 8 rfl rfl (by decide) hc1 hc2 (pc := 5) d_MM_lay_5 ?_
  refine zNi h (fun y3 ey3 h => ?_)
  refine z_istore (L' := [(4, .int (zi y3)), (0, .ref (ad (0, 3))), (1, .int (zi v1)), (2, .int (zi v2)), (3, .int (zi v3))]) C (pc := 6) d_MM_lay_6 (by decide) rfl ?_
  refine z_aload_n C (pc := 8) d_MM_lay_8 1 rfl ?_
  refine z_iload_n C (pc := 9) d_MM_lay_9 3 rfl ?_
  refine m_calli (As := [.int (zi v2)]) C fy_MM_nands rfl wd_982 (pc := 10) d_MM_lay_10 ⟨rfl, rfl, Nat.le_of_ble_eq_true rfl, Nat.le_of_ble_eq_true rfl⟩ rfl rfl (Nat.le_of_ble_eq_true rfl) h (c_MM_nands (zln E) D g ad _ _ _) (fun r5 σ4 h => ?_)
  refine z_iconst C (pc := 13) d_MM_lay_13 ?_
  refine z_isub C (pc := 14) d_MM_lay_14 ?_
  refine zNi h (fun y6 ey6 h => ?_)
  refine z_istore (L' := [(5, .int (zi y6)), (4, .int (zi y3)), (0, .ref (ad (0, 3))), (1, .int (zi v1)), (2, .int (zi v2)), (3, .int (zi v3))]) C (pc := 15) d_MM_lay_15 (by decide) rfl ?_
  refine z_iconst C (pc := 17) d_MM_lay_17 ?_
  refine z_istore (L' := [(6, .int (zi 1)), (5, .int (zi y6)), (4, .int (zi y3)), (0, .ref (ad (0, 3))), (1, .int (zi v1)), (2, .int (zi v2)), (3, .int (zi v3))]) C (pc := 18) d_MM_lay_18 (by decide) rfl ?_
  refine z_aload_n C (pc := 20) d_MM_lay_20 3 rfl ?_
  refine z_iconst C (pc := 21) d_MM_lay_21 ?_
  refine m_putI C 34 134 rfl (by decide) rfl wd_738 ⟨rfl, rfl⟩ (pc := 22) d_MM_lay_22 ?_
  refine zN h (fun σ7 eσ7 h => ?_)
  refine z_aload_n C (pc := 25) d_MM_lay_25 3 rfl ?_
  refine m_getA C 32 (by decide) rfl wd_736 (pc := 26) d_MM_lay_26 ?_
  refine z_iconst C (pc := 29) d_MM_lay_29 ?_
  refine z_iload_n C (pc := 30) d_MM_lay_30 4 rfl ?_
  refine m_iast C 32 132 8 rfl rfl (by decide) (by decide) (by decide) (pc := 31) d_MM_lay_31 ?_
  refine zN h (fun σ10 eσ10 h => ?_)
  refine z_aload_n C (pc := 32) d_MM_lay_32 3 rfl ?_
  refine m_getA C 21 (by decide) rfl wd_725 (pc := 33) d_MM_lay_33 ?_
  refine z_iload_n C (pc := 36) d_MM_lay_36 5 rfl ?_
  refine m_iald C 21 121 8 rfl rfl (by decide) hc1 hc2 (pc := 37) d_MM_lay_37 ?_
  refine zNi h (fun y13 ey13 h => ?_)
  refine z_istore (L' := [(7, .int (zi y13)), (6, .int (zi 1)), (5, .int (zi y6)), (4, .int (zi y3)), (0, .ref (ad (0, 3))), (1, .int (zi v1)), (2, .int (zi v2)), (3, .int (zi v3))]) C (pc := 38) d_MM_lay_38 (by decide) rfl ?_
  refine z_sub [4, 6, 7, 3, 2, 1, 0] rfl ?_
  obtain ⟨n64, h⟩ := h
  exact wk_MM_lay_40 C R n64 _ _ _ _ _ _ _ h
theorem d_MM_choose_0 : decode b_MM_choose 0 = .ok (.aload_n 0, 1) := by decide +kernel
theorem d_MM_choose_1 : decode b_MM_choose 1 = .ok (.getfield 74, 3) := by decide +kernel
theorem d_MM_choose_4 : decode b_MM_choose 4 = .ok (.iload_n 1, 1) := by decide +kernel
theorem d_MM_choose_5 : decode b_MM_choose 5 = .ok (.ldc 216, 2) := by decide +kernel
theorem d_MM_choose_7 : decode b_MM_choose 7 = .ok (.iastore, 1) := by decide +kernel
theorem d_MM_choose_8 : decode b_MM_choose 8 = .ok (.iconst 0, 1) := by decide +kernel
theorem d_MM_choose_9 : decode b_MM_choose 9 = .ok (.istore_n 2, 1) := by decide +kernel
theorem d_MM_choose_10 : decode b_MM_choose 10 = .ok (.iload_n 2, 1) := by decide +kernel
theorem d_MM_choose_11 : decode b_MM_choose 11 = .ok (.aload_n 0, 1) := by decide +kernel
theorem d_MM_choose_12 : decode b_MM_choose 12 = .ok (.getfield 200, 3) := by decide +kernel
theorem d_MM_choose_15 : decode b_MM_choose 15 = .ok (.if_icmp .ge 81, 3) := by decide +kernel
theorem d_MM_choose_18 : decode b_MM_choose 18 = .ok (.iconst 1, 1) := by decide +kernel
theorem d_MM_choose_19 : decode b_MM_choose 19 = .ok (.aload_n 0, 1) := by decide +kernel
theorem d_MM_choose_20 : decode b_MM_choose 20 = .ok (.iload_n 2, 1) := by decide +kernel
theorem d_MM_choose_21 : decode b_MM_choose 21 = .ok (.invokevirtual 210, 3) := by decide +kernel
theorem d_MM_choose_24 : decode b_MM_choose 24 = .ok (.ishl, 1) := by decide +kernel
theorem d_MM_choose_25 : decode b_MM_choose 25 = .ok (.istore_n 3, 1) := by decide +kernel
theorem d_MM_choose_26 : decode b_MM_choose 26 = .ok (.iconst 0, 1) := by decide +kernel
theorem d_MM_choose_27 : decode b_MM_choose 27 = .ok (.istore 4, 2) := by decide +kernel
theorem d_MM_choose_29 : decode b_MM_choose 29 = .ok (.iload 4, 2) := by decide +kernel
theorem d_MM_choose_31 : decode b_MM_choose 31 = .ok (.iload_n 3, 1) := by decide +kernel
theorem d_MM_choose_32 : decode b_MM_choose 32 = .ok (.if_icmp .ge 58, 3) := by decide +kernel
theorem d_MM_choose_35 : decode b_MM_choose 35 = .ok (.aload_n 0, 1) := by decide +kernel
theorem d_MM_choose_36 : decode b_MM_choose 36 = .ok (.iload_n 1, 1) := by decide +kernel
theorem d_MM_choose_37 : decode b_MM_choose 37 = .ok (.iload_n 2, 1) := by decide +kernel
theorem d_MM_choose_38 : decode b_MM_choose 38 = .ok (.iload 4, 2) := by decide +kernel
theorem d_MM_choose_40 : decode b_MM_choose 40 = .ok (.invokevirtual 217, 3) := by decide +kernel
theorem d_MM_choose_43 : decode b_MM_choose 43 = .ok (.istore 5, 2) := by decide +kernel
theorem d_MM_choose_45 : decode b_MM_choose 45 = .ok (.iload 5, 2) := by decide +kernel
theorem d_MM_choose_47 : decode b_MM_choose 47 = .ok (.ifCond .lt 37, 3) := by decide +kernel
theorem d_MM_choose_50 : decode b_MM_choose 50 = .ok (.iload 5, 2) := by decide +kernel
theorem d_MM_choose_52 : decode b_MM_choose 52 = .ok (.aload_n 0, 1) := by decide +kernel
theorem d_MM_choose_53 : decode b_MM_choose 53 = .ok (.getfield 74, 3) := by decide +kernel
theorem d_MM_choose_56 : decode b_MM_choose 56 = .ok (.iload_n 1, 1) := by decide +kernel
theorem d_MM_choose_57 : decode b_MM_choose 57 = .ok (.iaload, 1) := by decide +kernel
theorem d_MM_choose_58 : decode b_MM_choose 58 = .ok (.if_icmp .ge 26, 3) := by decide +kernel
theorem d_MM_choose_61 : decode b_MM_choose 61 = .ok (.aload_n 0, 1) := by decide +kernel
theorem d_MM_choose_62 : decode b_MM_choose 62 = .ok (.getfield 74, 3) := by decide +kernel
theorem d_MM_choose_65 : decode b_MM_choose 65 = .ok (.iload_n 1, 1) := by decide +kernel
theorem d_MM_choose_66 : decode b_MM_choose 66 = .ok (.iload 5, 2) := by decide +kernel
theorem d_MM_choose_68 : decode b_MM_choose 68 = .ok (.iastore, 1) := by decide +kernel
theorem d_MM_choose_69 : decode b_MM_choose 69 = .ok (.aload_n 0, 1) := by decide +kernel
theorem d_MM_choose_70 : decode b_MM_choose 70 = .ok (.getfield 77, 3) := by decide +kernel
theorem d_MM_choose_73 : decode b_MM_choose 73 = .ok (.iload_n 1, 1) := by decide +kernel
theorem d_MM_choose_74 : decode b_MM_choose 74 = .ok (.iload_n 2, 1) := by decide +kernel
theorem d_MM_choose_75 : decode b_MM_choose 75 = .ok (.iastore, 1) := by decide +kernel
theorem d_MM_choose_76 : decode b_MM_choose 76 = .ok (.aload_n 0, 1) := by decide +kernel
theorem d_MM_choose_77 : decode b_MM_choose 77 = .ok (.getfield 80, 3) := by decide +kernel
theorem d_MM_choose_80 : decode b_MM_choose 80 = .ok (.iload_n 1, 1) := by decide +kernel
theorem d_MM_choose_81 : decode b_MM_choose 81 = .ok (.iload 4, 2) := by decide +kernel
theorem d_MM_choose_83 : decode b_MM_choose 83 = .ok (.iastore, 1) := by decide +kernel
theorem d_MM_choose_84 : decode b_MM_choose 84 = .ok (.iinc 4 1, 3) := by decide +kernel
theorem d_MM_choose_87 : decode b_MM_choose 87 = .ok (.goto (-58), 3) := by decide +kernel
theorem d_MM_choose_90 : decode b_MM_choose 90 = .ok (.iinc 2 1, 3) := by decide +kernel
theorem d_MM_choose_93 : decode b_MM_choose 93 = .ok (.goto (-83), 3) := by decide +kernel
theorem d_MM_choose_96 : decode b_MM_choose 96 = .ok (.return_, 1) := by decide +kernel
def lp_MM_choose_29 (Q : zS → Prop) (J10 : Int → Int → zS → Prop) : Nat → Int → Int → Int → Int → zS → Prop
  | 0 => fun _ _ _ _ _ => False
  | n + 1 => fun v1 v2 v3 v4 σ =>
    zc v4 ∧ zc v3 ∧ ((v3 ≤ v4 →
      J10 v1 (v2 + 1) σ) ∧
     (¬ v3 ≤ v4 →
      wp_MM_lay (fun r12 σ11 =>
        zc r12 ∧ ((r12 < 0 →
          lp_MM_choose_29 Q J10 n v1 v2 v3 (v4 + 1) σ11) ∧
         (¬ r12 < 0 →
          0 ≤ v1 ∧ v1 < 48 ∧ 
          zc (σ11 128 v1) ∧ ((σ11 128 v1 ≤ r12 →
            lp_MM_choose_29 Q J10 n v1 v2 v3 (v4 + 1) σ11) ∧
           (¬ σ11 128 v1 ≤ r12 →
            ∀ σ19, σ19 = zup σ11 128 v1 r12 →
            ∀ σ22, σ22 = zup σ19 129 v1 v2 →
            ∀ σ25, σ25 = zup σ22 130 v1 v4 →
            lp_MM_choose_29 Q J10 n v1 v2 v3 (v4 + 1) σ25))))) v1 v2 v4 σ))
def lp_MM_choose_10 (Q : zS → Prop) : Nat → Int → Int → zS → Prop
  | 0 => fun _ _ _ => False
  | n + 1 => fun v1 v2 σ =>
    zc v2 ∧ zc (σ 120 0) ∧ ((σ 120 0 ≤ v2 →
      Q σ) ∧
     (¬ σ 120 0 ≤ v2 →
      wp_MM_nands (fun r7 σ6 =>
        ∀ y8, y8 = zshl 1 r7 →
        ∃ u29, lp_MM_choose_29 Q (lp_MM_choose_10 Q n) u29 v1 v2 y8 0 σ6) v2 σ))
def wp_MM_choose (Q : zS → Prop) (v1 : Int) (σ : zS) : Prop :=
  0 ≤ v1 ∧ v1 < 48 ∧ ∀ σ3, σ3 = zup σ 128 v1 1000000 →
  ∃ u10, lp_MM_choose_10 Q u10 v1 0 σ3
set_option maxHeartbeats 4000000 in
set_option maxRecDepth 100000 in
theorem wk_MM_choose_29 {E : zE} {D : va_G} {g : zG} {A : Nat → Prop} {ad : zA} {Q : zS → Prop} {J10 : Int → Int → zS → Prop} (C : zX E b_MM_choose R_MM D g { frames := 2, cells := 0, slots := 0, locals := 52 } 6) (R : zRt E none (zQv D g ad Q A) 0 0 A) (hJ10 : ∀ (v1 : Int) (v2 : Int) (σ : zS), J10 v1 v2 σ → zW E (zOK D A (zst E) g ad) 0 0 10 [(0, .ref (ad (0, 3))), (1, .int (zi v1)), (2, .int (zi v2))] [] σ) : ∀ (n : Nat) (v1 : Int) (v2 : Int) (v3 : Int) (v4 : Int) (σ : zS), lp_MM_choose_29 Q J10 n v1 v2 v3 v4 σ → zW E (zOK D A (zst E) g ad) 0 0 29 [(0, .ref (ad (0, 3))), (1, .int (zi v1)), (2, .int (zi v2)), (3, .int (zi v3)), (4, .int (zi v4))] [] σ := by
  intro n
  induction n with
  | zero =>
    intro v1 v2 v3 v4 σ h
    exact h.elim
  | succ n ih =>
    intro v1 v2 v3 v4 σ h
    refine z_iload C (pc := 29) d_MM_choose_29 4 rfl ?_
    refine z_iload_n C (pc := 31) d_MM_choose_31 3 rfl ?_
    obtain ⟨hc9, hc10, h⟩ := h
    refine z_icmp_ge (tgt := 90) C (pc := 32) d_MM_choose_32 (by decide) hc9 hc10 h (fun h => ?_) (fun h => ?_)
    · refine z_iinc (L' := [(2, .int (zi (v2 + 1))), (0, .ref (ad (0, 3))), (1, .int (zi v1)), (3, .int (zi v3)), (4, .int (zi v4))]) C (pc := 90) d_MM_choose_90 2 rfl (by decide) rfl ?_
      refine z_goto (tgt := 10) C (pc := 93) d_MM_choose_93 (by decide) ?_
      refine z_sub [1, 2, 0] rfl ?_
      exact hJ10 _ _ _ h
    · refine z_aload_n C (pc := 35) d_MM_choose_35 0 rfl ?_
      refine z_iload_n C (pc := 36) d_MM_choose_36 1 rfl ?_
      refine z_iload_n C (pc := 37) d_MM_choose_37 2 rfl ?_
      refine z_iload C (pc := 38) d_MM_choose_38 4 rfl ?_
      refine m_calli (As := [.int (zi v1), .int (zi v2), .int (zi v4)]) C fy_MM_lay rfl wd_986 (pc := 40) d_MM_choose_40 ⟨rfl, rfl, Nat.le_of_ble_eq_true rfl, Nat.le_of_ble_eq_true rfl⟩ rfl rfl (Nat.le_of_ble_eq_true rfl) h (c_MM_lay (zln E) D g ad _ _ _ _ _) (fun r12 σ11 h => ?_)
      refine z_istore (L' := [(5, .int (zi r12)), (0, .ref (ad (0, 3))), (1, .int (zi v1)), (2, .int (zi v2)), (3, .int (zi v3)), (4, .int (zi v4))]) C (pc := 43) d_MM_choose_43 (by decide) rfl ?_
      refine z_iload C (pc := 45) d_MM_choose_45 0 rfl ?_
      obtain ⟨hc13, h⟩ := h
      refine z_if_lt (tgt := 84) C (pc := 47) d_MM_choose_47 (by decide) hc13 h (fun h => ?_) (fun h => ?_)
      · refine z_iinc (L' := [(4, .int (zi (v4 + 1))), (5, .int (zi r12)), (0, .ref (ad (0, 3))), (1, .int (zi v1)), (2, .int (zi v2)), (3, .int (zi v3))]) C (pc := 84) d_MM_choose_84 5 rfl (by decide) rfl ?_
        refine z_goto (tgt := 29) C (pc := 87) d_MM_choose_87 (by decide) ?_
        refine z_sub [2, 3, 4, 5, 0] rfl ?_
        exact ih _ _ _ _ _ h
      · refine z_iload C (pc := 50) d_MM_choose_50 0 rfl ?_
        refine z_aload_n C (pc := 52) d_MM_choose_52 1 rfl ?_
        refine m_getA C 28 (by decide) rfl wd_732 (pc := 53) d_MM_choose_53 ?_
        refine z_iload_n C (pc := 56) d_MM_choose_56 2 rfl ?_
        obtain ⟨hc14, hc15, h⟩ := h
        refine m_iald C 28 128 48 rfl rfl (by decide) hc14 hc15 (pc := 57) d_MM_choose_57 ?_
        obtain ⟨hc16, h⟩ := h
        refine z_icmp_ge (tgt := 84) C (pc := 58) d_MM_choose_58 (by decide) hc13 hc16 h (fun h => ?_) (fun h => ?_)
        · refine z_iinc (L' := [(4, .int (zi (v4 + 1))), (5, .int (zi r12)), (0, .ref (ad (0, 3))), (1, .int (zi v1)), (2, .int (zi v2)), (3, .int (zi v3))]) C (pc := 84) d_MM_choose_84 5 rfl (by decide) rfl ?_
          refine z_goto (tgt := 29) C (pc := 87) d_MM_choose_87 (by decide) ?_
          refine z_sub [2, 3, 4, 5, 0] rfl ?_
          exact ih _ _ _ _ _ h
        · refine z_aload_n C (pc := 61) d_MM_choose_61 1 rfl ?_
          refine m_getA C 28 (by decide) rfl wd_732 (pc := 62) d_MM_choose_62 ?_
          refine z_iload_n C (pc := 65) d_MM_choose_65 2 rfl ?_
          refine z_iload C (pc := 66) d_MM_choose_66 0 rfl ?_
          refine m_iast C 28 128 48 rfl rfl (by decide) hc14 hc15 (pc := 68) d_MM_choose_68 ?_
          refine zN h (fun σ19 eσ19 h => ?_)
          refine z_aload_n C (pc := 69) d_MM_choose_69 1 rfl ?_
          refine m_getA C 29 (by decide) rfl wd_733 (pc := 70) d_MM_choose_70 ?_
          refine z_iload_n C (pc := 73) d_MM_choose_73 2 rfl ?_
          refine z_iload_n C (pc := 74) d_MM_choose_74 3 rfl ?_
          refine m_iast C 29 129 48 rfl rfl (by decide) hc14 hc15 (pc := 75) d_MM_choose_75 ?_
          refine zN h (fun σ22 eσ22 h => ?_)
          refine z_aload_n C (pc := 76) d_MM_choose_76 1 rfl ?_
          refine m_getA C 30 (by decide) rfl wd_734 (pc := 77) d_MM_choose_77 ?_
          refine z_iload_n C (pc := 80) d_MM_choose_80 2 rfl ?_
          refine z_iload C (pc := 81) d_MM_choose_81 5 rfl ?_
          refine m_iast C 30 130 48 rfl rfl (by decide) hc14 hc15 (pc := 83) d_MM_choose_83 ?_
          refine zN h (fun σ25 eσ25 h => ?_)
          refine z_iinc (L' := [(4, .int (zi (v4 + 1))), (5, .int (zi r12)), (0, .ref (ad (0, 3))), (1, .int (zi v1)), (2, .int (zi v2)), (3, .int (zi v3))]) C (pc := 84) d_MM_choose_84 5 rfl (by decide) rfl ?_
          refine z_goto (tgt := 29) C (pc := 87) d_MM_choose_87 (by decide) ?_
          refine z_sub [2, 3, 4, 5, 0] rfl ?_
          exact ih _ _ _ _ _ h
set_option maxHeartbeats 4000000 in
set_option maxRecDepth 100000 in
theorem wk_MM_choose_10 {E : zE} {D : va_G} {g : zG} {A : Nat → Prop} {ad : zA} {Q : zS → Prop} (C : zX E b_MM_choose R_MM D g { frames := 2, cells := 0, slots := 0, locals := 52 } 6) (R : zRt E none (zQv D g ad Q A) 0 0 A) : ∀ (n : Nat) (v1 : Int) (v2 : Int) (σ : zS), lp_MM_choose_10 Q n v1 v2 σ → zW E (zOK D A (zst E) g ad) 0 0 10 [(0, .ref (ad (0, 3))), (1, .int (zi v1)), (2, .int (zi v2))] [] σ := by
  intro n
  induction n with
  | zero =>
    intro v1 v2 σ h
    exact h.elim
  | succ n ih =>
    intro v1 v2 σ h
    refine z_iload_n C (pc := 10) d_MM_choose_10 2 rfl ?_
    refine z_aload_n C (pc := 11) d_MM_choose_11 0 rfl ?_
    refine m_getI C 20 120 rfl (by decide) rfl wd_724 (pc := 12) d_MM_choose_12 ?_
    obtain ⟨hc4, hc5, h⟩ := h
    refine z_icmp_ge (tgt := 96) C (pc := 15) d_MM_choose_15 (by decide) hc4 hc5 h (fun h => ?_) (fun h => ?_)
    · exact z_vret C R (pc := 96) d_MM_choose_96 h
    · refine z_iconst C (pc := 18) d_MM_choose_18 ?_
      refine z_aload_n C (pc := 19) d_MM_choose_19 0 rfl ?_
      refine z_iload_n C (pc := 20) d_MM_choose_20 2 rfl ?_
      refine m_calli (As := [.int (zi v2)]) C fy_MM_nands rfl wd_982 (pc := 21) d_MM_choose_21 ⟨rfl, rfl, Nat.le_of_ble_eq_true rfl, Nat.le_of_ble_eq_true rfl⟩ rfl rfl (Nat.le_of_ble_eq_true rfl) h (c_MM_nands (zln E) D g ad _ _ _) (fun r7 σ6 h => ?_)
      refine z_ishl C (pc := 24) d_MM_choose_24 ?_
      refine zNi h (fun y8 ey8 h => ?_)
      refine z_istore_n (L' := [(3, .int (zi y8)), (0, .ref (ad (0, 3))), (1, .int (zi v1)), (2, .int (zi v2))]) C (pc := 25) d_MM_choose_25 (by decide) rfl ?_
      refine z_iconst C (pc := 26) d_MM_choose_26 ?_
      refine z_istore (L' := [(4, .int (zi 0)), (3, .int (zi y8)), (0, .ref (ad (0, 3))), (1, .int (zi v1)), (2, .int (zi v2))]) C (pc := 27) d_MM_choose_27 (by decide) rfl ?_
      refine z_sub [2, 3, 4, 1, 0] rfl ?_
      obtain ⟨n26, h⟩ := h
      exact wk_MM_choose_29 C R ih n26 _ _ _ _ _ h
set_option maxHeartbeats 4000000 in
set_option maxRecDepth 100000 in
theorem c_MM_choose (l : Launch) (D : va_G) (g : zG) (ad : zA) (v1 : Int) (Q : zS → Prop) (σ : zS) (h : wp_MM_choose Q v1 σ) : zMv l y_MM_choose b_MM_choose 6 none { frames := 2, cells := 0, slots := 0, locals := 52 } D g ad σ [.ref (ad (0, 3)), .int (zi v1)] Q := by
  unfold wp_MM_choose at h
  refine zM_of (by decide) (Nat.le_of_ble_eq_true rfl) (fun E C R hl => ?_)
  have C : zX E b_MM_choose R_MM D g { frames := 2, cells := 0, slots := 0, locals := 52 } 6 := C
  refine z_sub (L' := [(0, .ref (ad (0, 3))), (1, .int (zi v1))]) [0, 1] rfl ?_
  refine z_aload_n C (pc := 0) d_MM_choose_0 0 rfl ?_
  refine m_getA C 28 (by decide) rfl wd_732 (pc := 1) d_MM_choose_1 ?_
  refine z_iload_n C (pc := 4) d_MM_choose_4 1 rfl ?_
  refine z_ldc (x := 1000000) C (pc := 5) d_MM_choose_5 wd_981 (by decide) ?_
  obtain ⟨hc1, hc2, h⟩ := h
  refine m_iast C 28 128 48 rfl rfl (by decide) hc1 hc2 (pc := 7) d_MM_choose_7 ?_
  refine zN h (fun σ3 eσ3 h => ?_)
  refine z_iconst C (pc := 8) d_MM_choose_8 ?_
  refine z_istore_n (L' := [(2, .int (zi 0)), (0, .ref (ad (0, 3))), (1, .int (zi v1))]) C (pc := 9) d_MM_choose_9 (by decide) rfl ?_
  refine z_sub [1, 2, 0] rfl ?_
  obtain ⟨n27, h⟩ := h
  exact wk_MM_choose_10 C R n27 _ _ _ h
theorem d_MM_connect_0 : decode b_MM_connect 0 = .ok (.iload_n 2, 1) := by decide +kernel
theorem d_MM_connect_1 : decode b_MM_connect 1 = .ok (.istore_n 3, 1) := by decide +kernel
theorem d_MM_connect_2 : decode b_MM_connect 2 = .ok (.iconst 0, 1) := by decide +kernel
theorem d_MM_connect_3 : decode b_MM_connect 3 = .ok (.istore 4, 2) := by decide +kernel
theorem d_MM_connect_5 : decode b_MM_connect 5 = .ok (.lconst 0, 1) := by decide +kernel
theorem d_MM_connect_6 : decode b_MM_connect 6 = .ok (.lstore 5, 2) := by decide +kernel
theorem d_MM_connect_8 : decode b_MM_connect 8 = .ok (.iconst 0, 1) := by decide +kernel
theorem d_MM_connect_9 : decode b_MM_connect 9 = .ok (.istore 7, 2) := by decide +kernel
theorem d_MM_connect_11 : decode b_MM_connect 11 = .ok (.iload 7, 2) := by decide +kernel
theorem d_MM_connect_13 : decode b_MM_connect 13 = .ok (.bipush 7, 2) := by decide +kernel
theorem d_MM_connect_15 : decode b_MM_connect 15 = .ok (.if_icmp .ge 58, 3) := by decide +kernel
theorem d_MM_connect_18 : decode b_MM_connect 18 = .ok (.aload_n 0, 1) := by decide +kernel
theorem d_MM_connect_19 : decode b_MM_connect 19 = .ok (.getfield 40, 3) := by decide +kernel
theorem d_MM_connect_22 : decode b_MM_connect 22 = .ok (.iload_n 3, 1) := by decide +kernel
theorem d_MM_connect_23 : decode b_MM_connect 23 = .ok (.iaload, 1) := by decide +kernel
theorem d_MM_connect_24 : decode b_MM_connect 24 = .ok (.iconst 1, 1) := by decide +kernel
theorem d_MM_connect_25 : decode b_MM_connect 25 = .ok (.if_icmp .ne 48, 3) := by decide +kernel
theorem d_MM_connect_28 : decode b_MM_connect 28 = .ok (.aload_n 0, 1) := by decide +kernel
theorem d_MM_connect_29 : decode b_MM_connect 29 = .ok (.getfield 49, 3) := by decide +kernel
theorem d_MM_connect_32 : decode b_MM_connect 32 = .ok (.iload_n 3, 1) := by decide +kernel
theorem d_MM_connect_33 : decode b_MM_connect 33 = .ok (.iaload, 1) := by decide +kernel
theorem d_MM_connect_34 : decode b_MM_connect 34 = .ok (.istore 8, 2) := by decide +kernel
theorem d_MM_connect_36 : decode b_MM_connect 36 = .ok (.lload 5, 2) := by decide +kernel
theorem d_MM_connect_38 : decode b_MM_connect 38 = .ok (.iconst 1, 1) := by decide +kernel
theorem d_MM_connect_39 : decode b_MM_connect 39 = .ok (.lshl, 1) := by decide +kernel
theorem d_MM_connect_40 : decode b_MM_connect 40 = .ok (.aload_n 0, 1) := by decide +kernel
theorem d_MM_connect_41 : decode b_MM_connect 41 = .ok (.getfield 16, 3) := by decide +kernel
theorem d_MM_connect_44 : decode b_MM_connect 44 = .ok (.iload 8, 2) := by decide +kernel
theorem d_MM_connect_46 : decode b_MM_connect 46 = .ok (.iaload, 1) := by decide +kernel
theorem d_MM_connect_47 : decode b_MM_connect 47 = .ok (.i2l, 1) := by decide +kernel
theorem d_MM_connect_48 : decode b_MM_connect 48 = .ok (.lor, 1) := by decide +kernel
theorem d_MM_connect_49 : decode b_MM_connect 49 = .ok (.lstore 5, 2) := by decide +kernel
theorem d_MM_connect_51 : decode b_MM_connect 51 = .ok (.iinc 4 1, 3) := by decide +kernel
theorem d_MM_connect_54 : decode b_MM_connect 54 = .ok (.aload_n 0, 1) := by decide +kernel
theorem d_MM_connect_55 : decode b_MM_connect 55 = .ok (.getfield 13, 3) := by decide +kernel
theorem d_MM_connect_58 : decode b_MM_connect 58 = .ok (.aload_n 0, 1) := by decide +kernel
theorem d_MM_connect_59 : decode b_MM_connect 59 = .ok (.getfield 22, 3) := by decide +kernel
theorem d_MM_connect_62 : decode b_MM_connect 62 = .ok (.iload 8, 2) := by decide +kernel
theorem d_MM_connect_64 : decode b_MM_connect 64 = .ok (.iaload, 1) := by decide +kernel
theorem d_MM_connect_65 : decode b_MM_connect 65 = .ok (.iaload, 1) := by decide +kernel
theorem d_MM_connect_66 : decode b_MM_connect 66 = .ok (.istore_n 3, 1) := by decide +kernel
theorem d_MM_connect_67 : decode b_MM_connect 67 = .ok (.iinc 7 1, 3) := by decide +kernel
theorem d_MM_connect_70 : decode b_MM_connect 70 = .ok (.goto (-59), 3) := by decide +kernel
theorem d_MM_connect_73 : decode b_MM_connect 73 = .ok (.aload_n 0, 1) := by decide +kernel
theorem d_MM_connect_74 : decode b_MM_connect 74 = .ok (.getfield 92, 3) := by decide +kernel
theorem d_MM_connect_77 : decode b_MM_connect 77 = .ok (.iload_n 1, 1) := by decide +kernel
theorem d_MM_connect_78 : decode b_MM_connect 78 = .ok (.iload_n 3, 1) := by decide +kernel
theorem d_MM_connect_79 : decode b_MM_connect 79 = .ok (.iastore, 1) := by decide +kernel
theorem d_MM_connect_80 : decode b_MM_connect 80 = .ok (.aload_n 0, 1) := by decide +kernel
theorem d_MM_connect_81 : decode b_MM_connect 81 = .ok (.getfield 95, 3) := by decide +kernel
theorem d_MM_connect_84 : decode b_MM_connect 84 = .ok (.iload_n 1, 1) := by decide +kernel
theorem d_MM_connect_85 : decode b_MM_connect 85 = .ok (.iload 4, 2) := by decide +kernel
theorem d_MM_connect_87 : decode b_MM_connect 87 = .ok (.iastore, 1) := by decide +kernel
theorem d_MM_connect_88 : decode b_MM_connect 88 = .ok (.aload_n 0, 1) := by decide +kernel
theorem d_MM_connect_89 : decode b_MM_connect 89 = .ok (.getfield 98, 3) := by decide +kernel
theorem d_MM_connect_92 : decode b_MM_connect 92 = .ok (.iload_n 1, 1) := by decide +kernel
theorem d_MM_connect_93 : decode b_MM_connect 93 = .ok (.lload 5, 2) := by decide +kernel
theorem d_MM_connect_95 : decode b_MM_connect 95 = .ok (.lastore, 1) := by decide +kernel
theorem d_MM_connect_96 : decode b_MM_connect 96 = .ok (.return_, 1) := by decide +kernel
def bk_MM_connect_73 (Q : zS → Prop) (v1 : Int) (v3 : Int) (v4 : Int) (v5 : Int) (σ : zS) : Prop :=
  0 ≤ v1 ∧ v1 < 196 ∧ ∀ σ4, σ4 = zup σ 135 v1 v3 →
  ∀ σ7, σ7 = zup σ4 136 v1 v4 →
  ∀ σ10, σ10 = zup σ7 137 v1 v5 →
  Q σ10
def lp_MM_connect_11 (Q : zS → Prop) : Nat → Int → Int → Int → Int → Int → zS → Prop
  | 0 => fun _ _ _ _ _ _ => False
  | n + 1 => fun v1 v3 v4 v5 v7 σ =>
    zc v7 ∧ ((7 ≤ v7 →
      bk_MM_connect_73 Q v1 v3 v4 v5 σ) ∧
     (¬ 7 ≤ v7 →
      0 ≤ v3 ∧ v3 < 48 ∧ 
      zc (σ 114 v3) ∧ ((σ 114 v3 = 1 →
        ∀ y16, y16 = σ 117 v3 →
        0 ≤ y16 ∧ y16 < 40 ∧ 
        zc (σ 103 y16) ∧ 
        ∀ y20, y20 = zlor (zlshl v5 1) (σ 103 y16) →
        0 ≤ σ 105 y16 ∧ σ 105 y16 < 40 ∧ 
        ∀ y25, y25 = σ 102 (σ 105 y16) →
        lp_MM_connect_11 Q n v1 y25 (v4 + 1) y20 (v7 + 1) σ) ∧
       (¬ σ 114 v3 = 1 →
        bk_MM_connect_73 Q v1 v3 v4 v5 σ))))
def wp_MM_connect (Q : zS → Prop) (v1 : Int) (v2 : Int) (σ : zS) : Prop :=
  ∃ u11, lp_MM_connect_11 Q u11 v1 v2 0 0 0 σ
set_option maxHeartbeats 4000000 in
set_option maxRecDepth 100000 in
theorem wk_MM_connect_73 {E : zE} {D : va_G} {g : zG} {A : Nat → Prop} {ad : zA} {Q : zS → Prop} (C : zX E b_MM_connect R_MM D g { frames := 0, cells := 0, slots := 0, locals := 0 } 9) (R : zRt E none (zQv D g ad Q A) 0 0 A) (v1 : Int) (v3 : Int) (v4 : Int) (v5 : Int) (σ : zS) (h : bk_MM_connect_73 Q v1 v3 v4 v5 σ) : zW E (zOK D A (zst E) g ad) 0 0 73 [(0, .ref (ad (0, 3))), (1, .int (zi v1)), (3, .int (zi v3)), (4, .int (zi v4)), (5, .long (zj v5))] [] σ := by
  unfold bk_MM_connect_73 at h
  refine z_aload_n C (pc := 73) d_MM_connect_73 0 rfl ?_
  refine m_getA C 35 (by decide) rfl wd_739 (pc := 74) d_MM_connect_74 ?_
  refine z_iload_n C (pc := 77) d_MM_connect_77 1 rfl ?_
  refine z_iload_n C (pc := 78) d_MM_connect_78 2 rfl ?_
  obtain ⟨hc2, hc3, h⟩ := h
  refine m_iast C 35 135 196 rfl rfl (by decide) hc2 hc3 (pc := 79) d_MM_connect_79 ?_
  refine zN h (fun σ4 eσ4 h => ?_)
  refine z_aload_n C (pc := 80) d_MM_connect_80 0 rfl ?_
  refine m_getA C 36 (by decide) rfl wd_740 (pc := 81) d_MM_connect_81 ?_
  refine z_iload_n C (pc := 84) d_MM_connect_84 1 rfl ?_
  refine z_iload C (pc := 85) d_MM_connect_85 3 rfl ?_
  refine m_iast C 36 136 196 rfl rfl (by decide) hc2 hc3 (pc := 87) d_MM_connect_87 ?_
  refine zN h (fun σ7 eσ7 h => ?_)
  refine z_aload_n C (pc := 88) d_MM_connect_88 0 rfl ?_
  refine m_getA C 37 (by decide) rfl wd_741 (pc := 89) d_MM_connect_89 ?_
  refine z_iload_n C (pc := 92) d_MM_connect_92 1 rfl ?_
  refine z_lload C (pc := 93) d_MM_connect_93 4 rfl ?_
  refine m_last C 37 137 196 rfl rfl (by decide) hc2 hc3 (pc := 95) d_MM_connect_95 ?_
  refine zN h (fun σ10 eσ10 h => ?_)
  exact z_vret C R (pc := 96) d_MM_connect_96 h
set_option maxHeartbeats 4000000 in
set_option maxRecDepth 100000 in
theorem wk_MM_connect_11 {E : zE} {D : va_G} {g : zG} {A : Nat → Prop} {ad : zA} {Q : zS → Prop} (C : zX E b_MM_connect R_MM D g { frames := 0, cells := 0, slots := 0, locals := 0 } 9) (R : zRt E none (zQv D g ad Q A) 0 0 A) : ∀ (n : Nat) (v1 : Int) (v3 : Int) (v4 : Int) (v5 : Int) (v7 : Int) (σ : zS), lp_MM_connect_11 Q n v1 v3 v4 v5 v7 σ → zW E (zOK D A (zst E) g ad) 0 0 11 [(0, .ref (ad (0, 3))), (1, .int (zi v1)), (3, .int (zi v3)), (4, .int (zi v4)), (5, .long (zj v5)), (7, .int (zi v7))] [] σ := by
  intro n
  induction n with
  | zero =>
    intro v1 v3 v4 v5 v7 σ h
    exact h.elim
  | succ n ih =>
    intro v1 v3 v4 v5 v7 σ h
    refine z_iload C (pc := 11) d_MM_connect_11 5 rfl ?_
    refine z_bipush C (pc := 13) d_MM_connect_13 (by decide) ?_
    obtain ⟨hc1, h⟩ := h
    refine z_icmp_ge (tgt := 73) C (pc := 15) d_MM_connect_15 (by decide) hc1 (by decide) h (fun h => ?_) (fun h => ?_)
    · refine z_sub [0, 1, 2, 3, 4] rfl ?_
      exact wk_MM_connect_73 C R _ _ _ _ _ h
    · refine z_aload_n C (pc := 18) d_MM_connect_18 0 rfl ?_
      refine m_getA C 14 (by decide) rfl wd_718 (pc := 19) d_MM_connect_19 ?_
      refine z_iload_n C (pc := 22) d_MM_connect_22 2 rfl ?_
      obtain ⟨hc11, hc12, h⟩ := h
      refine m_iald C 14 114 48 rfl rfl (by decide) hc11 hc12 (pc := 23) d_MM_connect_23 ?_
      refine z_iconst C (pc := 24) d_MM_connect_24 ?_
      obtain ⟨hc13, h⟩ := h
      refine z_icmp_ne (tgt := 73) C (pc := 25) d_MM_connect_25 (by decide) hc13 (by decide) h (fun h => ?_) (fun h => ?_)
      · refine z_sub [0, 1, 2, 3, 4] rfl ?_
        exact wk_MM_connect_73 C R _ _ _ _ _ h
      · refine z_aload_n C (pc := 28) d_MM_connect_28 0 rfl ?_
        refine m_getA C 17 (by decide) rfl wd_721 (pc := 29) d_MM_connect_29 ?_
        refine z_iload_n C (pc := 32) d_MM_connect_32 2 rfl ?_
        refine m_iald C 17 117 48 rfl rfl (by decide) hc11 hc12 (pc := 33) d_MM_connect_33 ?_
        refine zNi h (fun y16 ey16 h => ?_)
        refine z_istore (L' := [(8, .int (zi y16)), (0, .ref (ad (0, 3))), (1, .int (zi v1)), (3, .int (zi v3)), (4, .int (zi v4)), (5, .long (zj v5)), (7, .int (zi v7))]) C (pc := 34) d_MM_connect_34 (by decide) rfl ?_
        refine z_lload C (pc := 36) d_MM_connect_36 5 rfl ?_
        refine z_iconst C (pc := 38) d_MM_connect_38 ?_
        refine z_lshl C (pc := 39) d_MM_connect_39 ?_
        refine z_aload_n C (pc := 40) d_MM_connect_40 1 rfl ?_
        refine m_getA C 3 (by decide) rfl wd_707 (pc := 41) d_MM_connect_41 ?_
        refine z_iload C (pc := 44) d_MM_connect_44 0 rfl ?_
        obtain ⟨hc17, hc18, h⟩ := h
        refine m_iald C 3 103 40 rfl rfl (by decide) hc17 hc18 (pc := 46) d_MM_connect_46 ?_
        obtain ⟨hc19, h⟩ := h
        refine z_i2l C (pc := 47) d_MM_connect_47 hc19 ?_
        refine z_lor C (pc := 48) d_MM_connect_48 ?_
        refine zNj h (fun y20 ey20 h => ?_)
        refine z_lstore (L' := [(5, .long (zj y20)), (8, .int (zi y16)), (0, .ref (ad (0, 3))), (1, .int (zi v1)), (3, .int (zi v3)), (4, .int (zi v4)), (7, .int (zi v7))]) C (pc := 49) d_MM_connect_49 (by decide) rfl ?_
        refine z_iinc (L' := [(4, .int (zi (v4 + 1))), (5, .long (zj y20)), (8, .int (zi y16)), (0, .ref (ad (0, 3))), (1, .int (zi v1)), (3, .int (zi v3)), (7, .int (zi v7))]) C (pc := 51) d_MM_connect_51 5 rfl (by decide) rfl ?_
        refine z_aload_n C (pc := 54) d_MM_connect_54 3 rfl ?_
        refine m_getA C 2 (by decide) rfl wd_706 (pc := 55) d_MM_connect_55 ?_
        refine z_aload_n C (pc := 58) d_MM_connect_58 3 rfl ?_
        refine m_getA C 5 (by decide) rfl wd_709 (pc := 59) d_MM_connect_59 ?_
        refine z_iload C (pc := 62) d_MM_connect_62 2 rfl ?_
        refine m_iald C 5 105 40 rfl rfl (by decide) hc17 hc18 (pc := 64) d_MM_connect_64 ?_
        obtain ⟨hc23, hc24, h⟩ := h
        refine m_iald C 2 102 40 rfl rfl (by decide) hc23 hc24 (pc := 65) d_MM_connect_65 ?_
        refine zNi h (fun y25 ey25 h => ?_)
        refine z_istore_n (L' := [(3, .int (zi y25)), (4, .int (zi (v4 + 1))), (5, .long (zj y20)), (8, .int (zi y16)), (0, .ref (ad (0, 3))), (1, .int (zi v1)), (7, .int (zi v7))]) C (pc := 66) d_MM_connect_66 (by decide) rfl ?_
        refine z_iinc (L' := [(7, .int (zi (v7 + 1))), (3, .int (zi y25)), (4, .int (zi (v4 + 1))), (5, .long (zj y20)), (8, .int (zi y16)), (0, .ref (ad (0, 3))), (1, .int (zi v1))]) C (pc := 67) d_MM_connect_67 6 rfl (by decide) rfl ?_
        refine z_goto (tgt := 11) C (pc := 70) d_MM_connect_70 (by decide) ?_
        refine z_sub [5, 6, 1, 2, 3, 0] rfl ?_
        exact ih _ _ _ _ _ _ h
set_option maxHeartbeats 4000000 in
set_option maxRecDepth 100000 in
theorem c_MM_connect (l : Launch) (D : va_G) (g : zG) (ad : zA) (v1 : Int) (v2 : Int) (Q : zS → Prop) (σ : zS) (h : wp_MM_connect Q v1 v2 σ) : zMv l y_MM_connect b_MM_connect 9 none { frames := 0, cells := 0, slots := 0, locals := 0 } D g ad σ [.ref (ad (0, 3)), .int (zi v1), .int (zi v2)] Q := by
  unfold wp_MM_connect at h
  refine zM_of (by decide) (Nat.le_of_ble_eq_true rfl) (fun E C R hl => ?_)
  have C : zX E b_MM_connect R_MM D g { frames := 0, cells := 0, slots := 0, locals := 0 } 9 := C
  refine z_sub (L' := [(0, .ref (ad (0, 3))), (1, .int (zi v1)), (2, .int (zi v2))]) [0, 1, 2] rfl ?_
  refine z_iload_n C (pc := 0) d_MM_connect_0 2 rfl ?_
  refine z_istore_n (L' := [(3, .int (zi v2)), (0, .ref (ad (0, 3))), (1, .int (zi v1)), (2, .int (zi v2))]) C (pc := 1) d_MM_connect_1 (by decide) rfl ?_
  refine z_iconst C (pc := 2) d_MM_connect_2 ?_
  refine z_istore (L' := [(4, .int (zi 0)), (3, .int (zi v2)), (0, .ref (ad (0, 3))), (1, .int (zi v1)), (2, .int (zi v2))]) C (pc := 3) d_MM_connect_3 (by decide) rfl ?_
  refine z_lconst (y := 0) C (pc := 5) d_MM_connect_5 (by decide) ?_
  refine z_lstore (L' := [(5, .long (zj 0)), (4, .int (zi 0)), (3, .int (zi v2)), (0, .ref (ad (0, 3))), (1, .int (zi v1)), (2, .int (zi v2))]) C (pc := 6) d_MM_connect_6 (by decide) rfl ?_
  refine z_iconst C (pc := 8) d_MM_connect_8 ?_
  refine z_istore (L' := [(7, .int (zi 0)), (5, .long (zj 0)), (4, .int (zi 0)), (3, .int (zi v2)), (0, .ref (ad (0, 3))), (1, .int (zi v1)), (2, .int (zi v2))]) C (pc := 9) d_MM_connect_9 (by decide) rfl ?_
  refine z_sub [4, 5, 3, 2, 1, 0] rfl ?_
  obtain ⟨n26, h⟩ := h
  exact wk_MM_connect_11 C R n26 _ _ _ _ _ _ h
theorem d_MM_cover_0 : decode b_MM_cover 0 = .ok (.aload_n 0, 1) := by decide +kernel
theorem d_MM_cover_1 : decode b_MM_cover 1 = .ok (.invokevirtual 220, 3) := by decide +kernel
theorem d_MM_cover_4 : decode b_MM_cover 4 = .ok (.iconst 0, 1) := by decide +kernel
theorem d_MM_cover_5 : decode b_MM_cover 5 = .ok (.istore_n 1, 1) := by decide +kernel
theorem d_MM_cover_6 : decode b_MM_cover 6 = .ok (.iload_n 1, 1) := by decide +kernel
theorem d_MM_cover_7 : decode b_MM_cover 7 = .ok (.aload_n 0, 1) := by decide +kernel
theorem d_MM_cover_8 : decode b_MM_cover 8 = .ok (.getfield 135, 3) := by decide +kernel
theorem d_MM_cover_11 : decode b_MM_cover 11 = .ok (.if_icmp .ge 31, 3) := by decide +kernel
theorem d_MM_cover_14 : decode b_MM_cover 14 = .ok (.aload_n 0, 1) := by decide +kernel
theorem d_MM_cover_15 : decode b_MM_cover 15 = .ok (.getfield 64, 3) := by decide +kernel
theorem d_MM_cover_18 : decode b_MM_cover 18 = .ok (.iload_n 1, 1) := by decide +kernel
theorem d_MM_cover_19 : decode b_MM_cover 19 = .ok (.baload, 1) := by decide +kernel
theorem d_MM_cover_20 : decode b_MM_cover 20 = .ok (.ifCond .eq 16, 3) := by decide +kernel
theorem d_MM_cover_23 : decode b_MM_cover 23 = .ok (.aload_n 0, 1) := by decide +kernel
theorem d_MM_cover_24 : decode b_MM_cover 24 = .ok (.iload_n 1, 1) := by decide +kernel
theorem d_MM_cover_25 : decode b_MM_cover 25 = .ok (.invokevirtual 203, 3) := by decide +kernel
theorem d_MM_cover_28 : decode b_MM_cover 28 = .ok (.ifCond .eq 8, 3) := by decide +kernel
theorem d_MM_cover_31 : decode b_MM_cover 31 = .ok (.aload_n 0, 1) := by decide +kernel
theorem d_MM_cover_32 : decode b_MM_cover 32 = .ok (.iload_n 1, 1) := by decide +kernel
theorem d_MM_cover_33 : decode b_MM_cover 33 = .ok (.invokevirtual 223, 3) := by decide +kernel
theorem d_MM_cover_36 : decode b_MM_cover 36 = .ok (.iinc 1 1, 3) := by decide +kernel
theorem d_MM_cover_39 : decode b_MM_cover 39 = .ok (.goto (-33), 3) := by decide +kernel
theorem d_MM_cover_42 : decode b_MM_cover 42 = .ok (.iconst 0, 1) := by decide +kernel
theorem d_MM_cover_43 : decode b_MM_cover 43 = .ok (.istore_n 1, 1) := by decide +kernel
theorem d_MM_cover_44 : decode b_MM_cover 44 = .ok (.iload_n 1, 1) := by decide +kernel
theorem d_MM_cover_45 : decode b_MM_cover 45 = .ok (.sipush 196, 3) := by decide +kernel
theorem d_MM_cover_48 : decode b_MM_cover 48 = .ok (.if_icmp .ge 16, 3) := by decide +kernel
theorem d_MM_cover_51 : decode b_MM_cover 51 = .ok (.aload_n 0, 1) := by decide +kernel
theorem d_MM_cover_52 : decode b_MM_cover 52 = .ok (.getfield 92, 3) := by decide +kernel
theorem d_MM_cover_55 : decode b_MM_cover 55 = .ok (.iload_n 1, 1) := by decide +kernel
theorem d_MM_cover_56 : decode b_MM_cover 56 = .ok (.iconst (-1), 1) := by decide +kernel
theorem d_MM_cover_57 : decode b_MM_cover 57 = .ok (.iastore, 1) := by decide +kernel
theorem d_MM_cover_58 : decode b_MM_cover 58 = .ok (.iinc 1 1, 3) := by decide +kernel
theorem d_MM_cover_61 : decode b_MM_cover 61 = .ok (.goto (-17), 3) := by decide +kernel
theorem d_MM_cover_64 : decode b_MM_cover 64 = .ok (.aload_n 0, 1) := by decide +kernel
theorem d_MM_cover_65 : decode b_MM_cover 65 = .ok (.getfield 135, 3) := by decide +kernel
theorem d_MM_cover_68 : decode b_MM_cover 68 = .ok (.iconst 1, 1) := by decide +kernel
theorem d_MM_cover_69 : decode b_MM_cover 69 = .ok (.isub, 1) := by decide +kernel
theorem d_MM_cover_70 : decode b_MM_cover 70 = .ok (.istore_n 1, 1) := by decide +kernel
theorem d_MM_cover_71 : decode b_MM_cover 71 = .ok (.iload_n 1, 1) := by decide +kernel
theorem d_MM_cover_72 : decode b_MM_cover 72 = .ok (.ifCond .lt 144, 3) := by decide +kernel
theorem d_MM_cover_75 : decode b_MM_cover 75 = .ok (.aload_n 0, 1) := by decide +kernel
theorem d_MM_cover_76 : decode b_MM_cover 76 = .ok (.getfield 83, 3) := by decide +kernel
theorem d_MM_cover_79 : decode b_MM_cover 79 = .ok (.iload_n 1, 1) := by decide +kernel
theorem d_MM_cover_80 : decode b_MM_cover 80 = .ok (.aload_n 0, 1) := by decide +kernel
theorem d_MM_cover_81 : decode b_MM_cover 81 = .ok (.getfield 83, 3) := by decide +kernel
theorem d_MM_cover_84 : decode b_MM_cover 84 = .ok (.iload_n 1, 1) := by decide +kernel
theorem d_MM_cover_85 : decode b_MM_cover 85 = .ok (.baload, 1) := by decide +kernel
theorem d_MM_cover_86 : decode b_MM_cover 86 = .ok (.ifCond .ne 12, 3) := by decide +kernel
theorem d_MM_cover_89 : decode b_MM_cover 89 = .ok (.aload_n 0, 1) := by decide +kernel
theorem d_MM_cover_90 : decode b_MM_cover 90 = .ok (.getfield 68, 3) := by decide +kernel
theorem d_MM_cover_93 : decode b_MM_cover 93 = .ok (.iload_n 1, 1) := by decide +kernel
theorem d_MM_cover_94 : decode b_MM_cover 94 = .ok (.baload, 1) := by decide +kernel
theorem d_MM_cover_95 : decode b_MM_cover 95 = .ok (.ifCond .eq 7, 3) := by decide +kernel
theorem d_MM_cover_98 : decode b_MM_cover 98 = .ok (.iconst 1, 1) := by decide +kernel
theorem d_MM_cover_99 : decode b_MM_cover 99 = .ok (.goto 4, 3) := by decide +kernel
theorem d_MM_cover_102 : decode b_MM_cover 102 = .ok (.iconst 0, 1) := by decide +kernel
theorem d_MM_cover_103 : decode b_MM_cover 103 = .ok (.bastore, 1) := by decide +kernel
theorem d_MM_cover_104 : decode b_MM_cover 104 = .ok (.aload_n 0, 1) := by decide +kernel
theorem d_MM_cover_105 : decode b_MM_cover 105 = .ok (.getfield 83, 3) := by decide +kernel
theorem d_MM_cover_108 : decode b_MM_cover 108 = .ok (.iload_n 1, 1) := by decide +kernel
theorem d_MM_cover_109 : decode b_MM_cover 109 = .ok (.baload, 1) := by decide +kernel
theorem d_MM_cover_110 : decode b_MM_cover 110 = .ok (.ifCond .eq 100, 3) := by decide +kernel
theorem d_MM_cover_113 : decode b_MM_cover 113 = .ok (.aload_n 0, 1) := by decide +kernel
theorem d_MM_cover_114 : decode b_MM_cover 114 = .ok (.getfield 74, 3) := by decide +kernel
theorem d_MM_cover_117 : decode b_MM_cover 117 = .ok (.iload_n 1, 1) := by decide +kernel
theorem d_MM_cover_118 : decode b_MM_cover 118 = .ok (.aload_n 0, 1) := by decide +kernel
theorem d_MM_cover_119 : decode b_MM_cover 119 = .ok (.iload_n 1, 1) := by decide +kernel
theorem d_MM_cover_120 : decode b_MM_cover 120 = .ok (.aload_n 0, 1) := by decide +kernel
theorem d_MM_cover_121 : decode b_MM_cover 121 = .ok (.getfield 77, 3) := by decide +kernel
theorem d_MM_cover_124 : decode b_MM_cover 124 = .ok (.iload_n 1, 1) := by decide +kernel
theorem d_MM_cover_125 : decode b_MM_cover 125 = .ok (.iaload, 1) := by decide +kernel
theorem d_MM_cover_126 : decode b_MM_cover 126 = .ok (.aload_n 0, 1) := by decide +kernel
theorem d_MM_cover_127 : decode b_MM_cover 127 = .ok (.getfield 80, 3) := by decide +kernel
theorem d_MM_cover_130 : decode b_MM_cover 130 = .ok (.iload_n 1, 1) := by decide +kernel
theorem d_MM_cover_131 : decode b_MM_cover 131 = .ok (.iaload, 1) := by decide +kernel
theorem d_MM_cover_132 : decode b_MM_cover 132 = .ok (.invokevirtual 217, 3) := by decide +kernel
theorem d_MM_cover_135 : decode b_MM_cover 135 = .ok (.iastore, 1) := by decide +kernel
theorem d_MM_cover_136 : decode b_MM_cover 136 = .ok (.iconst 0, 1) := by decide +kernel
theorem d_MM_cover_137 : decode b_MM_cover 137 = .ok (.istore_n 2, 1) := by decide +kernel
theorem d_MM_cover_138 : decode b_MM_cover 138 = .ok (.iload_n 2, 1) := by decide +kernel
theorem d_MM_cover_139 : decode b_MM_cover 139 = .ok (.aload_n 0, 1) := by decide +kernel
theorem d_MM_cover_140 : decode b_MM_cover 140 = .ok (.getfield 213, 3) := by decide +kernel
theorem d_MM_cover_143 : decode b_MM_cover 143 = .ok (.if_icmp .ge 67, 3) := by decide +kernel
theorem d_MM_cover_146 : decode b_MM_cover 146 = .ok (.aload_n 0, 1) := by decide +kernel
theorem d_MM_cover_147 : decode b_MM_cover 147 = .ok (.getfield 83, 3) := by decide +kernel
theorem d_MM_cover_150 : decode b_MM_cover 150 = .ok (.aload_n 0, 1) := by decide +kernel
theorem d_MM_cover_151 : decode b_MM_cover 151 = .ok (.getfield 89, 3) := by decide +kernel
theorem d_MM_cover_154 : decode b_MM_cover 154 = .ok (.iload_n 2, 1) := by decide +kernel
theorem d_MM_cover_155 : decode b_MM_cover 155 = .ok (.iaload, 1) := by decide +kernel
theorem d_MM_cover_156 : decode b_MM_cover 156 = .ok (.aload_n 0, 1) := by decide +kernel
theorem d_MM_cover_157 : decode b_MM_cover 157 = .ok (.getfield 83, 3) := by decide +kernel
theorem d_MM_cover_160 : decode b_MM_cover 160 = .ok (.aload_n 0, 1) := by decide +kernel
theorem d_MM_cover_161 : decode b_MM_cover 161 = .ok (.getfield 89, 3) := by decide +kernel
theorem d_MM_cover_164 : decode b_MM_cover 164 = .ok (.iload_n 2, 1) := by decide +kernel
theorem d_MM_cover_165 : decode b_MM_cover 165 = .ok (.iaload, 1) := by decide +kernel
theorem d_MM_cover_166 : decode b_MM_cover 166 = .ok (.baload, 1) := by decide +kernel
theorem d_MM_cover_167 : decode b_MM_cover 167 = .ok (.ifCond .ne 16, 3) := by decide +kernel
theorem d_MM_cover_170 : decode b_MM_cover 170 = .ok (.aload_n 0, 1) := by decide +kernel
theorem d_MM_cover_171 : decode b_MM_cover 171 = .ok (.aload_n 0, 1) := by decide +kernel
theorem d_MM_cover_172 : decode b_MM_cover 172 = .ok (.getfield 89, 3) := by decide +kernel
theorem d_MM_cover_175 : decode b_MM_cover 175 = .ok (.iload_n 2, 1) := by decide +kernel
theorem d_MM_cover_176 : decode b_MM_cover 176 = .ok (.iaload, 1) := by decide +kernel
theorem d_MM_cover_177 : decode b_MM_cover 177 = .ok (.invokevirtual 203, 3) := by decide +kernel
theorem d_MM_cover_180 : decode b_MM_cover 180 = .ok (.ifCond .eq 7, 3) := by decide +kernel
theorem d_MM_cover_183 : decode b_MM_cover 183 = .ok (.iconst 1, 1) := by decide +kernel
theorem d_MM_cover_184 : decode b_MM_cover 184 = .ok (.goto 4, 3) := by decide +kernel
theorem d_MM_cover_187 : decode b_MM_cover 187 = .ok (.iconst 0, 1) := by decide +kernel
theorem d_MM_cover_188 : decode b_MM_cover 188 = .ok (.bastore, 1) := by decide +kernel
theorem d_MM_cover_189 : decode b_MM_cover 189 = .ok (.aload_n 0, 1) := by decide +kernel
theorem d_MM_cover_190 : decode b_MM_cover 190 = .ok (.iconst 4, 1) := by decide +kernel
theorem d_MM_cover_191 : decode b_MM_cover 191 = .ok (.iload_n 1, 1) := by decide +kernel
theorem d_MM_cover_192 : decode b_MM_cover 192 = .ok (.imul, 1) := by decide +kernel
theorem d_MM_cover_193 : decode b_MM_cover 193 = .ok (.iload_n 2, 1) := by decide +kernel
theorem d_MM_cover_194 : decode b_MM_cover 194 = .ok (.iadd, 1) := by decide +kernel
theorem d_MM_cover_195 : decode b_MM_cover 195 = .ok (.aload_n 0, 1) := by decide +kernel
theorem d_MM_cover_196 : decode b_MM_cover 196 = .ok (.getfield 89, 3) := by decide +kernel
theorem d_MM_cover_199 : decode b_MM_cover 199 = .ok (.iload_n 2, 1) := by decide +kernel
theorem d_MM_cover_200 : decode b_MM_cover 200 = .ok (.iaload, 1) := by decide +kernel
theorem d_MM_cover_201 : decode b_MM_cover 201 = .ok (.invokevirtual 226, 3) := by decide +kernel
theorem d_MM_cover_204 : decode b_MM_cover 204 = .ok (.iinc 2 1, 3) := by decide +kernel
theorem d_MM_cover_207 : decode b_MM_cover 207 = .ok (.goto (-69), 3) := by decide +kernel
theorem d_MM_cover_210 : decode b_MM_cover 210 = .ok (.iinc 1 (-1), 3) := by decide +kernel
theorem d_MM_cover_213 : decode b_MM_cover 213 = .ok (.goto (-142), 3) := by decide +kernel
theorem d_MM_cover_216 : decode b_MM_cover 216 = .ok (.iconst 0, 1) := by decide +kernel
theorem d_MM_cover_217 : decode b_MM_cover 217 = .ok (.istore_n 1, 1) := by decide +kernel
theorem d_MM_cover_218 : decode b_MM_cover 218 = .ok (.iload_n 1, 1) := by decide +kernel
theorem d_MM_cover_219 : decode b_MM_cover 219 = .ok (.aload_n 0, 1) := by decide +kernel
theorem d_MM_cover_220 : decode b_MM_cover 220 = .ok (.getfield 194, 3) := by decide +kernel
theorem d_MM_cover_223 : decode b_MM_cover 223 = .ok (.if_icmp .ge 29, 3) := by decide +kernel
theorem d_MM_cover_226 : decode b_MM_cover 226 = .ok (.aload_n 0, 1) := by decide +kernel
theorem d_MM_cover_227 : decode b_MM_cover 227 = .ok (.sipush 192, 3) := by decide +kernel
theorem d_MM_cover_230 : decode b_MM_cover 230 = .ok (.iload_n 1, 1) := by decide +kernel
theorem d_MM_cover_231 : decode b_MM_cover 231 = .ok (.iadd, 1) := by decide +kernel
theorem d_MM_cover_232 : decode b_MM_cover 232 = .ok (.aload_n 0, 1) := by decide +kernel
theorem d_MM_cover_233 : decode b_MM_cover 233 = .ok (.getfield 13, 3) := by decide +kernel
theorem d_MM_cover_236 : decode b_MM_cover 236 = .ok (.aload_n 0, 1) := by decide +kernel
theorem d_MM_cover_237 : decode b_MM_cover 237 = .ok (.getfield 52, 3) := by decide +kernel
theorem d_MM_cover_240 : decode b_MM_cover 240 = .ok (.iload_n 1, 1) := by decide +kernel
theorem d_MM_cover_241 : decode b_MM_cover 241 = .ok (.iaload, 1) := by decide +kernel
theorem d_MM_cover_242 : decode b_MM_cover 242 = .ok (.iaload, 1) := by decide +kernel
theorem d_MM_cover_243 : decode b_MM_cover 243 = .ok (.invokevirtual 226, 3) := by decide +kernel
theorem d_MM_cover_246 : decode b_MM_cover 246 = .ok (.iinc 1 1, 3) := by decide +kernel
theorem d_MM_cover_249 : decode b_MM_cover 249 = .ok (.goto (-31), 3) := by decide +kernel
theorem d_MM_cover_252 : decode b_MM_cover 252 = .ok (.return_, 1) := by decide +kernel
def lp_MM_cover_218 (Q : zS → Prop) : Nat → Int → zS → Prop
  | 0 => fun _ _ => False
  | n + 1 => fun v1 σ =>
    zc v1 ∧ zc (σ 118 0) ∧ ((σ 118 0 ≤ v1 →
      Q σ) ∧
     (¬ σ 118 0 ≤ v1 →
      0 ≤ v1 ∧ v1 < 4 ∧ 
      0 ≤ σ 119 v1 ∧ σ 119 v1 < 40 ∧ 
      wp_MM_connect (fun σ14 =>
        lp_MM_cover_218 Q n (v1 + 1) σ14) (192 + v1) (σ 102 (σ 119 v1)) σ))
def bk_MM_cover_188 (Q : zS → Prop) (J71 : Int → zS → Prop) (J138 : Int → Int → zS → Prop) (v1 : Int) (v2 : Int) (z0 : Int) (z1 : Int) (σ : zS) : Prop :=
  0 ≤ z1 ∧ z1 < 48 ∧ (z0 = 0 ∨ z0 = 1) ∧ ∀ σ48, σ48 = zup σ 131 z1 z0 →
  0 ≤ v2 ∧ v2 < 4 ∧ 
  wp_MM_connect (fun σ51 =>
    J138 v1 (v2 + 1) σ51) ((4 * v1) + v2) (σ48 133 v2) σ48
def bk_MM_cover_183 (Q : zS → Prop) (J71 : Int → zS → Prop) (J138 : Int → Int → zS → Prop) (v1 : Int) (v2 : Int) (z0 : Int) (σ : zS) : Prop :=
  bk_MM_cover_188 Q J71 J138 v1 v2 1 z0 σ
def lp_MM_cover_138 (Q : zS → Prop) (J71 : Int → zS → Prop) : Nat → Int → Int → zS → Prop
  | 0 => fun _ _ _ => False
  | n + 1 => fun v1 v2 σ =>
    zc v2 ∧ zc (σ 134 0) ∧ ((σ 134 0 ≤ v2 →
      J71 (v1 + (-1)) σ) ∧
     (¬ σ 134 0 ≤ v2 →
      0 ≤ v2 ∧ v2 < 4 ∧ 
      0 ≤ σ 133 v2 ∧ σ 133 v2 < 48 ∧ 
      zc (σ 131 (σ 133 v2)) ∧ ((σ 131 (σ 133 v2) = 0 →
        wp_MM_logic (fun r56 σ55 =>
          zc r56 ∧ ((r56 = 0 →
            bk_MM_cover_188 Q J71 (lp_MM_cover_138 Q J71 n) v1 v2 0 (σ 133 v2) σ55) ∧
           (¬ r56 = 0 →
            bk_MM_cover_183 Q J71 (lp_MM_cover_138 Q J71 n) v1 v2 (σ 133 v2) σ55))) (σ 133 v2) σ) ∧
       (¬ σ 131 (σ 133 v2) = 0 →
        bk_MM_cover_183 Q J71 (lp_MM_cover_138 Q J71 n) v1 v2 (σ 133 v2) σ))))
def bk_MM_cover_103 (Q : zS → Prop) (J71 : Int → zS → Prop) (v1 : Int) (z0 : Int) (z1 : Int) (σ : zS) : Prop :=
  0 ≤ z1 ∧ z1 < 48 ∧ (z0 = 0 ∨ z0 = 1) ∧ ∀ σ23, σ23 = zup σ 131 z1 z0 →
  0 ≤ v1 ∧ v1 < 48 ∧ 
  zc (σ23 131 v1) ∧ ((σ23 131 v1 = 0 →
    J71 (v1 + (-1)) σ23) ∧
   (¬ σ23 131 v1 = 0 →
    wp_MM_lay (fun r32 σ31 =>
      ∀ σ35, σ35 = zup σ31 128 v1 r32 →
      ∃ u138, lp_MM_cover_138 Q J71 u138 v1 0 σ35) v1 (σ23 129 v1) (σ23 130 v1) σ23))
def bk_MM_cover_98 (Q : zS → Prop) (J71 : Int → zS → Prop) (v1 : Int) (z0 : Int) (σ : zS) : Prop :=
  bk_MM_cover_103 Q J71 v1 1 z0 σ
def lp_MM_cover_71 (Q : zS → Prop) : Nat → Int → zS → Prop
  | 0 => fun _ _ => False
  | n + 1 => fun v1 σ =>
    zc v1 ∧ ((v1 < 0 →
      ∃ u218, lp_MM_cover_218 Q u218 0 σ) ∧
     (¬ v1 < 0 →
      0 ≤ v1 ∧ v1 < 48 ∧ 
      zc (σ 131 v1) ∧ ((σ 131 v1 = 0 →
        zc (σ 126 v1) ∧ ((σ 126 v1 = 0 →
          bk_MM_cover_103 Q (lp_MM_cover_71 Q n) v1 0 v1 σ) ∧
         (¬ σ 126 v1 = 0 →
          bk_MM_cover_98 Q (lp_MM_cover_71 Q n) v1 v1 σ))) ∧
       (¬ σ 131 v1 = 0 →
        bk_MM_cover_98 Q (lp_MM_cover_71 Q n) v1 v1 σ))))
def lp_MM_cover_44 (Q : zS → Prop) : Nat → Int → zS → Prop
  | 0 => fun _ _ => False
  | n + 1 => fun v1 σ =>
    zc v1 ∧ ((196 ≤ v1 →
      ∀ y6, y6 = (σ 113 0) - 1 →
      ∃ u71, lp_MM_cover_71 Q u71 y6 σ) ∧
     (¬ 196 ≤ v1 →
      0 ≤ v1 ∧ v1 < 196 ∧ ∀ σ65, σ65 = zup σ 135 v1 (-1) →
      lp_MM_cover_44 Q n (v1 + 1) σ65))
def lp_MM_cover_6 (Q : zS → Prop) : Nat → Int → zS → Prop
  | 0 => fun _ _ => False
  | n + 1 => fun v1 σ =>
    zc v1 ∧ zc (σ 113 0) ∧ ((σ 113 0 ≤ v1 →
      ∃ u44, lp_MM_cover_44 Q u44 0 σ) ∧
     (¬ σ 113 0 ≤ v1 →
      0 ≤ v1 ∧ v1 < 48 ∧ 
      zc (σ 125 v1) ∧ ((σ 125 v1 = 0 →
        lp_MM_cover_6 Q n (v1 + 1) σ) ∧
       (¬ σ 125 v1 = 0 →
        wp_MM_logic (fun r71 σ70 =>
          zc r71 ∧ ((r71 = 0 →
            lp_MM_cover_6 Q n (v1 + 1) σ70) ∧
           (¬ r71 = 0 →
            wp_MM_choose (fun σ73 =>
              lp_MM_cover_6 Q n (v1 + 1) σ73) v1 σ70))) v1 σ))))
def wp_MM_cover (Q : zS → Prop) (σ : zS) : Prop :=
  wp_MM_findRoots (fun σ1 =>
    ∃ u6, lp_MM_cover_6 Q u6 0 σ1) σ
set_option maxHeartbeats 4000000 in
set_option maxRecDepth 100000 in
theorem wk_MM_cover_218 {E : zE} {D : va_G} {g : zG} {A : Nat → Prop} {ad : zA} {Q : zS → Prop} (C : zX E b_MM_cover R_MM D g { frames := 3, cells := 0, slots := 0, locals := 77 } 3) (R : zRt E none (zQv D g ad Q A) 0 0 A) : ∀ (n : Nat) (v1 : Int) (σ : zS), lp_MM_cover_218 Q n v1 σ → zW E (zOK D A (zst E) g ad) 0 0 218 [(0, .ref (ad (0, 3))), (1, .int (zi v1))] [] σ := by
  intro n
  induction n with
  | zero =>
    intro v1 σ h
    exact h.elim
  | succ n ih =>
    intro v1 σ h
    refine z_iload_n C (pc := 218) d_MM_cover_218 1 rfl ?_
    refine z_aload_n C (pc := 219) d_MM_cover_219 0 rfl ?_
    refine m_getI C 18 118 rfl (by decide) rfl wd_722 (pc := 220) d_MM_cover_220 ?_
    obtain ⟨hc8, hc9, h⟩ := h
    refine z_icmp_ge (tgt := 252) C (pc := 223) d_MM_cover_223 (by decide) hc8 hc9 h (fun h => ?_) (fun h => ?_)
    · exact z_vret C R (pc := 252) d_MM_cover_252 h
    · refine z_aload_n C (pc := 226) d_MM_cover_226 0 rfl ?_
      refine z_sipush C (pc := 227) d_MM_cover_227 (by decide) ?_
      refine z_iload_n C (pc := 230) d_MM_cover_230 1 rfl ?_
      refine z_iadd C (pc := 231) d_MM_cover_231 ?_
      refine z_aload_n C (pc := 232) d_MM_cover_232 0 rfl ?_
      refine m_getA C 2 (by decide) rfl wd_706 (pc := 233) d_MM_cover_233 ?_
      refine z_aload_n C (pc := 236) d_MM_cover_236 0 rfl ?_
      refine m_getA C 19 (by decide) rfl wd_723 (pc := 237) d_MM_cover_237 ?_
      refine z_iload_n C (pc := 240) d_MM_cover_240 1 rfl ?_
      obtain ⟨hc10, hc11, h⟩ := h
      refine m_iald C 19 119 4 rfl rfl (by decide) hc10 hc11 (pc := 241) d_MM_cover_241 ?_
      obtain ⟨hc12, hc13, h⟩ := h
      refine m_iald C 2 102 40 rfl rfl (by decide) hc12 hc13 (pc := 242) d_MM_cover_242 ?_
      refine m_callv (As := [.int (zi (192 + v1)), .int (zi (σ 102 (σ 119 v1)))]) C fy_MM_connect rfl wd_990 (pc := 243) d_MM_cover_243 ⟨rfl, rfl, Nat.le_of_ble_eq_true rfl, Nat.le_of_ble_eq_true rfl⟩ rfl rfl (Nat.le_of_ble_eq_true rfl) h (c_MM_connect (zln E) D g ad _ _ _ _) (fun σ14 h => ?_)
      refine z_iinc (L' := [(1, .int (zi (v1 + 1))), (0, .ref (ad (0, 3)))]) C (pc := 246) d_MM_cover_246 1 rfl (by decide) rfl ?_
      refine z_goto (tgt := 218) C (pc := 249) d_MM_cover_249 (by decide) ?_
      refine z_sub [1, 0] rfl ?_
      exact ih _ _ h
set_option maxHeartbeats 4000000 in
set_option maxRecDepth 100000 in
theorem wk_MM_cover_188 {E : zE} {D : va_G} {g : zG} {A : Nat → Prop} {ad : zA} {Q : zS → Prop} {J71 : Int → zS → Prop} {J138 : Int → Int → zS → Prop} (C : zX E b_MM_cover R_MM D g { frames := 3, cells := 0, slots := 0, locals := 77 } 3) (R : zRt E none (zQv D g ad Q A) 0 0 A) (hJ71 : ∀ (v1 : Int) (σ : zS), J71 v1 σ → zW E (zOK D A (zst E) g ad) 0 0 71 [(0, .ref (ad (0, 3))), (1, .int (zi v1))] [] σ) (hJ138 : ∀ (v1 : Int) (v2 : Int) (σ : zS), J138 v1 v2 σ → zW E (zOK D A (zst E) g ad) 0 0 138 [(0, .ref (ad (0, 3))), (1, .int (zi v1)), (2, .int (zi v2))] [] σ) (v1 : Int) (v2 : Int) (z0 : Int) (z1 : Int) (σ : zS) (h : bk_MM_cover_188 Q J71 J138 v1 v2 z0 z1 σ) : zW E (zOK D A (zst E) g ad) 0 0 188 [(0, .ref (ad (0, 3))), (1, .int (zi v1)), (2, .int (zi v2))] [.int (zi z0), .int (zi z1), .ref (ad (7, 31))] σ := by
  unfold bk_MM_cover_188 at h
  obtain ⟨hc45, hc46, hc47, h⟩ := h
  refine m_zast C 31 131 48 rfl rfl (by decide) hc45 hc46 hc47 (pc := 188) d_MM_cover_188 ?_
  refine zN h (fun σ48 eσ48 h => ?_)
  refine z_aload_n C (pc := 189) d_MM_cover_189 0 rfl ?_
  refine z_iconst C (pc := 190) d_MM_cover_190 ?_
  refine z_iload_n C (pc := 191) d_MM_cover_191 1 rfl ?_
  refine z_imul C (pc := 192) d_MM_cover_192 ?_
  refine z_iload_n C (pc := 193) d_MM_cover_193 2 rfl ?_
  refine z_iadd C (pc := 194) d_MM_cover_194 ?_
  refine z_aload_n C (pc := 195) d_MM_cover_195 0 rfl ?_
  refine m_getA C 33 (by decide) rfl wd_737 (pc := 196) d_MM_cover_196 ?_
  refine z_iload_n C (pc := 199) d_MM_cover_199 2 rfl ?_
  obtain ⟨hc49, hc50, h⟩ := h
  refine m_iald C 33 133 4 rfl rfl (by decide) hc49 hc50 (pc := 200) d_MM_cover_200 ?_
  refine m_callv (As := [.int (zi ((4 * v1) + v2)), .int (zi (σ48 133 v2))]) C fy_MM_connect rfl wd_990 (pc := 201) d_MM_cover_201 ⟨rfl, rfl, Nat.le_of_ble_eq_true rfl, Nat.le_of_ble_eq_true rfl⟩ rfl rfl (Nat.le_of_ble_eq_true rfl) h (c_MM_connect (zln E) D g ad _ _ _ _) (fun σ51 h => ?_)
  refine z_iinc (L' := [(2, .int (zi (v2 + 1))), (0, .ref (ad (0, 3))), (1, .int (zi v1))]) C (pc := 204) d_MM_cover_204 2 rfl (by decide) rfl ?_
  refine z_goto (tgt := 138) C (pc := 207) d_MM_cover_207 (by decide) ?_
  refine z_sub [1, 2, 0] rfl ?_
  exact hJ138 _ _ _ h
set_option maxHeartbeats 4000000 in
set_option maxRecDepth 100000 in
theorem wk_MM_cover_183 {E : zE} {D : va_G} {g : zG} {A : Nat → Prop} {ad : zA} {Q : zS → Prop} {J71 : Int → zS → Prop} {J138 : Int → Int → zS → Prop} (C : zX E b_MM_cover R_MM D g { frames := 3, cells := 0, slots := 0, locals := 77 } 3) (R : zRt E none (zQv D g ad Q A) 0 0 A) (hJ71 : ∀ (v1 : Int) (σ : zS), J71 v1 σ → zW E (zOK D A (zst E) g ad) 0 0 71 [(0, .ref (ad (0, 3))), (1, .int (zi v1))] [] σ) (hJ138 : ∀ (v1 : Int) (v2 : Int) (σ : zS), J138 v1 v2 σ → zW E (zOK D A (zst E) g ad) 0 0 138 [(0, .ref (ad (0, 3))), (1, .int (zi v1)), (2, .int (zi v2))] [] σ) (v1 : Int) (v2 : Int) (z0 : Int) (σ : zS) (h : bk_MM_cover_183 Q J71 J138 v1 v2 z0 σ) : zW E (zOK D A (zst E) g ad) 0 0 183 [(0, .ref (ad (0, 3))), (1, .int (zi v1)), (2, .int (zi v2))] [.int (zi z0), .ref (ad (7, 31))] σ := by
  unfold bk_MM_cover_183 at h
  refine z_iconst C (pc := 183) d_MM_cover_183 ?_
  refine z_goto (tgt := 188) C (pc := 184) d_MM_cover_184 (by decide) ?_
  exact wk_MM_cover_188 C R hJ71 hJ138 _ _ _ _ _ h
set_option maxHeartbeats 4000000 in
set_option maxRecDepth 100000 in
theorem wk_MM_cover_138 {E : zE} {D : va_G} {g : zG} {A : Nat → Prop} {ad : zA} {Q : zS → Prop} {J71 : Int → zS → Prop} (C : zX E b_MM_cover R_MM D g { frames := 3, cells := 0, slots := 0, locals := 77 } 3) (R : zRt E none (zQv D g ad Q A) 0 0 A) (hJ71 : ∀ (v1 : Int) (σ : zS), J71 v1 σ → zW E (zOK D A (zst E) g ad) 0 0 71 [(0, .ref (ad (0, 3))), (1, .int (zi v1))] [] σ) : ∀ (n : Nat) (v1 : Int) (v2 : Int) (σ : zS), lp_MM_cover_138 Q J71 n v1 v2 σ → zW E (zOK D A (zst E) g ad) 0 0 138 [(0, .ref (ad (0, 3))), (1, .int (zi v1)), (2, .int (zi v2))] [] σ := by
  intro n
  induction n with
  | zero =>
    intro v1 v2 σ h
    exact h.elim
  | succ n ih =>
    intro v1 v2 σ h
    refine z_iload_n C (pc := 138) d_MM_cover_138 2 rfl ?_
    refine z_aload_n C (pc := 139) d_MM_cover_139 0 rfl ?_
    refine m_getI C 34 134 rfl (by decide) rfl wd_738 (pc := 140) d_MM_cover_140 ?_
    obtain ⟨hc36, hc37, h⟩ := h
    refine z_icmp_ge (tgt := 210) C (pc := 143) d_MM_cover_143 (by decide) hc36 hc37 h (fun h => ?_) (fun h => ?_)
    · refine z_iinc (L' := [(1, .int (zi (v1 + (-1)))), (0, .ref (ad (0, 3))), (2, .int (zi v2))]) C (pc := 210) d_MM_cover_210 1 rfl (by decide) rfl ?_
      refine z_goto (tgt := 71) C (pc := 213) d_MM_cover_213 (by decide) ?_
      refine z_sub [1, 0] rfl ?_
      exact hJ71 _ _ h
    · refine z_aload_n C (pc := 146) d_MM_cover_146 0 rfl ?_
      refine m_getA C 31 (by decide) rfl wd_735 (pc := 147) d_MM_cover_147 ?_
      refine z_aload_n C (pc := 150) d_MM_cover_150 0 rfl ?_
      refine m_getA C 33 (by decide) rfl wd_737 (pc := 151) d_MM_cover_151 ?_
      refine z_iload_n C (pc := 154) d_MM_cover_154 2 rfl ?_
      obtain ⟨hc38, hc39, h⟩ := h
      refine m_iald C 33 133 4 rfl rfl (by decide) hc38 hc39 (pc := 155) d_MM_cover_155 ?_
      refine z_aload_n C (pc := 156) d_MM_cover_156 0 rfl ?_
      refine m_getA C 31 (by decide) rfl wd_735 (pc := 157) d_MM_cover_157 ?_
      refine z_aload_n C (pc := 160) d_MM_cover_160 0 rfl ?_
      refine m_getA C 33 (by decide) rfl wd_737 (pc := 161) d_MM_cover_161 ?_
      refine z_iload_n C (pc := 164) d_MM_cover_164 2 rfl ?_
      refine m_iald C 33 133 4 rfl rfl (by decide) hc38 hc39 (pc := 165) d_MM_cover_165 ?_
      obtain ⟨hc42, hc43, h⟩ := h
      refine m_zald C 31 131 48 rfl rfl (by decide) hc42 hc43 (pc := 166) d_MM_cover_166 ?_
      obtain ⟨hc44, h⟩ := h
      refine z_if_ne (tgt := 183) C (pc := 167) d_MM_cover_167 (by decide) hc44 h (fun h => ?_) (fun h => ?_)
      · exact wk_MM_cover_183 C R hJ71 ih _ _ _ _ h
      · refine z_aload_n C (pc := 170) d_MM_cover_170 0 rfl ?_
        refine z_aload_n C (pc := 171) d_MM_cover_171 0 rfl ?_
        refine m_getA C 33 (by decide) rfl wd_737 (pc := 172) d_MM_cover_172 ?_
        refine z_iload_n C (pc := 175) d_MM_cover_175 2 rfl ?_
        refine m_iald C 33 133 4 rfl rfl (by decide) hc38 hc39 (pc := 176) d_MM_cover_176 ?_
        refine m_calli (As := [.int (zi (σ 133 v2))]) C fy_MM_logic rfl wd_973 (pc := 177) d_MM_cover_177 ⟨rfl, rfl, Nat.le_of_ble_eq_true rfl, Nat.le_of_ble_eq_true rfl⟩ rfl rfl (Nat.le_of_ble_eq_true rfl) h (c_MM_logic (zln E) D g ad _ _ _) (fun r56 σ55 h => ?_)
        obtain ⟨hc57, h⟩ := h
        refine z_if_eq (tgt := 187) C (pc := 180) d_MM_cover_180 (by decide) hc57 h (fun h => ?_) (fun h => ?_)
        · refine z_iconst C (pc := 187) d_MM_cover_187 ?_
          exact wk_MM_cover_188 C R hJ71 ih _ _ _ _ _ h
        · exact wk_MM_cover_183 C R hJ71 ih _ _ _ _ h
set_option maxHeartbeats 4000000 in
set_option maxRecDepth 100000 in
theorem wk_MM_cover_103 {E : zE} {D : va_G} {g : zG} {A : Nat → Prop} {ad : zA} {Q : zS → Prop} {J71 : Int → zS → Prop} (C : zX E b_MM_cover R_MM D g { frames := 3, cells := 0, slots := 0, locals := 77 } 3) (R : zRt E none (zQv D g ad Q A) 0 0 A) (hJ71 : ∀ (v1 : Int) (σ : zS), J71 v1 σ → zW E (zOK D A (zst E) g ad) 0 0 71 [(0, .ref (ad (0, 3))), (1, .int (zi v1))] [] σ) (v1 : Int) (z0 : Int) (z1 : Int) (σ : zS) (h : bk_MM_cover_103 Q J71 v1 z0 z1 σ) : zW E (zOK D A (zst E) g ad) 0 0 103 [(0, .ref (ad (0, 3))), (1, .int (zi v1))] [.int (zi z0), .int (zi z1), .ref (ad (7, 31))] σ := by
  unfold bk_MM_cover_103 at h
  obtain ⟨hc20, hc21, hc22, h⟩ := h
  refine m_zast C 31 131 48 rfl rfl (by decide) hc20 hc21 hc22 (pc := 103) d_MM_cover_103 ?_
  refine zN h (fun σ23 eσ23 h => ?_)
  refine z_aload_n C (pc := 104) d_MM_cover_104 0 rfl ?_
  refine m_getA C 31 (by decide) rfl wd_735 (pc := 105) d_MM_cover_105 ?_
  refine z_iload_n C (pc := 108) d_MM_cover_108 1 rfl ?_
  obtain ⟨hc24, hc25, h⟩ := h
  refine m_zald C 31 131 48 rfl rfl (by decide) hc24 hc25 (pc := 109) d_MM_cover_109 ?_
  obtain ⟨hc26, h⟩ := h
  refine z_if_eq (tgt := 210) C (pc := 110) d_MM_cover_110 (by decide) hc26 h (fun h => ?_) (fun h => ?_)
  · refine z_iinc (L' := [(1, .int (zi (v1 + (-1)))), (0, .ref (ad (0, 3)))]) C (pc := 210) d_MM_cover_210 1 rfl (by decide) rfl ?_
    refine z_goto (tgt := 71) C (pc := 213) d_MM_cover_213 (by decide) ?_
    refine z_sub [1, 0] rfl ?_
    exact hJ71 _ _ h
  · refine z_aload_n C (pc := 113) d_MM_cover_113 0 rfl ?_
    refine m_getA C 28 (by decide) rfl wd_732 (pc := 114) d_MM_cover_114 ?_
    refine z_iload_n C (pc := 117) d_MM_cover_117 1 rfl ?_
    refine z_aload_n C (pc := 118) d_MM_cover_118 0 rfl ?_
    refine z_iload_n C (pc := 119) d_MM_cover_119 1 rfl ?_
    refine z_aload_n C (pc := 120) d_MM_cover_120 0 rfl ?_
    refine m_getA C 29 (by decide) rfl wd_733 (pc := 121) d_MM_cover_121 ?_
    refine z_iload_n C (pc := 124) d_MM_cover_124 1 rfl ?_
    refine m_iald C 29 129 48 rfl rfl (by decide) hc24 hc25 (pc := 125) d_MM_cover_125 ?_
    refine z_aload_n C (pc := 126) d_MM_cover_126 0 rfl ?_
    refine m_getA C 30 (by decide) rfl wd_734 (pc := 127) d_MM_cover_127 ?_
    refine z_iload_n C (pc := 130) d_MM_cover_130 1 rfl ?_
    refine m_iald C 30 130 48 rfl rfl (by decide) hc24 hc25 (pc := 131) d_MM_cover_131 ?_
    refine m_calli (As := [.int (zi v1), .int (zi (σ23 129 v1)), .int (zi (σ23 130 v1))]) C fy_MM_lay rfl wd_986 (pc := 132) d_MM_cover_132 ⟨rfl, rfl, Nat.le_of_ble_eq_true rfl, Nat.le_of_ble_eq_true rfl⟩ rfl rfl (Nat.le_of_ble_eq_true rfl) h (c_MM_lay (zln E) D g ad _ _ _ _ _) (fun r32 σ31 h => ?_)
    refine m_iast C 28 128 48 rfl rfl (by decide) hc24 hc25 (pc := 135) d_MM_cover_135 ?_
    refine zN h (fun σ35 eσ35 h => ?_)
    refine z_iconst C (pc := 136) d_MM_cover_136 ?_
    refine z_istore_n (L' := [(2, .int (zi 0)), (0, .ref (ad (0, 3))), (1, .int (zi v1))]) C (pc := 137) d_MM_cover_137 (by decide) rfl ?_
    refine z_sub [1, 2, 0] rfl ?_
    obtain ⟨n58, h⟩ := h
    exact wk_MM_cover_138 C R hJ71 n58 _ _ _ h
set_option maxHeartbeats 4000000 in
set_option maxRecDepth 100000 in
theorem wk_MM_cover_98 {E : zE} {D : va_G} {g : zG} {A : Nat → Prop} {ad : zA} {Q : zS → Prop} {J71 : Int → zS → Prop} (C : zX E b_MM_cover R_MM D g { frames := 3, cells := 0, slots := 0, locals := 77 } 3) (R : zRt E none (zQv D g ad Q A) 0 0 A) (hJ71 : ∀ (v1 : Int) (σ : zS), J71 v1 σ → zW E (zOK D A (zst E) g ad) 0 0 71 [(0, .ref (ad (0, 3))), (1, .int (zi v1))] [] σ) (v1 : Int) (z0 : Int) (σ : zS) (h : bk_MM_cover_98 Q J71 v1 z0 σ) : zW E (zOK D A (zst E) g ad) 0 0 98 [(0, .ref (ad (0, 3))), (1, .int (zi v1))] [.int (zi z0), .ref (ad (7, 31))] σ := by
  unfold bk_MM_cover_98 at h
  refine z_iconst C (pc := 98) d_MM_cover_98 ?_
  refine z_goto (tgt := 103) C (pc := 99) d_MM_cover_99 (by decide) ?_
  exact wk_MM_cover_103 C R hJ71 _ _ _ _ h
set_option maxHeartbeats 4000000 in
set_option maxRecDepth 100000 in
theorem wk_MM_cover_71 {E : zE} {D : va_G} {g : zG} {A : Nat → Prop} {ad : zA} {Q : zS → Prop} (C : zX E b_MM_cover R_MM D g { frames := 3, cells := 0, slots := 0, locals := 77 } 3) (R : zRt E none (zQv D g ad Q A) 0 0 A) : ∀ (n : Nat) (v1 : Int) (σ : zS), lp_MM_cover_71 Q n v1 σ → zW E (zOK D A (zst E) g ad) 0 0 71 [(0, .ref (ad (0, 3))), (1, .int (zi v1))] [] σ := by
  intro n
  induction n with
  | zero =>
    intro v1 σ h
    exact h.elim
  | succ n ih =>
    intro v1 σ h
    refine z_iload_n C (pc := 71) d_MM_cover_71 1 rfl ?_
    obtain ⟨hc7, h⟩ := h
    refine z_if_lt (tgt := 216) C (pc := 72) d_MM_cover_72 (by decide) hc7 h (fun h => ?_) (fun h => ?_)
    · refine z_iconst C (pc := 216) d_MM_cover_216 ?_
      refine z_istore_n (L' := [(1, .int (zi 0)), (0, .ref (ad (0, 3)))]) C (pc := 217) d_MM_cover_217 (by decide) rfl ?_
      refine z_sub [1, 0] rfl ?_
      obtain ⟨n16, h⟩ := h
      exact wk_MM_cover_218 C R n16 _ _ h
    · refine z_aload_n C (pc := 75) d_MM_cover_75 0 rfl ?_
      refine m_getA C 31 (by decide) rfl wd_735 (pc := 76) d_MM_cover_76 ?_
      refine z_iload_n C (pc := 79) d_MM_cover_79 1 rfl ?_
      refine z_aload_n C (pc := 80) d_MM_cover_80 0 rfl ?_
      refine m_getA C 31 (by decide) rfl wd_735 (pc := 81) d_MM_cover_81 ?_
      refine z_iload_n C (pc := 84) d_MM_cover_84 1 rfl ?_
      obtain ⟨hc17, hc18, h⟩ := h
      refine m_zald C 31 131 48 rfl rfl (by decide) hc17 hc18 (pc := 85) d_MM_cover_85 ?_
      obtain ⟨hc19, h⟩ := h
      refine z_if_ne (tgt := 98) C (pc := 86) d_MM_cover_86 (by decide) hc19 h (fun h => ?_) (fun h => ?_)
      · exact wk_MM_cover_98 C R ih _ _ _ h
      · refine z_aload_n C (pc := 89) d_MM_cover_89 0 rfl ?_
        refine m_getA C 26 (by decide) rfl wd_730 (pc := 90) d_MM_cover_90 ?_
        refine z_iload_n C (pc := 93) d_MM_cover_93 1 rfl ?_
        refine m_zald C 26 126 48 rfl rfl (by decide) hc17 hc18 (pc := 94) d_MM_cover_94 ?_
        obtain ⟨hc61, h⟩ := h
        refine z_if_eq (tgt := 102) C (pc := 95) d_MM_cover_95 (by decide) hc61 h (fun h => ?_) (fun h => ?_)
        · refine z_iconst C (pc := 102) d_MM_cover_102 ?_
          exact wk_MM_cover_103 C R ih _ _ _ _ h
        · exact wk_MM_cover_98 C R ih _ _ _ h
set_option maxHeartbeats 4000000 in
set_option maxRecDepth 100000 in
theorem wk_MM_cover_44 {E : zE} {D : va_G} {g : zG} {A : Nat → Prop} {ad : zA} {Q : zS → Prop} (C : zX E b_MM_cover R_MM D g { frames := 3, cells := 0, slots := 0, locals := 77 } 3) (R : zRt E none (zQv D g ad Q A) 0 0 A) : ∀ (n : Nat) (v1 : Int) (σ : zS), lp_MM_cover_44 Q n v1 σ → zW E (zOK D A (zst E) g ad) 0 0 44 [(0, .ref (ad (0, 3))), (1, .int (zi v1))] [] σ := by
  intro n
  induction n with
  | zero =>
    intro v1 σ h
    exact h.elim
  | succ n ih =>
    intro v1 σ h
    refine z_iload_n C (pc := 44) d_MM_cover_44 1 rfl ?_
    refine z_sipush C (pc := 45) d_MM_cover_45 (by decide) ?_
    obtain ⟨hc5, h⟩ := h
    refine z_icmp_ge (tgt := 64) C (pc := 48) d_MM_cover_48 (by decide) hc5 (by decide) h (fun h => ?_) (fun h => ?_)
    · refine z_aload_n C (pc := 64) d_MM_cover_64 0 rfl ?_
      refine m_getI C 13 113 rfl (by decide) rfl wd_717 (pc := 65) d_MM_cover_65 ?_
      refine z_iconst C (pc := 68) d_MM_cover_68 ?_
      refine z_isub C (pc := 69) d_MM_cover_69 ?_
      refine zNi h (fun y6 ey6 h => ?_)
      refine z_istore_n (L' := [(1, .int (zi y6)), (0, .ref (ad (0, 3)))]) C (pc := 70) d_MM_cover_70 (by decide) rfl ?_
      refine z_sub [1, 0] rfl ?_
      obtain ⟨n62, h⟩ := h
      exact wk_MM_cover_71 C R n62 _ _ h
    · refine z_aload_n C (pc := 51) d_MM_cover_51 0 rfl ?_
      refine m_getA C 35 (by decide) rfl wd_739 (pc := 52) d_MM_cover_52 ?_
      refine z_iload_n C (pc := 55) d_MM_cover_55 1 rfl ?_
      refine z_iconst C (pc := 56) d_MM_cover_56 ?_
      obtain ⟨hc63, hc64, h⟩ := h
      refine m_iast C 35 135 196 rfl rfl (by decide) hc63 hc64 (pc := 57) d_MM_cover_57 ?_
      refine zN h (fun σ65 eσ65 h => ?_)
      refine z_iinc (L' := [(1, .int (zi (v1 + 1))), (0, .ref (ad (0, 3)))]) C (pc := 58) d_MM_cover_58 1 rfl (by decide) rfl ?_
      refine z_goto (tgt := 44) C (pc := 61) d_MM_cover_61 (by decide) ?_
      refine z_sub [1, 0] rfl ?_
      exact ih _ _ h
set_option maxHeartbeats 4000000 in
set_option maxRecDepth 100000 in
theorem wk_MM_cover_6 {E : zE} {D : va_G} {g : zG} {A : Nat → Prop} {ad : zA} {Q : zS → Prop} (C : zX E b_MM_cover R_MM D g { frames := 3, cells := 0, slots := 0, locals := 77 } 3) (R : zRt E none (zQv D g ad Q A) 0 0 A) : ∀ (n : Nat) (v1 : Int) (σ : zS), lp_MM_cover_6 Q n v1 σ → zW E (zOK D A (zst E) g ad) 0 0 6 [(0, .ref (ad (0, 3))), (1, .int (zi v1))] [] σ := by
  intro n
  induction n with
  | zero =>
    intro v1 σ h
    exact h.elim
  | succ n ih =>
    intro v1 σ h
    refine z_iload_n C (pc := 6) d_MM_cover_6 1 rfl ?_
    refine z_aload_n C (pc := 7) d_MM_cover_7 0 rfl ?_
    refine m_getI C 13 113 rfl (by decide) rfl wd_717 (pc := 8) d_MM_cover_8 ?_
    obtain ⟨hc3, hc4, h⟩ := h
    refine z_icmp_ge (tgt := 42) C (pc := 11) d_MM_cover_11 (by decide) hc3 hc4 h (fun h => ?_) (fun h => ?_)
    · refine z_iconst C (pc := 42) d_MM_cover_42 ?_
      refine z_istore_n (L' := [(1, .int (zi 0)), (0, .ref (ad (0, 3)))]) C (pc := 43) d_MM_cover_43 (by decide) rfl ?_
      refine z_sub [1, 0] rfl ?_
      obtain ⟨n66, h⟩ := h
      exact wk_MM_cover_44 C R n66 _ _ h
    · refine z_aload_n C (pc := 14) d_MM_cover_14 0 rfl ?_
      refine m_getA C 25 (by decide) rfl wd_729 (pc := 15) d_MM_cover_15 ?_
      refine z_iload_n C (pc := 18) d_MM_cover_18 1 rfl ?_
      obtain ⟨hc67, hc68, h⟩ := h
      refine m_zald C 25 125 48 rfl rfl (by decide) hc67 hc68 (pc := 19) d_MM_cover_19 ?_
      obtain ⟨hc69, h⟩ := h
      refine z_if_eq (tgt := 36) C (pc := 20) d_MM_cover_20 (by decide) hc69 h (fun h => ?_) (fun h => ?_)
      · refine z_iinc (L' := [(1, .int (zi (v1 + 1))), (0, .ref (ad (0, 3)))]) C (pc := 36) d_MM_cover_36 1 rfl (by decide) rfl ?_
        refine z_goto (tgt := 6) C (pc := 39) d_MM_cover_39 (by decide) ?_
        refine z_sub [1, 0] rfl ?_
        exact ih _ _ h
      · refine z_aload_n C (pc := 23) d_MM_cover_23 0 rfl ?_
        refine z_iload_n C (pc := 24) d_MM_cover_24 1 rfl ?_
        refine m_calli (As := [.int (zi v1)]) C fy_MM_logic rfl wd_973 (pc := 25) d_MM_cover_25 ⟨rfl, rfl, Nat.le_of_ble_eq_true rfl, Nat.le_of_ble_eq_true rfl⟩ rfl rfl (Nat.le_of_ble_eq_true rfl) h (c_MM_logic (zln E) D g ad _ _ _) (fun r71 σ70 h => ?_)
        obtain ⟨hc72, h⟩ := h
        refine z_if_eq (tgt := 36) C (pc := 28) d_MM_cover_28 (by decide) hc72 h (fun h => ?_) (fun h => ?_)
        · refine z_iinc (L' := [(1, .int (zi (v1 + 1))), (0, .ref (ad (0, 3)))]) C (pc := 36) d_MM_cover_36 1 rfl (by decide) rfl ?_
          refine z_goto (tgt := 6) C (pc := 39) d_MM_cover_39 (by decide) ?_
          refine z_sub [1, 0] rfl ?_
          exact ih _ _ h
        · refine z_aload_n C (pc := 31) d_MM_cover_31 0 rfl ?_
          refine z_iload_n C (pc := 32) d_MM_cover_32 1 rfl ?_
          refine m_callv (As := [.int (zi v1)]) C fy_MM_choose rfl wd_977 (pc := 33) d_MM_cover_33 ⟨rfl, rfl, Nat.le_of_ble_eq_true rfl, Nat.le_of_ble_eq_true rfl⟩ rfl rfl (Nat.le_of_ble_eq_true rfl) h (c_MM_choose (zln E) D g ad _ _ _) (fun σ73 h => ?_)
          refine z_iinc (L' := [(1, .int (zi (v1 + 1))), (0, .ref (ad (0, 3)))]) C (pc := 36) d_MM_cover_36 1 rfl (by decide) rfl ?_
          refine z_goto (tgt := 6) C (pc := 39) d_MM_cover_39 (by decide) ?_
          refine z_sub [1, 0] rfl ?_
          exact ih _ _ h
set_option maxHeartbeats 4000000 in
set_option maxRecDepth 100000 in
theorem c_MM_cover (l : Launch) (D : va_G) (g : zG) (ad : zA) (Q : zS → Prop) (σ : zS) (h : wp_MM_cover Q σ) : zMv l y_MM_cover b_MM_cover 3 none { frames := 3, cells := 0, slots := 0, locals := 77 } D g ad σ [.ref (ad (0, 3))] Q := by
  unfold wp_MM_cover at h
  refine zM_of (by decide) (Nat.le_of_ble_eq_true rfl) (fun E C R hl => ?_)
  have C : zX E b_MM_cover R_MM D g { frames := 3, cells := 0, slots := 0, locals := 77 } 3 := C
  refine z_sub (L' := [(0, .ref (ad (0, 3)))]) [0] rfl ?_
  refine z_aload_n C (pc := 0) d_MM_cover_0 0 rfl ?_
  refine m_callv (As := []) C fy_MM_findRoots rfl wd_965 (pc := 1) d_MM_cover_1 ⟨rfl, rfl, Nat.le_of_ble_eq_true rfl, Nat.le_of_ble_eq_true rfl⟩ rfl rfl (Nat.le_of_ble_eq_true rfl) h (c_MM_findRoots (zln E) D g ad _ _) (fun σ1 h => ?_)
  refine z_iconst C (pc := 4) d_MM_cover_4 ?_
  refine z_istore_n (L' := [(1, .int (zi 0)), (0, .ref (ad (0, 3)))]) C (pc := 5) d_MM_cover_5 (by decide) rfl ?_
  refine z_sub [1, 0] rfl ?_
  obtain ⟨n75, h⟩ := h
  exact wk_MM_cover_6 C R n75 _ _ h
theorem d_MM_delay_0 : decode b_MM_delay 0 = .ok (.aload_n 0, 1) := by decide +kernel
theorem d_MM_delay_1 : decode b_MM_delay 1 = .ok (.getfield 61, 3) := by decide +kernel
theorem d_MM_delay_4 : decode b_MM_delay 4 = .ok (.aload_n 0, 1) := by decide +kernel
theorem d_MM_delay_5 : decode b_MM_delay 5 = .ok (.getfield 77, 3) := by decide +kernel
theorem d_MM_delay_8 : decode b_MM_delay 8 = .ok (.iload_n 1, 1) := by decide +kernel
theorem d_MM_delay_9 : decode b_MM_delay 9 = .ok (.iaload, 1) := by decide +kernel
theorem d_MM_delay_10 : decode b_MM_delay 10 = .ok (.iaload, 1) := by decide +kernel
theorem d_MM_delay_11 : decode b_MM_delay 11 = .ok (.ireturn, 1) := by decide +kernel
def wp_MM_delay (Q : Int → zS → Prop) (v1 : Int) (σ : zS) : Prop :=
  0 ≤ v1 ∧ v1 < 48 ∧ 
  0 ≤ σ 129 v1 ∧ σ 129 v1 < 8 ∧ 
  Q (σ 123 (σ 129 v1)) σ
set_option maxHeartbeats 4000000 in
set_option maxRecDepth 100000 in
theorem c_MM_delay (l : Launch) (D : va_G) (g : zG) (ad : zA) (v1 : Int) (Q : Int → zS → Prop) (σ : zS) (h : wp_MM_delay Q v1 σ) : zMi l y_MM_delay b_MM_delay 2 (some .int) { frames := 0, cells := 0, slots := 0, locals := 0 } D g ad σ [.ref (ad (0, 3)), .int (zi v1)] Q := by
  unfold wp_MM_delay at h
  refine zM_of (by decide) (Nat.le_of_ble_eq_true rfl) (fun E C R hl => ?_)
  have C : zX E b_MM_delay R_MM D g { frames := 0, cells := 0, slots := 0, locals := 0 } 2 := C
  refine z_sub (L' := [(0, .ref (ad (0, 3))), (1, .int (zi v1))]) [0, 1] rfl ?_
  refine z_aload_n C (pc := 0) d_MM_delay_0 0 rfl ?_
  refine m_getA C 23 (by decide) rfl wd_727 (pc := 1) d_MM_delay_1 ?_
  refine z_aload_n C (pc := 4) d_MM_delay_4 0 rfl ?_
  refine m_getA C 29 (by decide) rfl wd_733 (pc := 5) d_MM_delay_5 ?_
  refine z_iload_n C (pc := 8) d_MM_delay_8 1 rfl ?_
  obtain ⟨hc1, hc2, h⟩ := h
  refine m_iald C 29 129 48 rfl rfl (by decide) hc1 hc2 (pc := 9) d_MM_delay_9 ?_
  obtain ⟨hc3, hc4, h⟩ := h
  refine m_iald C 23 123 8 rfl rfl (by decide) hc3 hc4 (pc := 10) d_MM_delay_10 ?_
  exact z_iret C R (pc := 11) d_MM_delay_11 h
theorem d_MM_shorter_0 : decode b_MM_shorter 0 = .ok (.iload_n 2, 1) := by decide +kernel
theorem d_MM_shorter_1 : decode b_MM_shorter 1 = .ok (.aload_n 0, 1) := by decide +kernel
theorem d_MM_shorter_2 : decode b_MM_shorter 2 = .ok (.getfield 111, 3) := by decide +kernel
theorem d_MM_shorter_5 : decode b_MM_shorter 5 = .ok (.iload_n 1, 1) := by decide +kernel
theorem d_MM_shorter_6 : decode b_MM_shorter 6 = .ok (.iaload, 1) := by decide +kernel
theorem d_MM_shorter_7 : decode b_MM_shorter 7 = .ok (.if_icmp .lt 23, 3) := by decide +kernel
theorem d_MM_shorter_10 : decode b_MM_shorter 10 = .ok (.iload_n 2, 1) := by decide +kernel
theorem d_MM_shorter_11 : decode b_MM_shorter 11 = .ok (.aload_n 0, 1) := by decide +kernel
theorem d_MM_shorter_12 : decode b_MM_shorter 12 = .ok (.getfield 111, 3) := by decide +kernel
theorem d_MM_shorter_15 : decode b_MM_shorter 15 = .ok (.iload_n 1, 1) := by decide +kernel
theorem d_MM_shorter_16 : decode b_MM_shorter 16 = .ok (.iaload, 1) := by decide +kernel
theorem d_MM_shorter_17 : decode b_MM_shorter 17 = .ok (.if_icmp .ne 27, 3) := by decide +kernel
theorem d_MM_shorter_20 : decode b_MM_shorter 20 = .ok (.iload_n 3, 1) := by decide +kernel
theorem d_MM_shorter_21 : decode b_MM_shorter 21 = .ok (.aload_n 0, 1) := by decide +kernel
theorem d_MM_shorter_22 : decode b_MM_shorter 22 = .ok (.getfield 114, 3) := by decide +kernel
theorem d_MM_shorter_25 : decode b_MM_shorter 25 = .ok (.iload_n 1, 1) := by decide +kernel
theorem d_MM_shorter_26 : decode b_MM_shorter 26 = .ok (.iaload, 1) := by decide +kernel
theorem d_MM_shorter_27 : decode b_MM_shorter 27 = .ok (.if_icmp .le 17, 3) := by decide +kernel
theorem d_MM_shorter_30 : decode b_MM_shorter 30 = .ok (.aload_n 0, 1) := by decide +kernel
theorem d_MM_shorter_31 : decode b_MM_shorter 31 = .ok (.getfield 111, 3) := by decide +kernel
theorem d_MM_shorter_34 : decode b_MM_shorter 34 = .ok (.iload_n 1, 1) := by decide +kernel
theorem d_MM_shorter_35 : decode b_MM_shorter 35 = .ok (.iload_n 2, 1) := by decide +kernel
theorem d_MM_shorter_36 : decode b_MM_shorter 36 = .ok (.iastore, 1) := by decide +kernel
theorem d_MM_shorter_37 : decode b_MM_shorter 37 = .ok (.aload_n 0, 1) := by decide +kernel
theorem d_MM_shorter_38 : decode b_MM_shorter 38 = .ok (.getfield 114, 3) := by decide +kernel
theorem d_MM_shorter_41 : decode b_MM_shorter 41 = .ok (.iload_n 1, 1) := by decide +kernel
theorem d_MM_shorter_42 : decode b_MM_shorter 42 = .ok (.iload_n 3, 1) := by decide +kernel
theorem d_MM_shorter_43 : decode b_MM_shorter 43 = .ok (.iastore, 1) := by decide +kernel
theorem d_MM_shorter_44 : decode b_MM_shorter 44 = .ok (.return_, 1) := by decide +kernel
def bk_MM_shorter_30 (Q : zS → Prop) (v1 : Int) (v2 : Int) (v3 : Int) (σ : zS) : Prop :=
  0 ≤ v1 ∧ v1 < 2304 ∧ ∀ σ7, σ7 = zup σ 141 v1 v2 →
  ∀ σ10, σ10 = zup σ7 142 v1 v3 →
  Q σ10
def wp_MM_shorter (Q : zS → Prop) (v1 : Int) (v2 : Int) (v3 : Int) (σ : zS) : Prop :=
  0 ≤ v1 ∧ v1 < 2304 ∧ 
  zc v2 ∧ zc (σ 141 v1) ∧ ((v2 < σ 141 v1 →
    bk_MM_shorter_30 Q v1 v2 v3 σ) ∧
   (¬ v2 < σ 141 v1 →
    ((v2 = σ 141 v1 →
      zc v3 ∧ zc (σ 142 v1) ∧ ((v3 ≤ σ 142 v1 →
        Q σ) ∧
       (¬ v3 ≤ σ 142 v1 →
        bk_MM_shorter_30 Q v1 v2 v3 σ))) ∧
     (¬ v2 = σ 141 v1 →
      Q σ))))
set_option maxHeartbeats 4000000 in
set_option maxRecDepth 100000 in
theorem wk_MM_shorter_30 {E : zE} {D : va_G} {g : zG} {A : Nat → Prop} {ad : zA} {Q : zS → Prop} (C : zX E b_MM_shorter R_MM D g { frames := 0, cells := 0, slots := 0, locals := 0 } 4) (R : zRt E none (zQv D g ad Q A) 0 0 A) (v1 : Int) (v2 : Int) (v3 : Int) (σ : zS) (h : bk_MM_shorter_30 Q v1 v2 v3 σ) : zW E (zOK D A (zst E) g ad) 0 0 30 [(0, .ref (ad (0, 3))), (1, .int (zi v1)), (2, .int (zi v2)), (3, .int (zi v3))] [] σ := by
  unfold bk_MM_shorter_30 at h
  refine z_aload_n C (pc := 30) d_MM_shorter_30 0 rfl ?_
  refine m_getA C 41 (by decide) rfl wd_745 (pc := 31) d_MM_shorter_31 ?_
  refine z_iload_n C (pc := 34) d_MM_shorter_34 1 rfl ?_
  refine z_iload_n C (pc := 35) d_MM_shorter_35 2 rfl ?_
  obtain ⟨hc5, hc6, h⟩ := h
  refine m_iast C 41 141 2304 rfl rfl (by decide) hc5 hc6 (pc := 36) d_MM_shorter_36 ?_
  refine zN h (fun σ7 eσ7 h => ?_)
  refine z_aload_n C (pc := 37) d_MM_shorter_37 0 rfl ?_
  refine m_getA C 42 (by decide) rfl wd_746 (pc := 38) d_MM_shorter_38 ?_
  refine z_iload_n C (pc := 41) d_MM_shorter_41 1 rfl ?_
  refine z_iload_n C (pc := 42) d_MM_shorter_42 3 rfl ?_
  refine m_iast C 42 142 2304 rfl rfl (by decide) hc5 hc6 (pc := 43) d_MM_shorter_43 ?_
  refine zN h (fun σ10 eσ10 h => ?_)
  exact z_vret C R (pc := 44) d_MM_shorter_44 h
set_option maxHeartbeats 4000000 in
set_option maxRecDepth 100000 in
theorem c_MM_shorter (l : Launch) (D : va_G) (g : zG) (ad : zA) (v1 : Int) (v2 : Int) (v3 : Int) (Q : zS → Prop) (σ : zS) (h : wp_MM_shorter Q v1 v2 v3 σ) : zMv l y_MM_shorter b_MM_shorter 4 none { frames := 0, cells := 0, slots := 0, locals := 0 } D g ad σ [.ref (ad (0, 3)), .int (zi v1), .int (zi v2), .int (zi v3)] Q := by
  unfold wp_MM_shorter at h
  refine zM_of (by decide) (Nat.le_of_ble_eq_true rfl) (fun E C R hl => ?_)
  have C : zX E b_MM_shorter R_MM D g { frames := 0, cells := 0, slots := 0, locals := 0 } 4 := C
  refine z_sub (L' := [(0, .ref (ad (0, 3))), (1, .int (zi v1)), (2, .int (zi v2)), (3, .int (zi v3))]) [0, 1, 2, 3] rfl ?_
  refine z_iload_n C (pc := 0) d_MM_shorter_0 2 rfl ?_
  refine z_aload_n C (pc := 1) d_MM_shorter_1 0 rfl ?_
  refine m_getA C 41 (by decide) rfl wd_745 (pc := 2) d_MM_shorter_2 ?_
  refine z_iload_n C (pc := 5) d_MM_shorter_5 1 rfl ?_
  obtain ⟨hc1, hc2, h⟩ := h
  refine m_iald C 41 141 2304 rfl rfl (by decide) hc1 hc2 (pc := 6) d_MM_shorter_6 ?_
  obtain ⟨hc3, hc4, h⟩ := h
  refine z_icmp_lt (tgt := 30) C (pc := 7) d_MM_shorter_7 (by decide) hc3 hc4 h (fun h => ?_) (fun h => ?_)
  · exact wk_MM_shorter_30 C R _ _ _ _ h
  · refine z_iload_n C (pc := 10) d_MM_shorter_10 2 rfl ?_
    refine z_aload_n C (pc := 11) d_MM_shorter_11 0 rfl ?_
    refine m_getA C 41 (by decide) rfl wd_745 (pc := 12) d_MM_shorter_12 ?_
    refine z_iload_n C (pc := 15) d_MM_shorter_15 1 rfl ?_
    refine m_iald C 41 141 2304 rfl rfl (by decide) hc1 hc2 (pc := 16) d_MM_shorter_16 ?_
    refine z_icmp_ne (tgt := 44) C (pc := 17) d_MM_shorter_17 (by decide) hc3 hc4 h (fun h => ?_) (fun h => ?_)
    · exact z_vret C R (pc := 44) d_MM_shorter_44 h
    · refine z_iload_n C (pc := 20) d_MM_shorter_20 3 rfl ?_
      refine z_aload_n C (pc := 21) d_MM_shorter_21 0 rfl ?_
      refine m_getA C 42 (by decide) rfl wd_746 (pc := 22) d_MM_shorter_22 ?_
      refine z_iload_n C (pc := 25) d_MM_shorter_25 1 rfl ?_
      refine m_iald C 42 142 2304 rfl rfl (by decide) hc1 hc2 (pc := 26) d_MM_shorter_26 ?_
      obtain ⟨hc15, hc16, h⟩ := h
      refine z_icmp_le (tgt := 44) C (pc := 27) d_MM_shorter_27 (by decide) hc15 hc16 h (fun h => ?_) (fun h => ?_)
      · exact z_vret C R (pc := 44) d_MM_shorter_44 h
      · exact wk_MM_shorter_30 C R _ _ _ _ h
