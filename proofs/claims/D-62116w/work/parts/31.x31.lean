theorem d_CX_shortest_0 : decode b_CX_shortest 0 = .ok (.aload_n 0, 1) := by decide +kernel
theorem d_CX_shortest_1 : decode b_CX_shortest 1 = .ok (.getfield 109, 3) := by decide +kernel
theorem d_CX_shortest_4 : decode b_CX_shortest 4 = .ok (.ifCond .eq 10, 3) := by decide +kernel
theorem d_CX_shortest_7 : decode b_CX_shortest 7 = .ok (.aload_n 0, 1) := by decide +kernel
theorem d_CX_shortest_8 : decode b_CX_shortest 8 = .ok (.getfield 289, 3) := by decide +kernel
theorem d_CX_shortest_11 : decode b_CX_shortest 11 = .ok (.goto 5, 3) := by decide +kernel
theorem d_CX_shortest_14 : decode b_CX_shortest 14 = .ok (.bipush (-6), 2) := by decide +kernel
theorem d_CX_shortest_16 : decode b_CX_shortest 16 = .ok (.ireturn, 1) := by decide +kernel
def wp_CX_shortest (Q : Int → zS → Prop) (σ : zS) : Prop :=
  zc (σ 56 0) ∧ ((σ 56 0 = 0 →
    Q (-6) σ) ∧
   (¬ σ 56 0 = 0 →
    Q (σ 60 0) σ))
set_option maxHeartbeats 4000000 in
set_option maxRecDepth 100000 in
theorem c_CX_shortest (l : Launch) (D : va_G) (g : zG) (ad : zA) (Q : Int → zS → Prop) (σ : zS) (h : wp_CX_shortest Q σ) : zGi l y_CX_shortest b_CX_shortest 1 (some .int) { frames := 0, cells := 0, slots := 0, locals := 0 } D g ad σ [.ref (ad (0, 0))] Q := by
  unfold wp_CX_shortest at h
  refine zN_of (by decide) (Nat.le_of_ble_eq_true rfl) (fun E C R S => ?_)
  have C : zX E b_CX_shortest R_CX D g { frames := 0, cells := 0, slots := 0, locals := 0 } 1 := C
  refine z_sub (L' := [(0, .ref (ad (0, 0)))]) [0] rfl ?_
  refine z_aload_n C (pc := 0) d_CX_shortest_0 0 rfl ?_
  refine x_getX (v := .int (zi (σ 56 0))) C 8 (by decide) rfl wd_93 (pc := 1) d_CX_shortest_1 ?_
  obtain ⟨hc1, h⟩ := h
  refine z_if_eq (tgt := 14) C (pc := 4) d_CX_shortest_4 (by decide) hc1 h (fun h => ?_) (fun h => ?_)
  · refine z_bipush C (pc := 14) d_CX_shortest_14 (by decide) ?_
    exact z_iret C R (pc := 16) d_CX_shortest_16 h
  · refine z_aload_n C (pc := 7) d_CX_shortest_7 0 rfl ?_
    refine x_getX (v := .int (zi (σ 60 0))) C 17 (by decide) rfl wd_102 (pc := 8) d_CX_shortest_8 ?_
    refine z_goto (tgt := 16) C (pc := 11) d_CX_shortest_11 (by decide) ?_
    exact z_iret C R (pc := 16) d_CX_shortest_16 h
theorem d_CX_moves_0 : decode b_CX_moves 0 = .ok (.aload_n 0, 1) := by decide +kernel
theorem d_CX_moves_1 : decode b_CX_moves 1 = .ok (.getfield 109, 3) := by decide +kernel
theorem d_CX_moves_4 : decode b_CX_moves 4 = .ok (.ifCond .ne 6, 3) := by decide +kernel
theorem d_CX_moves_7 : decode b_CX_moves 7 = .ok (.bipush (-6), 2) := by decide +kernel
theorem d_CX_moves_9 : decode b_CX_moves 9 = .ok (.ireturn, 1) := by decide +kernel
theorem d_CX_moves_10 : decode b_CX_moves 10 = .ok (.aload_n 0, 1) := by decide +kernel
theorem d_CX_moves_11 : decode b_CX_moves 11 = .ok (.iload_n 1, 1) := by decide +kernel
theorem d_CX_moves_12 : decode b_CX_moves 12 = .ok (.invokevirtual 329, 3) := by decide +kernel
theorem d_CX_moves_15 : decode b_CX_moves 15 = .ok (.astore_n 2, 1) := by decide +kernel
theorem d_CX_moves_16 : decode b_CX_moves 16 = .ok (.aload_n 2, 1) := by decide +kernel
theorem d_CX_moves_17 : decode b_CX_moves 17 = .ok (.ifnonnull 7, 3) := by decide +kernel
theorem d_CX_moves_20 : decode b_CX_moves 20 = .ok (.iconst (-1), 1) := by decide +kernel
theorem d_CX_moves_21 : decode b_CX_moves 21 = .ok (.goto 7, 3) := by decide +kernel
theorem d_CX_moves_24 : decode b_CX_moves 24 = .ok (.aload_n 2, 1) := by decide +kernel
theorem d_CX_moves_25 : decode b_CX_moves 25 = .ok (.getfield 203, 3) := by decide +kernel
theorem d_CX_moves_28 : decode b_CX_moves 28 = .ok (.ireturn, 1) := by decide +kernel
def wp_CX_moves (Q : Int → zS → Prop) (v1 : Int) (σ : zS) : Prop :=
  zc (σ 56 0) ∧ ((σ 56 0 = 0 →
    Q (-6) σ) ∧
   (¬ σ 56 0 = 0 →
    wp_CX_gateAt (fun r3 σ2 =>
      ((r3 < 0 →
        Q (-1) σ2) ∧
       (¬ r3 < 0 →
        0 ≤ r3 ∧ r3 < σ2 70 0 ∧ 
        Q (σ2 16 r3) σ2))) v1 σ))
set_option maxHeartbeats 4000000 in
set_option maxRecDepth 100000 in
theorem c_CX_moves (l : Launch) (D : va_G) (g : zG) (ad : zA) (v1 : Int) (Q : Int → zS → Prop) (σ : zS) (h : wp_CX_moves Q v1 σ) : zGi l y_CX_moves b_CX_moves 3 (some .int) { frames := 4, cells := 0, slots := 0, locals := 86 } D g ad σ [.ref (ad (0, 0)), .int (zi v1)] Q := by
  unfold wp_CX_moves at h
  refine zN_of (by decide) (Nat.le_of_ble_eq_true rfl) (fun E C R S => ?_)
  have C : zX E b_CX_moves R_CX D g { frames := 4, cells := 0, slots := 0, locals := 86 } 3 := C
  refine z_sub (L' := [(0, .ref (ad (0, 0))), (1, .int (zi v1))]) [0, 1] rfl ?_
  refine z_aload_n C (pc := 0) d_CX_moves_0 0 rfl ?_
  refine x_getX (v := .int (zi (σ 56 0))) C 8 (by decide) rfl wd_93 (pc := 1) d_CX_moves_1 ?_
  obtain ⟨hc1, h⟩ := h
  refine z_if_ne (tgt := 10) C (pc := 4) d_CX_moves_4 (by decide) hc1 h (fun h => ?_) (fun h => ?_)
  · refine z_aload_n C (pc := 10) d_CX_moves_10 0 rfl ?_
    refine z_iload_n C (pc := 11) d_CX_moves_11 1 rfl ?_
    refine x_callVr (As := [.int (zi v1)]) (st := []) C S fy_CX_gateAt (0, 0) (zids_fix zfix_0) rfl rfl wd_650 (pc := 12) d_CX_moves_12 ⟨rfl, rfl, Nat.le_of_ble_eq_true rfl, Nat.le_of_ble_eq_true rfl⟩ rfl rfl (Nat.le_of_ble_eq_true rfl) h (c_CX_gateAt (zln E) D g ad _ _ _) (fun r3 σ2 h => ?_)
    refine z_astoreZ_n (L' := [(2, zr ad 4 r3), (0, .ref (ad (0, 0))), (1, .int (zi v1))]) C (pc := 15) d_CX_moves_15 (by decide) rfl ?_
    refine z_aloadZ_n C (pc := 16) d_CX_moves_16 0 rfl ?_
    refine z_ifnonnull (tgt := 24) C (pc := 17) d_CX_moves_17 (by decide) h (fun h => ?_) (fun h => ?_)
    · refine z_aloadZ_n C (pc := 24) d_CX_moves_24 0 rfl ?_
      obtain ⟨hc4, hc5, h⟩ := h
      refine x_getN (v := .int (zi (σ2 16 r3))) C 16 (by decide) hc4 hc5 rfl wd_200 (pc := 25) d_CX_moves_25 ?_
      exact z_iret C R (pc := 28) d_CX_moves_28 h
    · refine z_iconst C (pc := 20) d_CX_moves_20 ?_
      refine z_goto (tgt := 28) C (pc := 21) d_CX_moves_21 (by decide) ?_
      exact z_iret C R (pc := 28) d_CX_moves_28 h
  · refine z_bipush C (pc := 7) d_CX_moves_7 (by decide) ?_
    exact z_iret C R (pc := 9) d_CX_moves_9 h
theorem d_CX_latches_0 : decode b_CX_latches 0 = .ok (.aload_n 0, 1) := by decide +kernel
theorem d_CX_latches_1 : decode b_CX_latches 1 = .ok (.getfield 109, 3) := by decide +kernel
theorem d_CX_latches_4 : decode b_CX_latches 4 = .ok (.ifCond .ne 7, 3) := by decide +kernel
theorem d_CX_latches_7 : decode b_CX_latches 7 = .ok (.ldc2_w 333, 3) := by decide +kernel
theorem d_CX_latches_10 : decode b_CX_latches 10 = .ok (.lreturn, 1) := by decide +kernel
theorem d_CX_latches_11 : decode b_CX_latches 11 = .ok (.aload_n 0, 1) := by decide +kernel
theorem d_CX_latches_12 : decode b_CX_latches 12 = .ok (.iload_n 1, 1) := by decide +kernel
theorem d_CX_latches_13 : decode b_CX_latches 13 = .ok (.invokevirtual 329, 3) := by decide +kernel
theorem d_CX_latches_16 : decode b_CX_latches 16 = .ok (.astore_n 3, 1) := by decide +kernel
theorem d_CX_latches_17 : decode b_CX_latches 17 = .ok (.iload_n 1, 1) := by decide +kernel
theorem d_CX_latches_18 : decode b_CX_latches 18 = .ok (.iconst (-1), 1) := by decide +kernel
theorem d_CX_latches_19 : decode b_CX_latches 19 = .ok (.if_icmp .ne 13, 3) := by decide +kernel
theorem d_CX_latches_22 : decode b_CX_latches 22 = .ok (.aload_n 0, 1) := by decide +kernel
theorem d_CX_latches_23 : decode b_CX_latches 23 = .ok (.getfield 78, 3) := by decide +kernel
theorem d_CX_latches_26 : decode b_CX_latches 26 = .ok (.invokevirtual 113, 3) := by decide +kernel
theorem d_CX_latches_29 : decode b_CX_latches 29 = .ok (.goto 18, 3) := by decide +kernel
theorem d_CX_latches_32 : decode b_CX_latches 32 = .ok (.aload_n 3, 1) := by decide +kernel
theorem d_CX_latches_33 : decode b_CX_latches 33 = .ok (.ifnonnull 7, 3) := by decide +kernel
theorem d_CX_latches_36 : decode b_CX_latches 36 = .ok (.iconst 0, 1) := by decide +kernel
theorem d_CX_latches_37 : decode b_CX_latches 37 = .ok (.goto 10, 3) := by decide +kernel
theorem d_CX_latches_40 : decode b_CX_latches 40 = .ok (.aload_n 3, 1) := by decide +kernel
theorem d_CX_latches_41 : decode b_CX_latches 41 = .ok (.getfield 199, 3) := by decide +kernel
theorem d_CX_latches_44 : decode b_CX_latches 44 = .ok (.getfield 251, 3) := by decide +kernel
theorem d_CX_latches_47 : decode b_CX_latches 47 = .ok (.istore 4, 2) := by decide +kernel
theorem d_CX_latches_49 : decode b_CX_latches 49 = .ok (.iload_n 2, 1) := by decide +kernel
theorem d_CX_latches_50 : decode b_CX_latches 50 = .ok (.ifCond .lt 9, 3) := by decide +kernel
theorem d_CX_latches_53 : decode b_CX_latches 53 = .ok (.iload_n 2, 1) := by decide +kernel
theorem d_CX_latches_54 : decode b_CX_latches 54 = .ok (.iload 4, 2) := by decide +kernel
theorem d_CX_latches_56 : decode b_CX_latches 56 = .ok (.if_icmp .lt 7, 3) := by decide +kernel
theorem d_CX_latches_59 : decode b_CX_latches 59 = .ok (.ldc2_w 335, 3) := by decide +kernel
theorem d_CX_latches_62 : decode b_CX_latches 62 = .ok (.lreturn, 1) := by decide +kernel
theorem d_CX_latches_63 : decode b_CX_latches 63 = .ok (.iload_n 1, 1) := by decide +kernel
theorem d_CX_latches_64 : decode b_CX_latches 64 = .ok (.iconst (-1), 1) := by decide +kernel
theorem d_CX_latches_65 : decode b_CX_latches 65 = .ok (.if_icmp .ne 11, 3) := by decide +kernel
theorem d_CX_latches_68 : decode b_CX_latches 68 = .ok (.sipush 192, 3) := by decide +kernel
theorem d_CX_latches_71 : decode b_CX_latches 71 = .ok (.iload_n 2, 1) := by decide +kernel
theorem d_CX_latches_72 : decode b_CX_latches 72 = .ok (.iadd, 1) := by decide +kernel
theorem d_CX_latches_73 : decode b_CX_latches 73 = .ok (.goto 8, 3) := by decide +kernel
theorem d_CX_latches_76 : decode b_CX_latches 76 = .ok (.iconst 4, 1) := by decide +kernel
theorem d_CX_latches_77 : decode b_CX_latches 77 = .ok (.iload_n 1, 1) := by decide +kernel
theorem d_CX_latches_78 : decode b_CX_latches 78 = .ok (.imul, 1) := by decide +kernel
theorem d_CX_latches_79 : decode b_CX_latches 79 = .ok (.iload_n 2, 1) := by decide +kernel
theorem d_CX_latches_80 : decode b_CX_latches 80 = .ok (.iadd, 1) := by decide +kernel
theorem d_CX_latches_81 : decode b_CX_latches 81 = .ok (.istore 5, 2) := by decide +kernel
theorem d_CX_latches_83 : decode b_CX_latches 83 = .ok (.aload_n 0, 1) := by decide +kernel
theorem d_CX_latches_84 : decode b_CX_latches 84 = .ok (.getfield 98, 3) := by decide +kernel
theorem d_CX_latches_87 : decode b_CX_latches 87 = .ok (.iload 5, 2) := by decide +kernel
theorem d_CX_latches_89 : decode b_CX_latches 89 = .ok (.iaload, 1) := by decide +kernel
theorem d_CX_latches_90 : decode b_CX_latches 90 = .ok (.i2l, 1) := by decide +kernel
theorem d_CX_latches_91 : decode b_CX_latches 91 = .ok (.ldc2_w 337, 3) := by decide +kernel
theorem d_CX_latches_94 : decode b_CX_latches 94 = .ok (.aload_n 0, 1) := by decide +kernel
theorem d_CX_latches_95 : decode b_CX_latches 95 = .ok (.getfield 102, 3) := by decide +kernel
theorem d_CX_latches_98 : decode b_CX_latches 98 = .ok (.iload 5, 2) := by decide +kernel
theorem d_CX_latches_100 : decode b_CX_latches 100 = .ok (.laload, 1) := by decide +kernel
theorem d_CX_latches_101 : decode b_CX_latches 101 = .ok (.lmul, 1) := by decide +kernel
theorem d_CX_latches_102 : decode b_CX_latches 102 = .ok (.ladd, 1) := by decide +kernel
theorem d_CX_latches_103 : decode b_CX_latches 103 = .ok (.lreturn, 1) := by decide +kernel
def bk_CX_latches_81 (Q : Int → zS → Prop) (z0 : Int) (σ : zS) : Prop :=
  0 ≤ z0 ∧ z0 < 196 ∧ 
  zc (σ 52 z0) ∧ 
  Q ((σ 52 z0) + (64 * (σ 53 z0))) σ
def bk_CX_latches_47 (Q : Int → zS → Prop) (v1 : Int) (v2 : Int) (z0 : Int) (σ : zS) : Prop :=
  zc v2 ∧ ((v2 < 0 →
    Q (-1) σ) ∧
   (¬ v2 < 0 →
    zc z0 ∧ ((v2 < z0 →
      zc v1 ∧ ((v1 = (-1) →
        bk_CX_latches_81 Q (192 + v2) σ) ∧
       (¬ v1 = (-1) →
        bk_CX_latches_81 Q ((4 * v1) + v2) σ))) ∧
     (¬ v2 < z0 →
      Q (-1) σ))))
def wp_CX_latches (Q : Int → zS → Prop) (v1 : Int) (v2 : Int) (σ : zS) : Prop :=
  zc (σ 56 0) ∧ ((σ 56 0 = 0 →
    Q (-6) σ) ∧
   (¬ σ 56 0 = 0 →
    wp_CX_gateAt (fun r3 σ2 =>
      zc v1 ∧ ((v1 = (-1) →
        bk_CX_latches_47 Q v1 v2 (σ2 40 4) σ2) ∧
       (¬ v1 = (-1) →
        ((r3 < 0 →
          bk_CX_latches_47 Q v1 v2 0 σ2) ∧
         (¬ r3 < 0 →
          0 ≤ r3 ∧ r3 < σ2 70 0 ∧ 
          0 ≤ σ2 14 r3 ∧ σ2 14 r3 < σ2 71 0 ∧ 
          bk_CX_latches_47 Q v1 v2 (σ2 24 (σ2 14 r3)) σ2))))) v1 σ))
set_option maxHeartbeats 4000000 in
set_option maxRecDepth 100000 in
theorem wk_CX_latches_81 {E : zE} {D : va_G} {g : zG} {A : Nat → Prop} {ad : zA} {Q : Int → zS → Prop} (C : zX E b_CX_latches R_CX D g { frames := 4, cells := 0, slots := 0, locals := 86 } 6) (R : zRt E (some .long) (zQl D g ad Q A) 0 0 A) (S : zSt g A (zst E) (zst E).heap) (z0 : Int) (σ : zS) (h : bk_CX_latches_81 Q z0 σ) : zW E (zOK D A (zst E) g ad) 0 0 81 [(0, .ref (ad (0, 0)))] [.int (zi z0)] σ := by
  unfold bk_CX_latches_81 at h
  refine z_istore (L' := [(5, .int (zi z0)), (0, .ref (ad (0, 0)))]) C (pc := 81) d_CX_latches_81 (by decide) rfl ?_
  refine z_aload_n C (pc := 83) d_CX_latches_83 1 rfl ?_
  refine x_getX (v := .ref (ad (3, 2))) C 11 (by decide) rfl wd_96 (pc := 84) d_CX_latches_84 ?_
  refine z_iload C (pc := 87) d_CX_latches_87 0 rfl ?_
  obtain ⟨hc12, hc13, h⟩ := h
  refine x_iald C hc12 hc13 (pc := 89) d_CX_latches_89 ?_
  obtain ⟨hc14, h⟩ := h
  refine z_i2l C (pc := 90) d_CX_latches_90 hc14 ?_
  refine z_ldc2 (x := 64) C (pc := 91) d_CX_latches_91 wd_672 (by decide) ?_
  refine z_aload_n C (pc := 94) d_CX_latches_94 1 rfl ?_
  refine x_getX (v := .ref (ad (3, 3))) C 12 (by decide) rfl wd_97 (pc := 95) d_CX_latches_95 ?_
  refine z_iload C (pc := 98) d_CX_latches_98 0 rfl ?_
  refine x_lald C 3 (by decide) hc12 hc13 (pc := 100) d_CX_latches_100 ?_
  refine z_lmul C (pc := 101) d_CX_latches_101 ?_
  refine z_ladd C (pc := 102) d_CX_latches_102 ?_
  exact z_lret C R (pc := 103) d_CX_latches_103 h
set_option maxHeartbeats 4000000 in
set_option maxRecDepth 100000 in
theorem wk_CX_latches_47 {E : zE} {D : va_G} {g : zG} {A : Nat → Prop} {ad : zA} {Q : Int → zS → Prop} (C : zX E b_CX_latches R_CX D g { frames := 4, cells := 0, slots := 0, locals := 86 } 6) (R : zRt E (some .long) (zQl D g ad Q A) 0 0 A) (S : zSt g A (zst E) (zst E).heap) (v1 : Int) (v2 : Int) (z0 : Int) (σ : zS) (h : bk_CX_latches_47 Q v1 v2 z0 σ) : zW E (zOK D A (zst E) g ad) 0 0 47 [(0, .ref (ad (0, 0))), (1, .int (zi v1)), (2, .int (zi v2))] [.int (zi z0)] σ := by
  unfold bk_CX_latches_47 at h
  refine z_istore (L' := [(4, .int (zi z0)), (0, .ref (ad (0, 0))), (1, .int (zi v1)), (2, .int (zi v2))]) C (pc := 47) d_CX_latches_47 (by decide) rfl ?_
  refine z_iload_n C (pc := 49) d_CX_latches_49 3 rfl ?_
  obtain ⟨hc9, h⟩ := h
  refine z_if_lt (tgt := 59) C (pc := 50) d_CX_latches_50 (by decide) hc9 h (fun h => ?_) (fun h => ?_)
  · refine z_ldc2 (x := (-1)) C (pc := 59) d_CX_latches_59 wd_671 (by decide) ?_
    exact z_lret C R (pc := 62) d_CX_latches_62 h
  · refine z_iload_n C (pc := 53) d_CX_latches_53 3 rfl ?_
    refine z_iload C (pc := 54) d_CX_latches_54 0 rfl ?_
    obtain ⟨hc10, h⟩ := h
    refine z_icmp_lt (tgt := 63) C (pc := 56) d_CX_latches_56 (by decide) hc9 hc10 h (fun h => ?_) (fun h => ?_)
    · refine z_iload_n C (pc := 63) d_CX_latches_63 2 rfl ?_
      refine z_iconst C (pc := 64) d_CX_latches_64 ?_
      obtain ⟨hc11, h⟩ := h
      refine z_icmp_ne (tgt := 76) C (pc := 65) d_CX_latches_65 (by decide) hc11 (by decide) h (fun h => ?_) (fun h => ?_)
      · refine z_iconst C (pc := 76) d_CX_latches_76 ?_
        refine z_iload_n C (pc := 77) d_CX_latches_77 2 rfl ?_
        refine z_imul C (pc := 78) d_CX_latches_78 ?_
        refine z_iload_n C (pc := 79) d_CX_latches_79 3 rfl ?_
        refine z_iadd C (pc := 80) d_CX_latches_80 ?_
        refine z_sub [1] rfl ?_
        exact wk_CX_latches_81 C R S _ _ h
      · refine z_sipush C (pc := 68) d_CX_latches_68 (by decide) ?_
        refine z_iload_n C (pc := 71) d_CX_latches_71 3 rfl ?_
        refine z_iadd C (pc := 72) d_CX_latches_72 ?_
        refine z_goto (tgt := 81) C (pc := 73) d_CX_latches_73 (by decide) ?_
        refine z_sub [1] rfl ?_
        exact wk_CX_latches_81 C R S _ _ h
    · refine z_ldc2 (x := (-1)) C (pc := 59) d_CX_latches_59 wd_671 (by decide) ?_
      exact z_lret C R (pc := 62) d_CX_latches_62 h
set_option maxHeartbeats 4000000 in
set_option maxRecDepth 100000 in
theorem c_CX_latches (l : Launch) (D : va_G) (g : zG) (ad : zA) (v1 : Int) (v2 : Int) (Q : Int → zS → Prop) (σ : zS) (h : wp_CX_latches Q v1 v2 σ) : zGl l y_CX_latches b_CX_latches 6 (some .long) { frames := 4, cells := 0, slots := 0, locals := 86 } D g ad σ [.ref (ad (0, 0)), .int (zi v1), .int (zi v2)] Q := by
  unfold wp_CX_latches at h
  refine zN_of (by decide) (Nat.le_of_ble_eq_true rfl) (fun E C R S => ?_)
  have C : zX E b_CX_latches R_CX D g { frames := 4, cells := 0, slots := 0, locals := 86 } 6 := C
  refine z_sub (L' := [(0, .ref (ad (0, 0))), (1, .int (zi v1)), (2, .int (zi v2))]) [0, 1, 2] rfl ?_
  refine z_aload_n C (pc := 0) d_CX_latches_0 0 rfl ?_
  refine x_getX (v := .int (zi (σ 56 0))) C 8 (by decide) rfl wd_93 (pc := 1) d_CX_latches_1 ?_
  obtain ⟨hc1, h⟩ := h
  refine z_if_ne (tgt := 11) C (pc := 4) d_CX_latches_4 (by decide) hc1 h (fun h => ?_) (fun h => ?_)
  · refine z_aload_n C (pc := 11) d_CX_latches_11 0 rfl ?_
    refine z_iload_n C (pc := 12) d_CX_latches_12 1 rfl ?_
    refine x_callVr (As := [.int (zi v1)]) (st := []) C S fy_CX_gateAt (0, 0) (zids_fix zfix_0) rfl rfl wd_650 (pc := 13) d_CX_latches_13 ⟨rfl, rfl, Nat.le_of_ble_eq_true rfl, Nat.le_of_ble_eq_true rfl⟩ rfl rfl (Nat.le_of_ble_eq_true rfl) h (c_CX_gateAt (zln E) D g ad _ _ _) (fun r3 σ2 h => ?_)
    refine z_astoreZ_n (L' := [(3, zr ad 4 r3), (0, .ref (ad (0, 0))), (1, .int (zi v1)), (2, .int (zi v2))]) C (pc := 16) d_CX_latches_16 (by decide) rfl ?_
    refine z_iload_n C (pc := 17) d_CX_latches_17 2 rfl ?_
    refine z_iconst C (pc := 18) d_CX_latches_18 ?_
    obtain ⟨hc4, h⟩ := h
    refine z_icmp_ne (tgt := 32) C (pc := 19) d_CX_latches_19 (by decide) hc4 (by decide) h (fun h => ?_) (fun h => ?_)
    · refine z_aloadZ_n C (pc := 32) d_CX_latches_32 0 rfl ?_
      refine z_ifnonnull (tgt := 40) C (pc := 33) d_CX_latches_33 (by decide) h (fun h => ?_) (fun h => ?_)
      · refine z_aloadZ_n C (pc := 40) d_CX_latches_40 0 rfl ?_
        obtain ⟨hc5, hc6, h⟩ := h
        refine x_getN (v := zr ad 5 (σ2 14 r3)) C 14 (by decide) hc5 hc6 rfl wd_198 (pc := 41) d_CX_latches_41 ?_
        obtain ⟨hc7, hc8, h⟩ := h
        refine x_getC (v := .int (zi (σ2 24 (σ2 14 r3)))) C 4 (by decide) hc7 hc8 rfl wd_437 (pc := 44) d_CX_latches_44 ?_
        refine z_sub [1, 2, 3] rfl ?_
        exact wk_CX_latches_47 C R S _ _ _ _ h
      · refine z_iconst C (pc := 36) d_CX_latches_36 ?_
        refine z_goto (tgt := 47) C (pc := 37) d_CX_latches_37 (by decide) ?_
        refine z_sub [1, 2, 3] rfl ?_
        exact wk_CX_latches_47 C R S _ _ _ _ h
    · refine z_aload_n C (pc := 22) d_CX_latches_22 1 rfl ?_
      refine x_getX (v := .ref (ad (1, 4))) C 5 (by decide) rfl wd_90 (pc := 23) d_CX_latches_23 ?_
      refine x_size (P := True) C S 4 (by decide) wd_146 ⟨Nat.le_of_ble_eq_true rfl, Nat.le_of_ble_eq_true rfl⟩ (Nat.le_of_ble_eq_true rfl) (pc := 26) d_CX_latches_26 ?_
      refine z_goto (tgt := 47) C (pc := 29) d_CX_latches_29 (by decide) ?_
      refine z_sub [1, 2, 3] rfl ?_
      exact wk_CX_latches_47 C R S _ _ _ _ h
  · refine z_ldc2 (x := (-6)) C (pc := 7) d_CX_latches_7 wd_670 (by decide) ?_
    exact z_lret C R (pc := 10) d_CX_latches_10 h
theorem d_CX_feed_0 : decode b_CX_feed 0 = .ok (.iconst 0, 1) := by decide +kernel
theorem d_CX_feed_1 : decode b_CX_feed 1 = .ok (.istore_n 2, 1) := by decide +kernel
theorem d_CX_feed_2 : decode b_CX_feed 2 = .ok (.iload_n 2, 1) := by decide +kernel
theorem d_CX_feed_3 : decode b_CX_feed 3 = .ok (.aload_n 0, 1) := by decide +kernel
theorem d_CX_feed_4 : decode b_CX_feed 4 = .ok (.invokevirtual 113, 3) := by decide +kernel
theorem d_CX_feed_7 : decode b_CX_feed 7 = .ok (.if_icmp .ge 30, 3) := by decide +kernel
theorem d_CX_feed_10 : decode b_CX_feed 10 = .ok (.aload_n 0, 1) := by decide +kernel
theorem d_CX_feed_11 : decode b_CX_feed 11 = .ok (.iload_n 2, 1) := by decide +kernel
theorem d_CX_feed_12 : decode b_CX_feed 12 = .ok (.invokevirtual 116, 3) := by decide +kernel
theorem d_CX_feed_15 : decode b_CX_feed 15 = .ok (.checkcast 89, 3) := by decide +kernel
theorem d_CX_feed_18 : decode b_CX_feed 18 = .ok (.astore_n 3, 1) := by decide +kernel
theorem d_CX_feed_19 : decode b_CX_feed 19 = .ok (.aload_n 3, 1) := by decide +kernel
theorem d_CX_feed_20 : decode b_CX_feed 20 = .ok (.iload_n 1, 1) := by decide +kernel
theorem d_CX_feed_21 : decode b_CX_feed 21 = .ok (.aload_n 3, 1) := by decide +kernel
theorem d_CX_feed_22 : decode b_CX_feed 22 = .ok (.getfield 120, 3) := by decide +kernel
theorem d_CX_feed_25 : decode b_CX_feed 25 = .ok (.ishr, 1) := by decide +kernel
theorem d_CX_feed_26 : decode b_CX_feed 26 = .ok (.iconst 1, 1) := by decide +kernel
theorem d_CX_feed_27 : decode b_CX_feed 27 = .ok (.iand, 1) := by decide +kernel
theorem d_CX_feed_28 : decode b_CX_feed 28 = .ok (.putfield 339, 3) := by decide +kernel
theorem d_CX_feed_31 : decode b_CX_feed 31 = .ok (.iinc 2 1, 3) := by decide +kernel
theorem d_CX_feed_34 : decode b_CX_feed 34 = .ok (.goto (-32), 3) := by decide +kernel
theorem d_CX_feed_37 : decode b_CX_feed 37 = .ok (.return_, 1) := by decide +kernel
def lp_CX_feed_2 (Q : zS → Prop) : Nat → Int → Int → zS → Prop
  | 0 => fun _ _ _ => False
  | n + 1 => fun v1 v2 σ =>
    zc v2 ∧ zc (σ 40 2) ∧ ((σ 40 2 ≤ v2 →
      Q σ) ∧
     (¬ σ 40 2 ≤ v2 →
      0 ≤ v2 ∧ v2 < σ 40 2 ∧ 
      0 ≤ σ 43 v2 ∧ σ 43 v2 < σ 70 0 ∧ 
      ∀ y7, y7 = σ 43 v2 →
      ∀ σ8, σ8 = zup σ 6 y7 (zand (zshr v1 (σ 4 y7)) 1) →
      lp_CX_feed_2 Q n v1 (v2 + 1) σ8))
def wp_CX_feed (Q : zS → Prop) (v1 : Int) (σ : zS) : Prop :=
  ∃ u2, lp_CX_feed_2 Q u2 v1 0 σ
set_option maxHeartbeats 4000000 in
set_option maxRecDepth 100000 in
theorem wk_CX_feed_2 {E : zE} {D : va_G} {g : zG} {A : Nat → Prop} {ad : zA} {Q : zS → Prop} (C : zX E b_CX_feed R_CX D g { frames := 3, cells := 0, slots := 0, locals := 64 } 4) (R : zRt E none (zQv D g ad Q A) 0 0 A) (S : zSt g A (zst E) (zst E).heap) : ∀ (n : Nat) (v1 : Int) (v2 : Int) (σ : zS), lp_CX_feed_2 Q n v1 v2 σ → zW E (zOK D A (zst E) g ad) 0 0 2 [(0, .ref (ad (1, 2))), (1, .int (zi v1)), (2, .int (zi v2))] [] σ := by
  intro n
  induction n with
  | zero =>
    intro v1 v2 σ h
    exact h.elim
  | succ n ih =>
    intro v1 v2 σ h
    refine z_iload_n C (pc := 2) d_CX_feed_2 2 rfl ?_
    refine z_aload_n C (pc := 3) d_CX_feed_3 0 rfl ?_
    refine x_size (P := True) C S 2 (by decide) wd_146 ⟨Nat.le_of_ble_eq_true rfl, Nat.le_of_ble_eq_true rfl⟩ (Nat.le_of_ble_eq_true rfl) (pc := 4) d_CX_feed_4 ?_
    obtain ⟨hc1, hc2, h⟩ := h
    refine z_icmp_ge (tgt := 37) C (pc := 7) d_CX_feed_7 (by decide) hc1 hc2 h (fun h => ?_) (fun h => ?_)
    · exact z_vret C R (pc := 37) d_CX_feed_37 h
    · refine z_aload_n C (pc := 10) d_CX_feed_10 0 rfl ?_
      refine z_iload_n C (pc := 11) d_CX_feed_11 2 rfl ?_
      obtain ⟨hc3, hc4, h⟩ := h
      refine x_lget C S 2 (by decide) hc3 hc4 wd_306 ⟨Nat.le_of_ble_eq_true rfl, Nat.le_of_ble_eq_true rfl⟩ (Nat.le_of_ble_eq_true rfl) (pc := 12) d_CX_feed_12 ?_
      obtain ⟨hc5, hc6, h⟩ := h
      refine x_castN C wd_83 (Or.inr ⟨hc5, hc6⟩) (pc := 15) d_CX_feed_15 ?_
      refine zNz h (fun y7 ey7 h => ?_)
      refine z_astoreZ_n (L' := [(3, zr ad 4 y7), (0, .ref (ad (1, 2))), (1, .int (zi v1)), (2, .int (zi v2))]) C (pc := 18) d_CX_feed_18 (by decide) rfl ?_
      refine z_aloadZ_n C (pc := 19) d_CX_feed_19 0 rfl ?_
      refine z_iload_n C (pc := 20) d_CX_feed_20 2 rfl ?_
      refine z_aloadZ_n C (pc := 21) d_CX_feed_21 0 rfl ?_
      refine x_getN (v := .int (zi (σ 4 y7))) C 4 (by decide) (by rw [ey7]; exact hc5) (by rw [ey7]; exact hc6) rfl wd_183 (pc := 22) d_CX_feed_22 ?_
      refine z_ishr C (pc := 25) d_CX_feed_25 ?_
      refine z_iconst C (pc := 26) d_CX_feed_26 ?_
      refine z_iand C (pc := 27) d_CX_feed_27 ?_
      refine x_putN (v := zand (zshr v1 (σ 4 y7)) 1) C 6 (by decide) (by rw [ey7]; exact hc5) (by rw [ey7]; exact hc6) rfl ⟨rfl, rfl⟩ rfl wd_185 (pc := 28) d_CX_feed_28 ?_
      refine zN h (fun σ8 eσ8 h => ?_)
      refine z_iinc (L' := [(2, .int (zi (v2 + 1))), (3, zr ad 4 y7), (0, .ref (ad (1, 2))), (1, .int (zi v1))]) C (pc := 31) d_CX_feed_31 3 rfl (by decide) rfl ?_
      refine z_goto (tgt := 2) C (pc := 34) d_CX_feed_34 (by decide) ?_
      refine z_sub [2, 3, 0] rfl ?_
      exact ih _ _ _ h
set_option maxHeartbeats 4000000 in
set_option maxRecDepth 100000 in
theorem c_CX_feed (l : Launch) (D : va_G) (g : zG) (ad : zA) (v1 : Int) (Q : zS → Prop) (σ : zS) (h : wp_CX_feed Q v1 σ) : zGv l y_CX_feed b_CX_feed 4 none { frames := 3, cells := 0, slots := 0, locals := 64 } D g ad σ [.ref (ad (1, 2)), .int (zi v1)] Q := by
  unfold wp_CX_feed at h
  refine zN_of (by decide) (Nat.le_of_ble_eq_true rfl) (fun E C R S => ?_)
  have C : zX E b_CX_feed R_CX D g { frames := 3, cells := 0, slots := 0, locals := 64 } 4 := C
  refine z_sub (L' := [(0, .ref (ad (1, 2))), (1, .int (zi v1))]) [0, 1] rfl ?_
  refine z_iconst C (pc := 0) d_CX_feed_0 ?_
  refine z_istore_n (L' := [(2, .int (zi 0)), (0, .ref (ad (1, 2))), (1, .int (zi v1))]) C (pc := 1) d_CX_feed_1 (by decide) rfl ?_
  refine z_sub [1, 2, 0] rfl ?_
  obtain ⟨n9, h⟩ := h
  exact wk_CX_feed_2 C R S n9 _ _ _ h
theorem d_CX_clock_0 : decode b_CX_clock 0 = .ok (.aload_n 0, 1) := by decide +kernel
theorem d_CX_clock_1 : decode b_CX_clock 1 = .ok (.invokevirtual 302, 3) := by decide +kernel
theorem d_CX_clock_4 : decode b_CX_clock 4 = .ok (.ifCond .eq 6, 3) := by decide +kernel
theorem d_CX_clock_7 : decode b_CX_clock 7 = .ok (.bipush (-3), 2) := by decide +kernel
theorem d_CX_clock_9 : decode b_CX_clock 9 = .ok (.ireturn, 1) := by decide +kernel
theorem d_CX_clock_10 : decode b_CX_clock 10 = .ok (.aload_n 0, 1) := by decide +kernel
theorem d_CX_clock_11 : decode b_CX_clock 11 = .ok (.getfield 72, 3) := by decide +kernel
theorem d_CX_clock_14 : decode b_CX_clock 14 = .ok (.iload_n 1, 1) := by decide +kernel
theorem d_CX_clock_15 : decode b_CX_clock 15 = .ok (.invokestatic 341, 3) := by decide +kernel
theorem d_CX_clock_18 : decode b_CX_clock 18 = .ok (.iconst 0, 1) := by decide +kernel
theorem d_CX_clock_19 : decode b_CX_clock 19 = .ok (.istore_n 2, 1) := by decide +kernel
theorem d_CX_clock_20 : decode b_CX_clock 20 = .ok (.iload_n 2, 1) := by decide +kernel
theorem d_CX_clock_21 : decode b_CX_clock 21 = .ok (.aload_n 0, 1) := by decide +kernel
theorem d_CX_clock_22 : decode b_CX_clock 22 = .ok (.getfield 65, 3) := by decide +kernel
theorem d_CX_clock_25 : decode b_CX_clock 25 = .ok (.invokevirtual 113, 3) := by decide +kernel
theorem d_CX_clock_28 : decode b_CX_clock 28 = .ok (.if_icmp .ge 105, 3) := by decide +kernel
theorem d_CX_clock_31 : decode b_CX_clock 31 = .ok (.aload_n 0, 1) := by decide +kernel
theorem d_CX_clock_32 : decode b_CX_clock 32 = .ok (.getfield 65, 3) := by decide +kernel
theorem d_CX_clock_35 : decode b_CX_clock 35 = .ok (.iload_n 2, 1) := by decide +kernel
theorem d_CX_clock_36 : decode b_CX_clock 36 = .ok (.invokevirtual 116, 3) := by decide +kernel
theorem d_CX_clock_39 : decode b_CX_clock 39 = .ok (.checkcast 89, 3) := by decide +kernel
theorem d_CX_clock_42 : decode b_CX_clock 42 = .ok (.astore_n 3, 1) := by decide +kernel
theorem d_CX_clock_43 : decode b_CX_clock 43 = .ok (.aload_n 3, 1) := by decide +kernel
theorem d_CX_clock_44 : decode b_CX_clock 44 = .ok (.getfield 156, 3) := by decide +kernel
theorem d_CX_clock_47 : decode b_CX_clock 47 = .ok (.invokevirtual 345, 3) := by decide +kernel
theorem d_CX_clock_50 : decode b_CX_clock 50 = .ok (.tableswitch 77 1 3 #[26, 53, 37], 26) := by decide +kernel
theorem d_CX_clock_76 : decode b_CX_clock 76 = .ok (.aload_n 3, 1) := by decide +kernel
theorem d_CX_clock_77 : decode b_CX_clock 77 = .ok (.aload_n 3, 1) := by decide +kernel
theorem d_CX_clock_78 : decode b_CX_clock 78 = .ok (.getfield 123, 3) := by decide +kernel
theorem d_CX_clock_81 : decode b_CX_clock 81 = .ok (.putfield 339, 3) := by decide +kernel
theorem d_CX_clock_84 : decode b_CX_clock 84 = .ok (.goto 43, 3) := by decide +kernel
theorem d_CX_clock_87 : decode b_CX_clock 87 = .ok (.aload_n 3, 1) := by decide +kernel
theorem d_CX_clock_88 : decode b_CX_clock 88 = .ok (.iconst 1, 1) := by decide +kernel
theorem d_CX_clock_89 : decode b_CX_clock 89 = .ok (.aload_n 3, 1) := by decide +kernel
theorem d_CX_clock_90 : decode b_CX_clock 90 = .ok (.getfield 178, 3) := by decide +kernel
theorem d_CX_clock_93 : decode b_CX_clock 93 = .ok (.getfield 339, 3) := by decide +kernel
theorem d_CX_clock_96 : decode b_CX_clock 96 = .ok (.isub, 1) := by decide +kernel
theorem d_CX_clock_97 : decode b_CX_clock 97 = .ok (.putfield 339, 3) := by decide +kernel
theorem d_CX_clock_100 : decode b_CX_clock 100 = .ok (.goto 27, 3) := by decide +kernel
theorem d_CX_clock_103 : decode b_CX_clock 103 = .ok (.aload_n 3, 1) := by decide +kernel
theorem d_CX_clock_104 : decode b_CX_clock 104 = .ok (.iconst 1, 1) := by decide +kernel
theorem d_CX_clock_105 : decode b_CX_clock 105 = .ok (.aload_n 3, 1) := by decide +kernel
theorem d_CX_clock_106 : decode b_CX_clock 106 = .ok (.getfield 178, 3) := by decide +kernel
theorem d_CX_clock_109 : decode b_CX_clock 109 = .ok (.getfield 339, 3) := by decide +kernel
theorem d_CX_clock_112 : decode b_CX_clock 112 = .ok (.aload_n 3, 1) := by decide +kernel
theorem d_CX_clock_113 : decode b_CX_clock 113 = .ok (.getfield 181, 3) := by decide +kernel
theorem d_CX_clock_116 : decode b_CX_clock 116 = .ok (.getfield 339, 3) := by decide +kernel
theorem d_CX_clock_119 : decode b_CX_clock 119 = .ok (.iand, 1) := by decide +kernel
theorem d_CX_clock_120 : decode b_CX_clock 120 = .ok (.isub, 1) := by decide +kernel
theorem d_CX_clock_121 : decode b_CX_clock 121 = .ok (.putfield 339, 3) := by decide +kernel
theorem d_CX_clock_124 : decode b_CX_clock 124 = .ok (.goto 3, 3) := by decide +kernel
theorem d_CX_clock_127 : decode b_CX_clock 127 = .ok (.iinc 2 1, 3) := by decide +kernel
theorem d_CX_clock_130 : decode b_CX_clock 130 = .ok (.goto (-110), 3) := by decide +kernel
theorem d_CX_clock_133 : decode b_CX_clock 133 = .ok (.iconst 0, 1) := by decide +kernel
theorem d_CX_clock_134 : decode b_CX_clock 134 = .ok (.istore_n 2, 1) := by decide +kernel
theorem d_CX_clock_135 : decode b_CX_clock 135 = .ok (.iconst 0, 1) := by decide +kernel
theorem d_CX_clock_136 : decode b_CX_clock 136 = .ok (.istore_n 3, 1) := by decide +kernel
theorem d_CX_clock_137 : decode b_CX_clock 137 = .ok (.iload_n 3, 1) := by decide +kernel
theorem d_CX_clock_138 : decode b_CX_clock 138 = .ok (.aload_n 0, 1) := by decide +kernel
theorem d_CX_clock_139 : decode b_CX_clock 139 = .ok (.getfield 78, 3) := by decide +kernel
theorem d_CX_clock_142 : decode b_CX_clock 142 = .ok (.invokevirtual 113, 3) := by decide +kernel
theorem d_CX_clock_145 : decode b_CX_clock 145 = .ok (.if_icmp .ge 28, 3) := by decide +kernel
theorem d_CX_clock_148 : decode b_CX_clock 148 = .ok (.iload_n 2, 1) := by decide +kernel
theorem d_CX_clock_149 : decode b_CX_clock 149 = .ok (.aload_n 0, 1) := by decide +kernel
theorem d_CX_clock_150 : decode b_CX_clock 150 = .ok (.getfield 78, 3) := by decide +kernel
theorem d_CX_clock_153 : decode b_CX_clock 153 = .ok (.iload_n 3, 1) := by decide +kernel
theorem d_CX_clock_154 : decode b_CX_clock 154 = .ok (.invokevirtual 116, 3) := by decide +kernel
theorem d_CX_clock_157 : decode b_CX_clock 157 = .ok (.checkcast 89, 3) := by decide +kernel
theorem d_CX_clock_160 : decode b_CX_clock 160 = .ok (.getfield 339, 3) := by decide +kernel
theorem d_CX_clock_163 : decode b_CX_clock 163 = .ok (.iload_n 3, 1) := by decide +kernel
theorem d_CX_clock_164 : decode b_CX_clock 164 = .ok (.ishl, 1) := by decide +kernel
theorem d_CX_clock_165 : decode b_CX_clock 165 = .ok (.ior, 1) := by decide +kernel
theorem d_CX_clock_166 : decode b_CX_clock 166 = .ok (.istore_n 2, 1) := by decide +kernel
theorem d_CX_clock_167 : decode b_CX_clock 167 = .ok (.iinc 3 1, 3) := by decide +kernel
theorem d_CX_clock_170 : decode b_CX_clock 170 = .ok (.goto (-33), 3) := by decide +kernel
theorem d_CX_clock_173 : decode b_CX_clock 173 = .ok (.iconst 0, 1) := by decide +kernel
theorem d_CX_clock_174 : decode b_CX_clock 174 = .ok (.istore_n 3, 1) := by decide +kernel
theorem d_CX_clock_175 : decode b_CX_clock 175 = .ok (.iload_n 3, 1) := by decide +kernel
theorem d_CX_clock_176 : decode b_CX_clock 176 = .ok (.aload_n 0, 1) := by decide +kernel
theorem d_CX_clock_177 : decode b_CX_clock 177 = .ok (.getfield 75, 3) := by decide +kernel
theorem d_CX_clock_180 : decode b_CX_clock 180 = .ok (.invokevirtual 113, 3) := by decide +kernel
theorem d_CX_clock_183 : decode b_CX_clock 183 = .ok (.if_icmp .ge 35, 3) := by decide +kernel
theorem d_CX_clock_186 : decode b_CX_clock 186 = .ok (.aload_n 0, 1) := by decide +kernel
theorem d_CX_clock_187 : decode b_CX_clock 187 = .ok (.getfield 75, 3) := by decide +kernel
theorem d_CX_clock_190 : decode b_CX_clock 190 = .ok (.iload_n 3, 1) := by decide +kernel
theorem d_CX_clock_191 : decode b_CX_clock 191 = .ok (.invokevirtual 116, 3) := by decide +kernel
theorem d_CX_clock_194 : decode b_CX_clock 194 = .ok (.checkcast 89, 3) := by decide +kernel
theorem d_CX_clock_197 : decode b_CX_clock 197 = .ok (.astore 4, 2) := by decide +kernel
theorem d_CX_clock_199 : decode b_CX_clock 199 = .ok (.aload 4, 2) := by decide +kernel
theorem d_CX_clock_201 : decode b_CX_clock 201 = .ok (.aload 4, 2) := by decide +kernel
theorem d_CX_clock_203 : decode b_CX_clock 203 = .ok (.getfield 159, 3) := by decide +kernel
theorem d_CX_clock_206 : decode b_CX_clock 206 = .ok (.getfield 339, 3) := by decide +kernel
theorem d_CX_clock_209 : decode b_CX_clock 209 = .ok (.putfield 123, 3) := by decide +kernel
theorem d_CX_clock_212 : decode b_CX_clock 212 = .ok (.iinc 3 1, 3) := by decide +kernel
theorem d_CX_clock_215 : decode b_CX_clock 215 = .ok (.goto (-40), 3) := by decide +kernel
theorem d_CX_clock_218 : decode b_CX_clock 218 = .ok (.iload_n 2, 1) := by decide +kernel
theorem d_CX_clock_219 : decode b_CX_clock 219 = .ok (.ireturn, 1) := by decide +kernel
def lp_CX_clock_175 (Q : Int → zS → Prop) : Nat → Int → Int → zS → Prop
  | 0 => fun _ _ _ => False
  | n + 1 => fun v2 v3 σ =>
    zc v3 ∧ zc (σ 40 3) ∧ ((σ 40 3 ≤ v3 →
      Q v2 σ) ∧
     (¬ σ 40 3 ≤ v3 →
      0 ≤ v3 ∧ v3 < σ 40 3 ∧ 
      0 ≤ σ 44 v3 ∧ σ 44 v3 < σ 70 0 ∧ 
      ∀ y16, y16 = σ 44 v3 →
      0 ≤ σ 5 y16 ∧ σ 5 y16 < σ 70 0 ∧ 
      ∀ σ19, σ19 = zup σ 7 y16 (σ 6 (σ 5 y16)) →
      lp_CX_clock_175 Q n v2 (v3 + 1) σ19))
def lp_CX_clock_137 (Q : Int → zS → Prop) : Nat → Int → Int → zS → Prop
  | 0 => fun _ _ _ => False
  | n + 1 => fun v2 v3 σ =>
    zc v3 ∧ zc (σ 40 4) ∧ ((σ 40 4 ≤ v3 →
      ∃ u175, lp_CX_clock_175 Q u175 v2 0 σ) ∧
     (¬ σ 40 4 ≤ v3 →
      0 ≤ v3 ∧ v3 < σ 40 4 ∧ 
      0 ≤ σ 45 v3 ∧ σ 45 v3 < σ 70 0 ∧ 
      ∀ y25, y25 = zor v2 (zshl (σ 6 (σ 45 v3)) v3) →
      lp_CX_clock_137 Q n y25 (v3 + 1) σ))
def lp_CX_clock_20 (Q : Int → zS → Prop) : Nat → Int → zS → Prop
  | 0 => fun _ _ => False
  | n + 1 => fun v2 σ =>
    zc v2 ∧ zc (σ 40 0) ∧ ((σ 40 0 ≤ v2 →
      ∃ u137, lp_CX_clock_137 Q u137 0 0 σ) ∧
     (¬ σ 40 0 ≤ v2 →
      0 ≤ v2 ∧ v2 < σ 40 0 ∧ 
      0 ≤ σ 41 v2 ∧ σ 41 v2 < σ 70 0 ∧ 
      ∀ y31, y31 = σ 41 v2 →
      0 ≤ σ 1 y31 ∧ σ 1 y31 < 4 ∧ 
      zc (σ 1 y31) ∧ ((σ 1 y31 = 1 →
        ∀ σ35, σ35 = zup σ 6 y31 (σ 7 y31) →
        lp_CX_clock_20 Q n (v2 + 1) σ35) ∧
       (σ 1 y31 = 2 →
        0 ≤ σ 2 y31 ∧ σ 2 y31 < σ 70 0 ∧ 
        0 ≤ σ 3 y31 ∧ σ 3 y31 < σ 70 0 ∧ 
        ∀ σ40, σ40 = zup σ 6 y31 (1 - (zand (σ 6 (σ 2 y31)) (σ 6 (σ 3 y31)))) →
        lp_CX_clock_20 Q n (v2 + 1) σ40) ∧
       (σ 1 y31 = 3 →
        0 ≤ σ 2 y31 ∧ σ 2 y31 < σ 70 0 ∧ 
        ∀ σ43, σ43 = zup σ 6 y31 (1 - (σ 6 (σ 2 y31))) →
        lp_CX_clock_20 Q n (v2 + 1) σ43) ∧
       (σ 1 y31 < 1 ∨ 3 < σ 1 y31 →
        lp_CX_clock_20 Q n (v2 + 1) σ))))
def wp_CX_clock (Q : Int → zS → Prop) (v1 : Int) (σ : zS) : Prop :=
  wp_CX_undriven (fun r2 σ1 =>
    zc r2 ∧ ((r2 = 0 →
      wp_CX_feed (fun σ4 =>
        ∃ u20, lp_CX_clock_20 Q u20 0 σ4) v1 σ1) ∧
     (¬ r2 = 0 →
      Q (-3) σ1))) σ
set_option maxHeartbeats 4000000 in
set_option maxRecDepth 100000 in
theorem wk_CX_clock_175 {E : zE} {D : va_G} {g : zG} {A : Nat → Prop} {ad : zA} {Q : Int → zS → Prop} (C : zX E b_CX_clock R_CX D g { frames := 4, cells := 0, slots := 0, locals := 87 } 5) (R : zRt E (some .int) (zQi D g ad Q A) 0 0 A) (S : zSt g A (zst E) (zst E).heap) : ∀ (n : Nat) (v2 : Int) (v3 : Int) (σ : zS), lp_CX_clock_175 Q n v2 v3 σ → zW E (zOK D A (zst E) g ad) 0 0 175 [(0, .ref (ad (0, 0))), (2, .int (zi v2)), (3, .int (zi v3))] [] σ := by
  intro n
  induction n with
  | zero =>
    intro v2 v3 σ h
    exact h.elim
  | succ n ih =>
    intro v2 v3 σ h
    refine z_iload_n C (pc := 175) d_CX_clock_175 2 rfl ?_
    refine z_aload_n C (pc := 176) d_CX_clock_176 0 rfl ?_
    refine x_getX (v := .ref (ad (1, 3))) C 4 (by decide) rfl wd_89 (pc := 177) d_CX_clock_177 ?_
    refine x_size (P := True) C S 3 (by decide) wd_146 ⟨Nat.le_of_ble_eq_true rfl, Nat.le_of_ble_eq_true rfl⟩ (Nat.le_of_ble_eq_true rfl) (pc := 180) d_CX_clock_180 ?_
    obtain ⟨hc10, hc11, h⟩ := h
    refine z_icmp_ge (tgt := 218) C (pc := 183) d_CX_clock_183 (by decide) hc10 hc11 h (fun h => ?_) (fun h => ?_)
    · refine z_iload_n C (pc := 218) d_CX_clock_218 1 rfl ?_
      exact z_iret C R (pc := 219) d_CX_clock_219 h
    · refine z_aload_n C (pc := 186) d_CX_clock_186 0 rfl ?_
      refine x_getX (v := .ref (ad (1, 3))) C 4 (by decide) rfl wd_89 (pc := 187) d_CX_clock_187 ?_
      refine z_iload_n C (pc := 190) d_CX_clock_190 2 rfl ?_
      obtain ⟨hc12, hc13, h⟩ := h
      refine x_lget C S 3 (by decide) hc12 hc13 wd_306 ⟨Nat.le_of_ble_eq_true rfl, Nat.le_of_ble_eq_true rfl⟩ (Nat.le_of_ble_eq_true rfl) (pc := 191) d_CX_clock_191 ?_
      obtain ⟨hc14, hc15, h⟩ := h
      refine x_castN C wd_83 (Or.inr ⟨hc14, hc15⟩) (pc := 194) d_CX_clock_194 ?_
      refine zNz h (fun y16 ey16 h => ?_)
      refine z_astoreZ (L' := [(4, zr ad 4 y16), (0, .ref (ad (0, 0))), (2, .int (zi v2)), (3, .int (zi v3))]) C (pc := 197) d_CX_clock_197 (by decide) rfl ?_
      refine z_aloadZ C (pc := 199) d_CX_clock_199 0 rfl ?_
      refine z_aloadZ C (pc := 201) d_CX_clock_201 0 rfl ?_
      refine x_getN (v := zr ad 4 (σ 5 y16)) C 5 (by decide) (by rw [ey16]; exact hc14) (by rw [ey16]; exact hc15) rfl wd_184 (pc := 203) d_CX_clock_203 ?_
      obtain ⟨hc17, hc18, h⟩ := h
      refine x_getN (v := .int (zi (σ 6 (σ 5 y16)))) C 6 (by decide) hc17 hc18 rfl wd_185 (pc := 206) d_CX_clock_206 ?_
      refine x_putN (v := σ 6 (σ 5 y16)) C 7 (by decide) (by rw [ey16]; exact hc14) (by rw [ey16]; exact hc15) rfl ⟨rfl, rfl⟩ rfl wd_187 (pc := 209) d_CX_clock_209 ?_
      refine zN h (fun σ19 eσ19 h => ?_)
      refine z_iinc (L' := [(3, .int (zi (v3 + 1))), (4, zr ad 4 y16), (0, .ref (ad (0, 0))), (2, .int (zi v2))]) C (pc := 212) d_CX_clock_212 3 rfl (by decide) rfl ?_
      refine z_goto (tgt := 175) C (pc := 215) d_CX_clock_215 (by decide) ?_
      refine z_sub [2, 3, 0] rfl ?_
      exact ih _ _ _ h
set_option maxHeartbeats 4000000 in
set_option maxRecDepth 100000 in
theorem wk_CX_clock_137 {E : zE} {D : va_G} {g : zG} {A : Nat → Prop} {ad : zA} {Q : Int → zS → Prop} (C : zX E b_CX_clock R_CX D g { frames := 4, cells := 0, slots := 0, locals := 87 } 5) (R : zRt E (some .int) (zQi D g ad Q A) 0 0 A) (S : zSt g A (zst E) (zst E).heap) : ∀ (n : Nat) (v2 : Int) (v3 : Int) (σ : zS), lp_CX_clock_137 Q n v2 v3 σ → zW E (zOK D A (zst E) g ad) 0 0 137 [(0, .ref (ad (0, 0))), (2, .int (zi v2)), (3, .int (zi v3))] [] σ := by
  intro n
  induction n with
  | zero =>
    intro v2 v3 σ h
    exact h.elim
  | succ n ih =>
    intro v2 v3 σ h
    refine z_iload_n C (pc := 137) d_CX_clock_137 2 rfl ?_
    refine z_aload_n C (pc := 138) d_CX_clock_138 0 rfl ?_
    refine x_getX (v := .ref (ad (1, 4))) C 5 (by decide) rfl wd_90 (pc := 139) d_CX_clock_139 ?_
    refine x_size (P := True) C S 4 (by decide) wd_146 ⟨Nat.le_of_ble_eq_true rfl, Nat.le_of_ble_eq_true rfl⟩ (Nat.le_of_ble_eq_true rfl) (pc := 142) d_CX_clock_142 ?_
    obtain ⟨hc8, hc9, h⟩ := h
    refine z_icmp_ge (tgt := 173) C (pc := 145) d_CX_clock_145 (by decide) hc8 hc9 h (fun h => ?_) (fun h => ?_)
    · refine z_iconst C (pc := 173) d_CX_clock_173 ?_
      refine z_istore_n (L' := [(3, .int (zi 0)), (0, .ref (ad (0, 0))), (2, .int (zi v2))]) C (pc := 174) d_CX_clock_174 (by decide) rfl ?_
      refine z_sub [1, 2, 0] rfl ?_
      obtain ⟨n20, h⟩ := h
      exact wk_CX_clock_175 C R S n20 _ _ _ h
    · refine z_iload_n C (pc := 148) d_CX_clock_148 1 rfl ?_
      refine z_aload_n C (pc := 149) d_CX_clock_149 0 rfl ?_
      refine x_getX (v := .ref (ad (1, 4))) C 5 (by decide) rfl wd_90 (pc := 150) d_CX_clock_150 ?_
      refine z_iload_n C (pc := 153) d_CX_clock_153 2 rfl ?_
      obtain ⟨hc21, hc22, h⟩ := h
      refine x_lget C S 4 (by decide) hc21 hc22 wd_306 ⟨Nat.le_of_ble_eq_true rfl, Nat.le_of_ble_eq_true rfl⟩ (Nat.le_of_ble_eq_true rfl) (pc := 154) d_CX_clock_154 ?_
      obtain ⟨hc23, hc24, h⟩ := h
      refine x_castN C wd_83 (Or.inr ⟨hc23, hc24⟩) (pc := 157) d_CX_clock_157 ?_
      refine x_getN (v := .int (zi (σ 6 (σ 45 v3)))) C 6 (by decide) hc23 hc24 rfl wd_185 (pc := 160) d_CX_clock_160 ?_
      refine z_iload_n C (pc := 163) d_CX_clock_163 2 rfl ?_
      refine z_ishl C (pc := 164) d_CX_clock_164 ?_
      refine z_ior C (pc := 165) d_CX_clock_165 ?_
      refine zNi h (fun y25 ey25 h => ?_)
      refine z_istore_n (L' := [(2, .int (zi y25)), (0, .ref (ad (0, 0))), (3, .int (zi v3))]) C (pc := 166) d_CX_clock_166 (by decide) rfl ?_
      refine z_iinc (L' := [(3, .int (zi (v3 + 1))), (2, .int (zi y25)), (0, .ref (ad (0, 0)))]) C (pc := 167) d_CX_clock_167 2 rfl (by decide) rfl ?_
      refine z_goto (tgt := 137) C (pc := 170) d_CX_clock_170 (by decide) ?_
      refine z_sub [2, 1, 0] rfl ?_
      exact ih _ _ _ h
set_option maxHeartbeats 4000000 in
set_option maxRecDepth 100000 in
theorem wk_CX_clock_20 {E : zE} {D : va_G} {g : zG} {A : Nat → Prop} {ad : zA} {Q : Int → zS → Prop} (C : zX E b_CX_clock R_CX D g { frames := 4, cells := 0, slots := 0, locals := 87 } 5) (R : zRt E (some .int) (zQi D g ad Q A) 0 0 A) (S : zSt g A (zst E) (zst E).heap) : ∀ (n : Nat) (v2 : Int) (σ : zS), lp_CX_clock_20 Q n v2 σ → zW E (zOK D A (zst E) g ad) 0 0 20 [(0, .ref (ad (0, 0))), (2, .int (zi v2))] [] σ := by
  intro n
  induction n with
  | zero =>
    intro v2 σ h
    exact h.elim
  | succ n ih =>
    intro v2 σ h
    refine z_iload_n C (pc := 20) d_CX_clock_20 1 rfl ?_
    refine z_aload_n C (pc := 21) d_CX_clock_21 0 rfl ?_
    refine x_getX (v := .ref (ad (1, 0))) C 1 (by decide) rfl wd_86 (pc := 22) d_CX_clock_22 ?_
    refine x_size (P := True) C S 0 (by decide) wd_146 ⟨Nat.le_of_ble_eq_true rfl, Nat.le_of_ble_eq_true rfl⟩ (Nat.le_of_ble_eq_true rfl) (pc := 25) d_CX_clock_25 ?_
    obtain ⟨hc6, hc7, h⟩ := h
    refine z_icmp_ge (tgt := 133) C (pc := 28) d_CX_clock_28 (by decide) hc6 hc7 h (fun h => ?_) (fun h => ?_)
    · refine z_iconst C (pc := 133) d_CX_clock_133 ?_
      refine z_istore_n (L' := [(2, .int (zi 0)), (0, .ref (ad (0, 0)))]) C (pc := 134) d_CX_clock_134 (by decide) rfl ?_
      refine z_iconst C (pc := 135) d_CX_clock_135 ?_
      refine z_istore_n (L' := [(3, .int (zi 0)), (2, .int (zi 0)), (0, .ref (ad (0, 0)))]) C (pc := 136) d_CX_clock_136 (by decide) rfl ?_
      refine z_sub [2, 1, 0] rfl ?_
      obtain ⟨n26, h⟩ := h
      exact wk_CX_clock_137 C R S n26 _ _ _ h
    · refine z_aload_n C (pc := 31) d_CX_clock_31 0 rfl ?_
      refine x_getX (v := .ref (ad (1, 0))) C 1 (by decide) rfl wd_86 (pc := 32) d_CX_clock_32 ?_
      refine z_iload_n C (pc := 35) d_CX_clock_35 1 rfl ?_
      obtain ⟨hc27, hc28, h⟩ := h
      refine x_lget C S 0 (by decide) hc27 hc28 wd_306 ⟨Nat.le_of_ble_eq_true rfl, Nat.le_of_ble_eq_true rfl⟩ (Nat.le_of_ble_eq_true rfl) (pc := 36) d_CX_clock_36 ?_
      obtain ⟨hc29, hc30, h⟩ := h
      refine x_castN C wd_83 (Or.inr ⟨hc29, hc30⟩) (pc := 39) d_CX_clock_39 ?_
      refine zNz h (fun y31 ey31 h => ?_)
      refine z_astoreZ_n (L' := [(3, zr ad 4 y31), (0, .ref (ad (0, 0))), (2, .int (zi v2))]) C (pc := 42) d_CX_clock_42 (by decide) rfl ?_
      refine z_aloadZ_n C (pc := 43) d_CX_clock_43 0 rfl ?_
      refine x_getN (v := kv g (σ 1 y31)) C 1 (by decide) (by rw [ey31]; exact hc29) (by rw [ey31]; exact hc30) rfl wd_172 (pc := 44) d_CX_clock_44 ?_
      obtain ⟨hc32, hc33, h⟩ := h
      refine x_ordinal C S wd_680 ⟨Nat.le_of_ble_eq_true rfl, Nat.le_of_ble_eq_true rfl⟩ hc32 hc33 (Nat.le_of_ble_eq_true rfl) (pc := 47) d_CX_clock_47 ?_
      obtain ⟨hc34, h⟩ := h
      by_cases q44 : σ 1 y31 = 1
      · have h := h.1 q44
        refine z_tableIn (off := 26) (tgt := 76) C (pc := 50) d_CX_clock_50 hc34 (by omega) (by omega) (by rw [q44]; rfl) (by decide) ?_
        refine z_aloadZ_n C (pc := 76) d_CX_clock_76 0 rfl ?_
        refine z_aloadZ_n C (pc := 77) d_CX_clock_77 0 rfl ?_
        refine x_getN (v := .int (zi (σ 7 y31))) C 7 (by decide) (by rw [ey31]; exact hc29) (by rw [ey31]; exact hc30) rfl wd_187 (pc := 78) d_CX_clock_78 ?_
        refine x_putN (v := σ 7 y31) C 6 (by decide) (by rw [ey31]; exact hc29) (by rw [ey31]; exact hc30) rfl ⟨rfl, rfl⟩ rfl wd_185 (pc := 81) d_CX_clock_81 ?_
        refine zN h (fun σ35 eσ35 h => ?_)
        refine z_goto (tgt := 127) C (pc := 84) d_CX_clock_84 (by decide) ?_
        refine z_iinc (L' := [(2, .int (zi (v2 + 1))), (3, zr ad 4 y31), (0, .ref (ad (0, 0)))]) C (pc := 127) d_CX_clock_127 2 rfl (by decide) rfl ?_
        refine z_goto (tgt := 20) C (pc := 130) d_CX_clock_130 (by decide) ?_
        refine z_sub [2, 0] rfl ?_
        exact ih _ _ h
      · have h := h.2
        by_cases q45 : σ 1 y31 = 2
        · have h := h.1 q45
          refine z_tableIn (off := 53) (tgt := 103) C (pc := 50) d_CX_clock_50 hc34 (by omega) (by omega) (by rw [q45]; rfl) (by decide) ?_
          refine z_aloadZ_n C (pc := 103) d_CX_clock_103 0 rfl ?_
          refine z_iconst C (pc := 104) d_CX_clock_104 ?_
          refine z_aloadZ_n C (pc := 105) d_CX_clock_105 0 rfl ?_
          refine x_getN (v := zr ad 4 (σ 2 y31)) C 2 (by decide) (by rw [ey31]; exact hc29) (by rw [ey31]; exact hc30) rfl wd_177 (pc := 106) d_CX_clock_106 ?_
          obtain ⟨hc36, hc37, h⟩ := h
          refine x_getN (v := .int (zi (σ 6 (σ 2 y31)))) C 6 (by decide) hc36 hc37 rfl wd_185 (pc := 109) d_CX_clock_109 ?_
          refine z_aloadZ_n C (pc := 112) d_CX_clock_112 0 rfl ?_
          refine x_getN (v := zr ad 4 (σ 3 y31)) C 3 (by decide) (by rw [ey31]; exact hc29) (by rw [ey31]; exact hc30) rfl wd_181 (pc := 113) d_CX_clock_113 ?_
          obtain ⟨hc38, hc39, h⟩ := h
          refine x_getN (v := .int (zi (σ 6 (σ 3 y31)))) C 6 (by decide) hc38 hc39 rfl wd_185 (pc := 116) d_CX_clock_116 ?_
          refine z_iand C (pc := 119) d_CX_clock_119 ?_
          refine z_isub C (pc := 120) d_CX_clock_120 ?_
          refine x_putN (v := 1 - (zand (σ 6 (σ 2 y31)) (σ 6 (σ 3 y31)))) C 6 (by decide) (by rw [ey31]; exact hc29) (by rw [ey31]; exact hc30) rfl ⟨rfl, rfl⟩ rfl wd_185 (pc := 121) d_CX_clock_121 ?_
          refine zN h (fun σ40 eσ40 h => ?_)
          refine z_goto (tgt := 127) C (pc := 124) d_CX_clock_124 (by decide) ?_
          refine z_iinc (L' := [(2, .int (zi (v2 + 1))), (3, zr ad 4 y31), (0, .ref (ad (0, 0)))]) C (pc := 127) d_CX_clock_127 2 rfl (by decide) rfl ?_
          refine z_goto (tgt := 20) C (pc := 130) d_CX_clock_130 (by decide) ?_
          refine z_sub [2, 0] rfl ?_
          exact ih _ _ h
        · have h := h.2
          by_cases q46 : σ 1 y31 = 3
          · have h := h.1 q46
            refine z_tableIn (off := 37) (tgt := 87) C (pc := 50) d_CX_clock_50 hc34 (by omega) (by omega) (by rw [q46]; rfl) (by decide) ?_
            refine z_aloadZ_n C (pc := 87) d_CX_clock_87 0 rfl ?_
            refine z_iconst C (pc := 88) d_CX_clock_88 ?_
            refine z_aloadZ_n C (pc := 89) d_CX_clock_89 0 rfl ?_
            refine x_getN (v := zr ad 4 (σ 2 y31)) C 2 (by decide) (by rw [ey31]; exact hc29) (by rw [ey31]; exact hc30) rfl wd_177 (pc := 90) d_CX_clock_90 ?_
            obtain ⟨hc41, hc42, h⟩ := h
            refine x_getN (v := .int (zi (σ 6 (σ 2 y31)))) C 6 (by decide) hc41 hc42 rfl wd_185 (pc := 93) d_CX_clock_93 ?_
            refine z_isub C (pc := 96) d_CX_clock_96 ?_
            refine x_putN (v := 1 - (σ 6 (σ 2 y31))) C 6 (by decide) (by rw [ey31]; exact hc29) (by rw [ey31]; exact hc30) rfl ⟨rfl, rfl⟩ rfl wd_185 (pc := 97) d_CX_clock_97 ?_
            refine zN h (fun σ43 eσ43 h => ?_)
            refine z_goto (tgt := 127) C (pc := 100) d_CX_clock_100 (by decide) ?_
            refine z_iinc (L' := [(2, .int (zi (v2 + 1))), (3, zr ad 4 y31), (0, .ref (ad (0, 0)))]) C (pc := 127) d_CX_clock_127 2 rfl (by decide) rfl ?_
            refine z_goto (tgt := 20) C (pc := 130) d_CX_clock_130 (by decide) ?_
            refine z_sub [2, 0] rfl ?_
            exact ih _ _ h
          · have h := h.2
            have h := h (show σ 1 y31 < 1 ∨ 3 < σ 1 y31 by omega)
            refine z_tableOut (tgt := 127) C (pc := 50) d_CX_clock_50 hc34 (show σ 1 y31 < 1 ∨ 3 < σ 1 y31 by omega) (by decide) ?_
            refine z_iinc (L' := [(2, .int (zi (v2 + 1))), (3, zr ad 4 y31), (0, .ref (ad (0, 0)))]) C (pc := 127) d_CX_clock_127 2 rfl (by decide) rfl ?_
            refine z_goto (tgt := 20) C (pc := 130) d_CX_clock_130 (by decide) ?_
            refine z_sub [2, 0] rfl ?_
            exact ih _ _ h
set_option maxHeartbeats 4000000 in
set_option maxRecDepth 100000 in
theorem c_CX_clock (l : Launch) (D : va_G) (g : zG) (ad : zA) (v1 : Int) (Q : Int → zS → Prop) (σ : zS) (h : wp_CX_clock Q v1 σ) : zGi l y_CX_clock b_CX_clock 5 (some .int) { frames := 4, cells := 0, slots := 0, locals := 87 } D g ad σ [.ref (ad (0, 0)), .int (zi v1)] Q := by
  unfold wp_CX_clock at h
  refine zN_of (by decide) (Nat.le_of_ble_eq_true rfl) (fun E C R S => ?_)
  have C : zX E b_CX_clock R_CX D g { frames := 4, cells := 0, slots := 0, locals := 87 } 5 := C
  refine z_sub (L' := [(0, .ref (ad (0, 0))), (1, .int (zi v1))]) [0, 1] rfl ?_
  refine z_aload_n C (pc := 0) d_CX_clock_0 0 rfl ?_
  refine x_callVi (As := []) (st := []) C S fy_CX_undriven (0, 0) (zids_fix zfix_0) rfl rfl wd_469 (pc := 1) d_CX_clock_1 ⟨rfl, rfl, Nat.le_of_ble_eq_true rfl, Nat.le_of_ble_eq_true rfl⟩ rfl rfl (Nat.le_of_ble_eq_true rfl) h (c_CX_undriven (zln E) D g ad _ _) (fun r2 σ1 h => ?_)
  obtain ⟨hc3, h⟩ := h
  refine z_if_eq (tgt := 10) C (pc := 4) d_CX_clock_4 (by decide) hc3 h (fun h => ?_) (fun h => ?_)
  · refine z_aload_n C (pc := 10) d_CX_clock_10 0 rfl ?_
    refine x_getX (v := .ref (ad (1, 2))) C 3 (by decide) rfl wd_88 (pc := 11) d_CX_clock_11 ?_
    refine z_iload_n C (pc := 14) d_CX_clock_14 1 rfl ?_
    refine x_callSv (As := [.ref (ad (1, 2)), .int (zi v1)]) (st := []) C S fs_CX_feed wd_677 (pc := 15) d_CX_clock_15 ⟨rfl, rfl, Nat.le_of_ble_eq_true rfl, Nat.le_of_ble_eq_true rfl⟩ rfl rfl (Nat.le_of_ble_eq_true rfl) h (c_CX_feed (zln E) D g ad _ _ _) (fun σ4 h => ?_)
    refine z_iconst C (pc := 18) d_CX_clock_18 ?_
    refine z_istore_n (L' := [(2, .int (zi 0)), (0, .ref (ad (0, 0))), (1, .int (zi v1))]) C (pc := 19) d_CX_clock_19 (by decide) rfl ?_
    refine z_sub [1, 0] rfl ?_
    obtain ⟨n47, h⟩ := h
    exact wk_CX_clock_20 C R S n47 _ _ h
  · refine z_bipush C (pc := 7) d_CX_clock_7 (by decide) ?_
    exact z_iret C R (pc := 9) d_CX_clock_9 h
theorem d_CX_arrives_0 : decode b_CX_arrives 0 = .ok (.aload_n 0, 1) := by decide +kernel
theorem d_CX_arrives_1 : decode b_CX_arrives 1 = .ok (.getfield 98, 3) := by decide +kernel
theorem d_CX_arrives_4 : decode b_CX_arrives 4 = .ok (.iload_n 1, 1) := by decide +kernel
theorem d_CX_arrives_5 : decode b_CX_arrives 5 = .ok (.iaload, 1) := by decide +kernel
theorem d_CX_arrives_6 : decode b_CX_arrives 6 = .ok (.istore_n 2, 1) := by decide +kernel
theorem d_CX_arrives_7 : decode b_CX_arrives 7 = .ok (.iload_n 2, 1) := by decide +kernel
theorem d_CX_arrives_8 : decode b_CX_arrives 8 = .ok (.ifCond .ne 15, 3) := by decide +kernel
theorem d_CX_arrives_11 : decode b_CX_arrives 11 = .ok (.aload_n 0, 1) := by decide +kernel
theorem d_CX_arrives_12 : decode b_CX_arrives 12 = .ok (.getfield 95, 3) := by decide +kernel
theorem d_CX_arrives_15 : decode b_CX_arrives 15 = .ok (.iload_n 1, 1) := by decide +kernel
theorem d_CX_arrives_16 : decode b_CX_arrives 16 = .ok (.aaload, 1) := by decide +kernel
theorem d_CX_arrives_17 : decode b_CX_arrives 17 = .ok (.getfield 339, 3) := by decide +kernel
theorem d_CX_arrives_20 : decode b_CX_arrives 20 = .ok (.goto 16, 3) := by decide +kernel
theorem d_CX_arrives_23 : decode b_CX_arrives 23 = .ok (.aload_n 0, 1) := by decide +kernel
theorem d_CX_arrives_24 : decode b_CX_arrives 24 = .ok (.getfield 106, 3) := by decide +kernel
theorem d_CX_arrives_27 : decode b_CX_arrives 27 = .ok (.iload_n 1, 1) := by decide +kernel
theorem d_CX_arrives_28 : decode b_CX_arrives 28 = .ok (.laload, 1) := by decide +kernel
theorem d_CX_arrives_29 : decode b_CX_arrives 29 = .ok (.iload_n 2, 1) := by decide +kernel
theorem d_CX_arrives_30 : decode b_CX_arrives 30 = .ok (.iconst 1, 1) := by decide +kernel
theorem d_CX_arrives_31 : decode b_CX_arrives 31 = .ok (.isub, 1) := by decide +kernel
theorem d_CX_arrives_32 : decode b_CX_arrives 32 = .ok (.lushr, 1) := by decide +kernel
theorem d_CX_arrives_33 : decode b_CX_arrives 33 = .ok (.lconst 1, 1) := by decide +kernel
theorem d_CX_arrives_34 : decode b_CX_arrives 34 = .ok (.land, 1) := by decide +kernel
theorem d_CX_arrives_35 : decode b_CX_arrives 35 = .ok (.l2i, 1) := by decide +kernel
theorem d_CX_arrives_36 : decode b_CX_arrives 36 = .ok (.ireturn, 1) := by decide +kernel
def wp_CX_arrives (Q : Int → zS → Prop) (v1 : Int) (σ : zS) : Prop :=
  0 ≤ v1 ∧ v1 < 196 ∧ 
  ∀ y3, y3 = σ 52 v1 →
  zc y3 ∧ ((y3 = 0 →
    0 ≤ σ 51 v1 ∧ σ 51 v1 < σ 70 0 ∧ 
    Q (σ 6 (σ 51 v1)) σ) ∧
   (¬ y3 = 0 →
    Q (zland (zlushr (σ 54 v1) (y3 - 1)) 1) σ))
set_option maxHeartbeats 4000000 in
set_option maxRecDepth 100000 in
theorem c_CX_arrives (l : Launch) (D : va_G) (g : zG) (ad : zA) (v1 : Int) (Q : Int → zS → Prop) (σ : zS) (h : wp_CX_arrives Q v1 σ) : zGi l y_CX_arrives b_CX_arrives 3 (some .int) { frames := 0, cells := 0, slots := 0, locals := 0 } D g ad σ [.ref (ad (0, 0)), .int (zi v1)] Q := by
  unfold wp_CX_arrives at h
  refine zN_of (by decide) (Nat.le_of_ble_eq_true rfl) (fun E C R S => ?_)
  have C : zX E b_CX_arrives R_CX D g { frames := 0, cells := 0, slots := 0, locals := 0 } 3 := C
  refine z_sub (L' := [(0, .ref (ad (0, 0))), (1, .int (zi v1))]) [0, 1] rfl ?_
  refine z_aload_n C (pc := 0) d_CX_arrives_0 0 rfl ?_
  refine x_getX (v := .ref (ad (3, 2))) C 11 (by decide) rfl wd_96 (pc := 1) d_CX_arrives_1 ?_
  refine z_iload_n C (pc := 4) d_CX_arrives_4 1 rfl ?_
  obtain ⟨hc1, hc2, h⟩ := h
  refine x_iald C hc1 hc2 (pc := 5) d_CX_arrives_5 ?_
  refine zNi h (fun y3 ey3 h => ?_)
  refine z_istore_n (L' := [(2, .int (zi y3)), (0, .ref (ad (0, 0))), (1, .int (zi v1))]) C (pc := 6) d_CX_arrives_6 (by decide) rfl ?_
  refine z_iload_n C (pc := 7) d_CX_arrives_7 0 rfl ?_
  obtain ⟨hc4, h⟩ := h
  refine z_if_ne (tgt := 23) C (pc := 8) d_CX_arrives_8 (by decide) hc4 h (fun h => ?_) (fun h => ?_)
  · refine z_aload_n C (pc := 23) d_CX_arrives_23 1 rfl ?_
    refine x_getX (v := .ref (ad (3, 4))) C 13 (by decide) rfl wd_98 (pc := 24) d_CX_arrives_24 ?_
    refine z_iload_n C (pc := 27) d_CX_arrives_27 2 rfl ?_
    refine x_lald C 4 (by decide) hc1 hc2 (pc := 28) d_CX_arrives_28 ?_
    refine z_iload_n C (pc := 29) d_CX_arrives_29 0 rfl ?_
    refine z_iconst C (pc := 30) d_CX_arrives_30 ?_
    refine z_isub C (pc := 31) d_CX_arrives_31 ?_
    refine z_lushr C (pc := 32) d_CX_arrives_32 ?_
    refine z_lconst (y := 1) C (pc := 33) d_CX_arrives_33 (by decide) ?_
    refine z_land C (pc := 34) d_CX_arrives_34 ?_
    refine z_l2i C (pc := 35) d_CX_arrives_35 ?_
    exact z_iret C R (pc := 36) d_CX_arrives_36 h
  · refine z_aload_n C (pc := 11) d_CX_arrives_11 1 rfl ?_
    refine x_getX (v := .ref (ad (3, 1))) C 10 (by decide) rfl wd_95 (pc := 12) d_CX_arrives_12 ?_
    refine z_iload_n C (pc := 15) d_CX_arrives_15 2 rfl ?_
    refine x_aald C 1 (by decide) hc1 hc2 (pc := 16) d_CX_arrives_16 ?_
    obtain ⟨hc5, hc6, h⟩ := h
    refine x_getN (v := .int (zi (σ 6 (σ 51 v1)))) C 6 (by decide) hc5 hc6 rfl wd_185 (pc := 17) d_CX_arrives_17 ?_
    refine z_goto (tgt := 36) C (pc := 20) d_CX_arrives_20 (by decide) ?_
    exact z_iret C R (pc := 36) d_CX_arrives_36 h
theorem d_CX_reset_0 : decode b_CX_reset 0 = .ok (.iconst 0, 1) := by decide +kernel
theorem d_CX_reset_1 : decode b_CX_reset 1 = .ok (.istore_n 1, 1) := by decide +kernel
theorem d_CX_reset_2 : decode b_CX_reset 2 = .ok (.iload_n 1, 1) := by decide +kernel
theorem d_CX_reset_3 : decode b_CX_reset 3 = .ok (.aload_n 0, 1) := by decide +kernel
theorem d_CX_reset_4 : decode b_CX_reset 4 = .ok (.getfield 75, 3) := by decide +kernel
theorem d_CX_reset_7 : decode b_CX_reset 7 = .ok (.invokevirtual 113, 3) := by decide +kernel
theorem d_CX_reset_10 : decode b_CX_reset 10 = .ok (.if_icmp .ge 29, 3) := by decide +kernel
theorem d_CX_reset_13 : decode b_CX_reset 13 = .ok (.aload_n 0, 1) := by decide +kernel
theorem d_CX_reset_14 : decode b_CX_reset 14 = .ok (.getfield 75, 3) := by decide +kernel
theorem d_CX_reset_17 : decode b_CX_reset 17 = .ok (.iload_n 1, 1) := by decide +kernel
theorem d_CX_reset_18 : decode b_CX_reset 18 = .ok (.invokevirtual 116, 3) := by decide +kernel
theorem d_CX_reset_21 : decode b_CX_reset 21 = .ok (.checkcast 89, 3) := by decide +kernel
theorem d_CX_reset_24 : decode b_CX_reset 24 = .ok (.astore_n 2, 1) := by decide +kernel
theorem d_CX_reset_25 : decode b_CX_reset 25 = .ok (.aload_n 2, 1) := by decide +kernel
theorem d_CX_reset_26 : decode b_CX_reset 26 = .ok (.aload_n 2, 1) := by decide +kernel
theorem d_CX_reset_27 : decode b_CX_reset 27 = .ok (.getfield 120, 3) := by decide +kernel
theorem d_CX_reset_30 : decode b_CX_reset 30 = .ok (.putfield 123, 3) := by decide +kernel
theorem d_CX_reset_33 : decode b_CX_reset 33 = .ok (.iinc 1 1, 3) := by decide +kernel
theorem d_CX_reset_36 : decode b_CX_reset 36 = .ok (.goto (-34), 3) := by decide +kernel
theorem d_CX_reset_39 : decode b_CX_reset 39 = .ok (.aload_n 0, 1) := by decide +kernel
theorem d_CX_reset_40 : decode b_CX_reset 40 = .ok (.getfield 109, 3) := by decide +kernel
theorem d_CX_reset_43 : decode b_CX_reset 43 = .ok (.ifCond .eq 7, 3) := by decide +kernel
theorem d_CX_reset_46 : decode b_CX_reset 46 = .ok (.aload_n 0, 1) := by decide +kernel
theorem d_CX_reset_47 : decode b_CX_reset 47 = .ok (.invokevirtual 320, 3) := by decide +kernel
theorem d_CX_reset_50 : decode b_CX_reset 50 = .ok (.return_, 1) := by decide +kernel
def lp_CX_reset_2 (Q : zS → Prop) : Nat → Int → zS → Prop
  | 0 => fun _ _ => False
  | n + 1 => fun v1 σ =>
    zc v1 ∧ zc (σ 40 3) ∧ ((σ 40 3 ≤ v1 →
      zc (σ 56 0) ∧ ((σ 56 0 = 0 →
        Q σ) ∧
       (¬ σ 56 0 = 0 →
        wp_CX_restart (fun σ4 =>
          Q σ4) σ))) ∧
     (¬ σ 40 3 ≤ v1 →
      0 ≤ v1 ∧ v1 < σ 40 3 ∧ 
      0 ≤ σ 44 v1 ∧ σ 44 v1 < σ 70 0 ∧ 
      ∀ y10, y10 = σ 44 v1 →
      ∀ σ11, σ11 = zup σ 7 y10 (σ 4 y10) →
      lp_CX_reset_2 Q n (v1 + 1) σ11))
def wp_CX_reset (Q : zS → Prop) (σ : zS) : Prop :=
  ∃ u2, lp_CX_reset_2 Q u2 0 σ
set_option maxHeartbeats 4000000 in
set_option maxRecDepth 100000 in
theorem wk_CX_reset_2 {E : zE} {D : va_G} {g : zG} {A : Nat → Prop} {ad : zA} {Q : zS → Prop} (C : zX E b_CX_reset R_CX D g { frames := 3, cells := 0, slots := 0, locals := 80 } 3) (R : zRt E none (zQv D g ad Q A) 0 0 A) (S : zSt g A (zst E) (zst E).heap) : ∀ (n : Nat) (v1 : Int) (σ : zS), lp_CX_reset_2 Q n v1 σ → zW E (zOK D A (zst E) g ad) 0 0 2 [(0, .ref (ad (0, 0))), (1, .int (zi v1))] [] σ := by
  intro n
  induction n with
  | zero =>
    intro v1 σ h
    exact h.elim
  | succ n ih =>
    intro v1 σ h
    refine z_iload_n C (pc := 2) d_CX_reset_2 1 rfl ?_
    refine z_aload_n C (pc := 3) d_CX_reset_3 0 rfl ?_
    refine x_getX (v := .ref (ad (1, 3))) C 4 (by decide) rfl wd_89 (pc := 4) d_CX_reset_4 ?_
    refine x_size (P := True) C S 3 (by decide) wd_146 ⟨Nat.le_of_ble_eq_true rfl, Nat.le_of_ble_eq_true rfl⟩ (Nat.le_of_ble_eq_true rfl) (pc := 7) d_CX_reset_7 ?_
    obtain ⟨hc1, hc2, h⟩ := h
    refine z_icmp_ge (tgt := 39) C (pc := 10) d_CX_reset_10 (by decide) hc1 hc2 h (fun h => ?_) (fun h => ?_)
    · refine z_aload_n C (pc := 39) d_CX_reset_39 0 rfl ?_
      refine x_getX (v := .int (zi (σ 56 0))) C 8 (by decide) rfl wd_93 (pc := 40) d_CX_reset_40 ?_
      obtain ⟨hc3, h⟩ := h
      refine z_if_eq (tgt := 50) C (pc := 43) d_CX_reset_43 (by decide) hc3 h (fun h => ?_) (fun h => ?_)
      · exact z_vret C R (pc := 50) d_CX_reset_50 h
      · refine z_aload_n C (pc := 46) d_CX_reset_46 0 rfl ?_
        refine x_callVv (As := []) (st := []) C S fy_CX_restart (0, 0) (zids_fix zfix_0) rfl rfl wd_637 (pc := 47) d_CX_reset_47 ⟨rfl, rfl, Nat.le_of_ble_eq_true rfl, Nat.le_of_ble_eq_true rfl⟩ rfl rfl (Nat.le_of_ble_eq_true rfl) h (c_CX_restart (zln E) D g ad _ _) (fun σ4 h => ?_)
        exact z_vret C R (pc := 50) d_CX_reset_50 h
    · refine z_aload_n C (pc := 13) d_CX_reset_13 0 rfl ?_
      refine x_getX (v := .ref (ad (1, 3))) C 4 (by decide) rfl wd_89 (pc := 14) d_CX_reset_14 ?_
      refine z_iload_n C (pc := 17) d_CX_reset_17 1 rfl ?_
      obtain ⟨hc6, hc7, h⟩ := h
      refine x_lget C S 3 (by decide) hc6 hc7 wd_306 ⟨Nat.le_of_ble_eq_true rfl, Nat.le_of_ble_eq_true rfl⟩ (Nat.le_of_ble_eq_true rfl) (pc := 18) d_CX_reset_18 ?_
      obtain ⟨hc8, hc9, h⟩ := h
      refine x_castN C wd_83 (Or.inr ⟨hc8, hc9⟩) (pc := 21) d_CX_reset_21 ?_
      refine zNz h (fun y10 ey10 h => ?_)
      refine z_astoreZ_n (L' := [(2, zr ad 4 y10), (0, .ref (ad (0, 0))), (1, .int (zi v1))]) C (pc := 24) d_CX_reset_24 (by decide) rfl ?_
      refine z_aloadZ_n C (pc := 25) d_CX_reset_25 0 rfl ?_
      refine z_aloadZ_n C (pc := 26) d_CX_reset_26 0 rfl ?_
      refine x_getN (v := .int (zi (σ 4 y10))) C 4 (by decide) (by rw [ey10]; exact hc8) (by rw [ey10]; exact hc9) rfl wd_183 (pc := 27) d_CX_reset_27 ?_
      refine x_putN (v := σ 4 y10) C 7 (by decide) (by rw [ey10]; exact hc8) (by rw [ey10]; exact hc9) rfl ⟨rfl, rfl⟩ rfl wd_187 (pc := 30) d_CX_reset_30 ?_
      refine zN h (fun σ11 eσ11 h => ?_)
      refine z_iinc (L' := [(1, .int (zi (v1 + 1))), (2, zr ad 4 y10), (0, .ref (ad (0, 0)))]) C (pc := 33) d_CX_reset_33 2 rfl (by decide) rfl ?_
      refine z_goto (tgt := 2) C (pc := 36) d_CX_reset_36 (by decide) ?_
      refine z_sub [2, 0] rfl ?_
      exact ih _ _ h
set_option maxHeartbeats 4000000 in
set_option maxRecDepth 100000 in
theorem c_CX_reset (l : Launch) (D : va_G) (g : zG) (ad : zA) (Q : zS → Prop) (σ : zS) (h : wp_CX_reset Q σ) : zGv l y_CX_reset b_CX_reset 3 none { frames := 3, cells := 0, slots := 0, locals := 80 } D g ad σ [.ref (ad (0, 0))] Q := by
  unfold wp_CX_reset at h
  refine zN_of (by decide) (Nat.le_of_ble_eq_true rfl) (fun E C R S => ?_)
  have C : zX E b_CX_reset R_CX D g { frames := 3, cells := 0, slots := 0, locals := 80 } 3 := C
  refine z_sub (L' := [(0, .ref (ad (0, 0)))]) [0] rfl ?_
  refine z_iconst C (pc := 0) d_CX_reset_0 ?_
  refine z_istore_n (L' := [(1, .int (zi 0)), (0, .ref (ad (0, 0)))]) C (pc := 1) d_CX_reset_1 (by decide) rfl ?_
  refine z_sub [1, 0] rfl ?_
  obtain ⟨n12, h⟩ := h
  exact wk_CX_reset_2 C R S n12 _ _ h
