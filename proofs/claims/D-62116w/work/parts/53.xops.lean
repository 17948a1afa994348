theorem d_CX_net_0 : decode b_CX_net 0 = .ok (.aload_n 0, 1) := by decide +kernel
theorem d_CX_net_1 : decode b_CX_net 1 = .ok (.getfield 69, 3) := by decide +kernel
theorem d_CX_net_4 : decode b_CX_net 4 = .ok (.aload_n 1, 1) := by decide +kernel
theorem d_CX_net_5 : decode b_CX_net 5 = .ok (.invokevirtual 126, 3) := by decide +kernel
theorem d_CX_net_8 : decode b_CX_net 8 = .ok (.pop, 1) := by decide +kernel
theorem d_CX_net_9 : decode b_CX_net 9 = .ok (.aload_n 0, 1) := by decide +kernel
theorem d_CX_net_10 : decode b_CX_net 10 = .ok (.invokevirtual 130, 3) := by decide +kernel
theorem d_CX_net_13 : decode b_CX_net 13 = .ok (.aload_n 0, 1) := by decide +kernel
theorem d_CX_net_14 : decode b_CX_net 14 = .ok (.getfield 69, 3) := by decide +kernel
theorem d_CX_net_17 : decode b_CX_net 17 = .ok (.invokevirtual 113, 3) := by decide +kernel
theorem d_CX_net_20 : decode b_CX_net 20 = .ok (.iconst 1, 1) := by decide +kernel
theorem d_CX_net_21 : decode b_CX_net 21 = .ok (.isub, 1) := by decide +kernel
theorem d_CX_net_22 : decode b_CX_net 22 = .ok (.ireturn, 1) := by decide +kernel
def wp_CX_net (Q : Int → zS → Prop) (v1 : Int) (σ : zS) : Prop :=
  wp_add 1 (fun σ1 =>
    wp_CX_changed (fun σ4 =>
      zle σ1 σ4 ∧
      Q ((σ4 40 1) - 1) σ4) σ1) v1 σ
set_option maxHeartbeats 4000000 in
set_option maxRecDepth 100000 in
theorem c_CX_net (l : Launch) (D : va_G) (g : zG) (ad : zA) (v1 : Int) (Q : Int → zS → Prop) (σ : zS) (h : wp_CX_net Q v1 σ) (sz : Nat) : zHi l y_CX_net b_CX_net 2 (some .int) { frames := 7, cells := 1, slots := 100, locals := 191 } D g ad σ [.ref (ad (0, 0)), zr ad 4 v1] Q sz 1 100 := by
  unfold wp_CX_net at h
  refine zA_of (by decide) (by simp [lg_sl, zr_cat, kv_cat, cat_i, cat_l, cat_r]) (fun E C R S hA => ?_)
  have C : zX E b_CX_net R_CX D g { frames := 7, cells := 1, slots := 100, locals := 191 } 2 := C
  have hX : zEx ad σ ad σ := zEx.rf
  refine z_sub (L' := [(0, .ref (ad (0, 0))), (1, zr ad 4 v1)]) [0, 1] (by simp [lv_args, lv_pick, zr_cat, kv_cat, cat_i, cat_l, cat_r]) ?_
  refine z_aload_n C (pc := 0) d_CX_net_0 0 rfl ?_
  refine x_getX (v := .ref (ad (1, 1))) C 2 (by decide) rfl wd_87 (pc := 1) d_CX_net_1 ?_
  refine z_aloadZ_n C (pc := 4) d_CX_net_4 1 rfl ?_
  refine z_sub (L' := [(0, .ref (ad (0, 0)))]) [0] rfl ?_
  refine xa_callVi (As := [zr ad 4 v1]) (fun ad => [(0, .ref (ad (0, 0)))]) (fun ad => []) C S hA fy_AL_add (1, 1) (zids_fix (zfix_l (by decide))) rfl rfl wd_297 (pc := 5) d_CX_net_5 ⟨rfl, rfl, Nat.le_of_ble_eq_true rfl, Nat.le_of_ble_eq_true rfl⟩ ⟨Nat.le_of_ble_eq_true rfl, Nat.le_of_ble_eq_true rfl⟩ rfl rfl (Nat.le_of_ble_eq_true rfl) (fun ad' ha => ⟨by simp only [zo_ag ha zfix_0 (by decide)], rfl⟩) h (c_AL_add (zln E) D g ad 1 (by decide) _ _ _) (fun r3 σ1 ad hE2 h => ?_)
  have hX := hX.trans hE2
  refine z_pop C (pc := 8) d_CX_net_8 rfl ?_
  refine z_aload_n C (pc := 9) d_CX_net_9 0 rfl ?_
  refine x_callVv (hkn := ⟨Nat.le_of_ble_eq_true rfl, Nat.le_of_ble_eq_true rfl⟩) (As := []) (st := []) C S fy_CX_changed (0, 0) (zids_fix zfix_0) rfl rfl wd_302 (pc := 10) d_CX_net_10 ⟨rfl, rfl, Nat.le_of_ble_eq_true rfl, Nat.le_of_ble_eq_true rfl⟩ rfl rfl (Nat.le_of_ble_eq_true rfl) h (c_CX_changed (zln E) D g ad _ _) (fun σ4 h => ?_)
  obtain ⟨hE5, h⟩ := h
  have hX := hX.le hE5
  refine z_aload_n C (pc := 13) d_CX_net_13 0 rfl ?_
  refine x_getX (v := .ref (ad (1, 1))) C 2 (by decide) rfl wd_87 (pc := 14) d_CX_net_14 ?_
  refine x_size (hkn := ⟨Nat.le_of_ble_eq_true rfl, Nat.le_of_ble_eq_true rfl⟩) (P := True) C S 1 (by decide) wd_146 ⟨Nat.le_of_ble_eq_true rfl, Nat.le_of_ble_eq_true rfl⟩ (Nat.le_of_ble_eq_true rfl) (pc := 17) d_CX_net_17 ?_
  refine z_iconst C (pc := 20) d_CX_net_20 ?_
  refine z_isub C (pc := 21) d_CX_net_21 ?_
  exact za_iret C R hX (pc := 22) d_CX_net_22 h
theorem d_CX_input_0 : decode b_CX_input 0 = .ok (.aload_n 0, 1) := by decide +kernel
theorem d_CX_input_1 : decode b_CX_input 1 = .ok (.getfield 69, 3) := by decide +kernel
theorem d_CX_input_4 : decode b_CX_input 4 = .ok (.invokevirtual 113, 3) := by decide +kernel
theorem d_CX_input_7 : decode b_CX_input 7 = .ok (.bipush 40, 2) := by decide +kernel
theorem d_CX_input_9 : decode b_CX_input 9 = .ok (.if_icmp .ge 27, 3) := by decide +kernel
theorem d_CX_input_12 : decode b_CX_input 12 = .ok (.aload_n 0, 1) := by decide +kernel
theorem d_CX_input_13 : decode b_CX_input 13 = .ok (.getfield 72, 3) := by decide +kernel
theorem d_CX_input_16 : decode b_CX_input 16 = .ok (.invokevirtual 113, 3) := by decide +kernel
theorem d_CX_input_19 : decode b_CX_input 19 = .ok (.bipush 6, 2) := by decide +kernel
theorem d_CX_input_21 : decode b_CX_input 21 = .ok (.if_icmp .ge 15, 3) := by decide +kernel
theorem d_CX_input_24 : decode b_CX_input 24 = .ok (.aload_n 0, 1) := by decide +kernel
theorem d_CX_input_25 : decode b_CX_input 25 = .ok (.getfield 65, 3) := by decide +kernel
theorem d_CX_input_28 : decode b_CX_input 28 = .ok (.invokevirtual 113, 3) := by decide +kernel
theorem d_CX_input_31 : decode b_CX_input 31 = .ok (.bipush 48, 2) := by decide +kernel
theorem d_CX_input_33 : decode b_CX_input 33 = .ok (.if_icmp .lt 6, 3) := by decide +kernel
theorem d_CX_input_36 : decode b_CX_input 36 = .ok (.bipush (-2), 2) := by decide +kernel
theorem d_CX_input_38 : decode b_CX_input 38 = .ok (.ireturn, 1) := by decide +kernel
theorem d_CX_input_39 : decode b_CX_input 39 = .ok (.aload_n 0, 1) := by decide +kernel
theorem d_CX_input_40 : decode b_CX_input 40 = .ok (.getfield 57, 3) := by decide +kernel
theorem d_CX_input_43 : decode b_CX_input 43 = .ok (.getstatic 133, 3) := by decide +kernel
theorem d_CX_input_46 : decode b_CX_input 46 = .ok (.aconst_null, 1) := by decide +kernel
theorem d_CX_input_47 : decode b_CX_input 47 = .ok (.aconst_null, 1) := by decide +kernel
theorem d_CX_input_48 : decode b_CX_input 48 = .ok (.aload_n 0, 1) := by decide +kernel
theorem d_CX_input_49 : decode b_CX_input 49 = .ok (.getfield 72, 3) := by decide +kernel
theorem d_CX_input_52 : decode b_CX_input 52 = .ok (.invokevirtual 113, 3) := by decide +kernel
theorem d_CX_input_55 : decode b_CX_input 55 = .ok (.invokevirtual 139, 3) := by decide +kernel
theorem d_CX_input_58 : decode b_CX_input 58 = .ok (.astore_n 1, 1) := by decide +kernel
theorem d_CX_input_59 : decode b_CX_input 59 = .ok (.aload_n 0, 1) := by decide +kernel
theorem d_CX_input_60 : decode b_CX_input 60 = .ok (.getfield 72, 3) := by decide +kernel
theorem d_CX_input_63 : decode b_CX_input 63 = .ok (.aload_n 1, 1) := by decide +kernel
theorem d_CX_input_64 : decode b_CX_input 64 = .ok (.invokevirtual 126, 3) := by decide +kernel
theorem d_CX_input_67 : decode b_CX_input 67 = .ok (.pop, 1) := by decide +kernel
theorem d_CX_input_68 : decode b_CX_input 68 = .ok (.aload_n 0, 1) := by decide +kernel
theorem d_CX_input_69 : decode b_CX_input 69 = .ok (.aload_n 1, 1) := by decide +kernel
theorem d_CX_input_70 : decode b_CX_input 70 = .ok (.invokevirtual 142, 3) := by decide +kernel
theorem d_CX_input_73 : decode b_CX_input 73 = .ok (.ireturn, 1) := by decide +kernel
def wp_CX_input (Q : Int → zS → Prop) (σ : zS) : Prop :=
  zc (σ 40 1) ∧ ((40 ≤ σ 40 1 →
    Q (-2) σ) ∧
   (¬ 40 ≤ σ 40 1 →
    zc (σ 40 2) ∧ ((6 ≤ σ 40 2 →
      Q (-2) σ) ∧
     (¬ 6 ≤ σ 40 2 →
      zc (σ 40 0) ∧ ((σ 40 0 < 48 →
        wp_GR_add (fun r6 σ4 =>
          zvn σ4 r6 ∧ wp_add 2 (fun σ7 =>
            wp_CX_net (fun r13 σ11 =>
              Q r13 σ11) r6 σ7) r6 σ4) 0 (-1) (-1) (σ 40 2) σ) ∧
       (¬ σ 40 0 < 48 →
        Q (-2) σ))))))
set_option maxHeartbeats 4000000 in
set_option maxRecDepth 100000 in
theorem c_CX_input (l : Launch) (D : va_G) (g : zG) (ad : zA) (Q : Int → zS → Prop) (σ : zS) (h : wp_CX_input Q σ) (sz : Nat) : zHi l y_CX_input b_CX_input 2 (some .int) { frames := 8, cells := 4, slots := 318, locals := 216 } D g ad σ [.ref (ad (0, 0))] Q sz 4 318 := by
  unfold wp_CX_input at h
  refine zA_of (by decide) (Nat.le_of_ble_eq_true rfl) (fun E C R S hA => ?_)
  have C : zX E b_CX_input R_CX D g { frames := 8, cells := 4, slots := 318, locals := 216 } 2 := C
  have hX : zEx ad σ ad σ := zEx.rf
  refine z_sub (L' := [(0, .ref (ad (0, 0)))]) [0] rfl ?_
  refine z_aload_n C (pc := 0) d_CX_input_0 0 rfl ?_
  refine x_getX (v := .ref (ad (1, 1))) C 2 (by decide) rfl wd_87 (pc := 1) d_CX_input_1 ?_
  refine x_size (hkn := ⟨Nat.le_of_ble_eq_true rfl, Nat.le_of_ble_eq_true rfl⟩) (P := True) C S 1 (by decide) wd_146 ⟨Nat.le_of_ble_eq_true rfl, Nat.le_of_ble_eq_true rfl⟩ (Nat.le_of_ble_eq_true rfl) (pc := 4) d_CX_input_4 ?_
  refine z_bipush C (pc := 7) d_CX_input_7 (by decide) ?_
  obtain ⟨hc1, h⟩ := h
  refine z_icmp_ge (tgt := 36) C (pc := 9) d_CX_input_9 (by decide) hc1 (by decide) h (fun h => ?_) (fun h => ?_)
  · refine z_bipush C (pc := 36) d_CX_input_36 (by decide) ?_
    refine zW.widen (k' := 4) (n' := 318) (by decide) (by decide) ?_
    exact za_iret C R hX (pc := 38) d_CX_input_38 h
  · refine z_aload_n C (pc := 12) d_CX_input_12 0 rfl ?_
    refine x_getX (v := .ref (ad (1, 2))) C 3 (by decide) rfl wd_88 (pc := 13) d_CX_input_13 ?_
    refine x_size (hkn := ⟨Nat.le_of_ble_eq_true rfl, Nat.le_of_ble_eq_true rfl⟩) (P := True) C S 2 (by decide) wd_146 ⟨Nat.le_of_ble_eq_true rfl, Nat.le_of_ble_eq_true rfl⟩ (Nat.le_of_ble_eq_true rfl) (pc := 16) d_CX_input_16 ?_
    refine z_bipush C (pc := 19) d_CX_input_19 (by decide) ?_
    obtain ⟨hc2, h⟩ := h
    refine z_icmp_ge (tgt := 36) C (pc := 21) d_CX_input_21 (by decide) hc2 (by decide) h (fun h => ?_) (fun h => ?_)
    · refine z_bipush C (pc := 36) d_CX_input_36 (by decide) ?_
      refine zW.widen (k' := 4) (n' := 318) (by decide) (by decide) ?_
      exact za_iret C R hX (pc := 38) d_CX_input_38 h
    · refine z_aload_n C (pc := 24) d_CX_input_24 0 rfl ?_
      refine x_getX (v := .ref (ad (1, 0))) C 1 (by decide) rfl wd_86 (pc := 25) d_CX_input_25 ?_
      refine x_size (hkn := ⟨Nat.le_of_ble_eq_true rfl, Nat.le_of_ble_eq_true rfl⟩) (P := True) C S 0 (by decide) wd_146 ⟨Nat.le_of_ble_eq_true rfl, Nat.le_of_ble_eq_true rfl⟩ (Nat.le_of_ble_eq_true rfl) (pc := 28) d_CX_input_28 ?_
      refine z_bipush C (pc := 31) d_CX_input_31 (by decide) ?_
      obtain ⟨hc3, h⟩ := h
      refine z_icmp_lt (tgt := 39) C (pc := 33) d_CX_input_33 (by decide) hc3 (by decide) h (fun h => ?_) (fun h => ?_)
      · refine z_aload_n C (pc := 39) d_CX_input_39 0 rfl ?_
        refine x_getX (v := .ref (ad (0, 1))) C 0 (by decide) rfl wd_85 (pc := 40) d_CX_input_40 ?_
        refine x_gets C S 0 (by decide) (by decide) rfl wd_150 (pc := 43) d_CX_input_43 ?_
        refine z_nullZ (ad := ad) 4 C (pc := 46) d_CX_input_46 ?_
        refine z_nullZ (ad := ad) 4 C (pc := 47) d_CX_input_47 ?_
        refine z_aload_n C (pc := 48) d_CX_input_48 0 rfl ?_
        refine x_getX (v := .ref (ad (1, 2))) C 3 (by decide) rfl wd_88 (pc := 49) d_CX_input_49 ?_
        refine x_size (hkn := ⟨Nat.le_of_ble_eq_true rfl, Nat.le_of_ble_eq_true rfl⟩) (P := True) C S 2 (by decide) wd_146 ⟨Nat.le_of_ble_eq_true rfl, Nat.le_of_ble_eq_true rfl⟩ (by simp [zr_cat, kv_cat, cat_i, cat_l, cat_r]) (pc := 52) d_CX_input_52 ?_
        refine xa_callVr (As := [kv g 0, zr ad 4 (-1), zr ad 4 (-1), .int (zi (σ 40 2))]) (fun ad => [(0, .ref (ad (0, 0)))]) (fun ad => []) C S hA fy_GR_add (0, 1) (zids_fix zfix_1) rfl rfl wd_152 (pc := 55) d_CX_input_55 ⟨rfl, rfl, Nat.le_of_ble_eq_true rfl, Nat.le_of_ble_eq_true rfl⟩ ⟨Nat.le_of_ble_eq_true rfl, Nat.le_of_ble_eq_true rfl⟩ rfl rfl (Nat.le_of_ble_eq_true rfl) (fun ad' ha => ⟨by simp only [zo_ag ha zfix_0 (by decide)], rfl⟩) h (c_GR_add (zln E) D g ad _ _ _ _ _ _) (fun r6 σ4 ad hE5 h => ?_)
        have hX := hX.trans hE5
        refine z_astoreZ_n (L' := [(1, zr ad 4 r6), (0, .ref (ad (0, 0)))]) C (pc := 58) d_CX_input_58 (by decide) rfl ?_
        refine z_aload_n C (pc := 59) d_CX_input_59 1 rfl ?_
        refine x_getX (v := .ref (ad (1, 2))) C 3 (by decide) rfl wd_88 (pc := 60) d_CX_input_60 ?_
        refine z_aloadZ_n C (pc := 63) d_CX_input_63 0 rfl ?_
        obtain ⟨hc10, h⟩ := h
        refine xa_callVi (As := [zr ad 4 r6]) (fun ad => [(1, zr ad 4 r6), (0, .ref (ad (0, 0)))]) (fun ad => []) C S hA fy_AL_add (1, 2) (zids_fix (zfix_l (by decide))) rfl rfl wd_297 (pc := 64) d_CX_input_64 ⟨rfl, rfl, Nat.le_of_ble_eq_true rfl, Nat.le_of_ble_eq_true rfl⟩ ⟨Nat.le_of_ble_eq_true rfl, Nat.le_of_ble_eq_true rfl⟩ rfl rfl (Nat.le_of_ble_eq_true rfl) (fun ad' ha => ⟨by simp only [zr_ag (x := r6) ha hc10, zo_ag ha zfix_0 (by decide)], rfl⟩) h (c_AL_add (zln E) D g ad 2 (by decide) _ _ _) (fun r9 σ7 ad hE8 h => ?_)
        have hX := hX.trans hE8
        refine z_pop C (pc := 67) d_CX_input_67 rfl ?_
        refine z_aload_n C (pc := 68) d_CX_input_68 1 rfl ?_
        refine z_aloadZ_n C (pc := 69) d_CX_input_69 0 rfl ?_
        refine z_sub (L' := []) [] rfl ?_
        refine xa_callVi (As := [zr ad 4 r6]) (fun ad => []) (fun ad => []) C S hA fy_CX_net (0, 0) (zids_fix zfix_0) rfl rfl wd_298 (pc := 70) d_CX_input_70 ⟨rfl, rfl, Nat.le_of_ble_eq_true rfl, Nat.le_of_ble_eq_true rfl⟩ ⟨Nat.le_of_ble_eq_true rfl, Nat.le_of_ble_eq_true rfl⟩ rfl rfl (Nat.le_of_ble_eq_true rfl) (fun ad' ha => ⟨rfl, rfl⟩) h (c_CX_net (zln E) D g ad _ _ _) (fun r13 σ11 ad hE12 h => ?_)
        have hX := hX.trans hE12
        exact za_iret C R hX (pc := 73) d_CX_input_73 h
      · refine z_bipush C (pc := 36) d_CX_input_36 (by decide) ?_
        refine zW.widen (k' := 4) (n' := 318) (by decide) (by decide) ?_
        exact za_iret C R hX (pc := 38) d_CX_input_38 h
theorem d_CX_latch_0 : decode b_CX_latch 0 = .ok (.iload_n 1, 1) := by decide +kernel
theorem d_CX_latch_1 : decode b_CX_latch 1 = .ok (.ifCond .lt 8, 3) := by decide +kernel
theorem d_CX_latch_4 : decode b_CX_latch 4 = .ok (.iload_n 1, 1) := by decide +kernel
theorem d_CX_latch_5 : decode b_CX_latch 5 = .ok (.iconst 1, 1) := by decide +kernel
theorem d_CX_latch_6 : decode b_CX_latch 6 = .ok (.if_icmp .le 5, 3) := by decide +kernel
theorem d_CX_latch_9 : decode b_CX_latch 9 = .ok (.iconst (-1), 1) := by decide +kernel
theorem d_CX_latch_10 : decode b_CX_latch 10 = .ok (.ireturn, 1) := by decide +kernel
theorem d_CX_latch_11 : decode b_CX_latch 11 = .ok (.aload_n 0, 1) := by decide +kernel
theorem d_CX_latch_12 : decode b_CX_latch 12 = .ok (.getfield 69, 3) := by decide +kernel
theorem d_CX_latch_15 : decode b_CX_latch 15 = .ok (.invokevirtual 113, 3) := by decide +kernel
theorem d_CX_latch_18 : decode b_CX_latch 18 = .ok (.bipush 40, 2) := by decide +kernel
theorem d_CX_latch_20 : decode b_CX_latch 20 = .ok (.if_icmp .ge 27, 3) := by decide +kernel
theorem d_CX_latch_23 : decode b_CX_latch 23 = .ok (.aload_n 0, 1) := by decide +kernel
theorem d_CX_latch_24 : decode b_CX_latch 24 = .ok (.getfield 75, 3) := by decide +kernel
theorem d_CX_latch_27 : decode b_CX_latch 27 = .ok (.invokevirtual 113, 3) := by decide +kernel
theorem d_CX_latch_30 : decode b_CX_latch 30 = .ok (.bipush 6, 2) := by decide +kernel
theorem d_CX_latch_32 : decode b_CX_latch 32 = .ok (.if_icmp .ge 15, 3) := by decide +kernel
theorem d_CX_latch_35 : decode b_CX_latch 35 = .ok (.aload_n 0, 1) := by decide +kernel
theorem d_CX_latch_36 : decode b_CX_latch 36 = .ok (.getfield 65, 3) := by decide +kernel
theorem d_CX_latch_39 : decode b_CX_latch 39 = .ok (.invokevirtual 113, 3) := by decide +kernel
theorem d_CX_latch_42 : decode b_CX_latch 42 = .ok (.bipush 48, 2) := by decide +kernel
theorem d_CX_latch_44 : decode b_CX_latch 44 = .ok (.if_icmp .lt 6, 3) := by decide +kernel
theorem d_CX_latch_47 : decode b_CX_latch 47 = .ok (.bipush (-2), 2) := by decide +kernel
theorem d_CX_latch_49 : decode b_CX_latch 49 = .ok (.ireturn, 1) := by decide +kernel
theorem d_CX_latch_50 : decode b_CX_latch 50 = .ok (.aload_n 0, 1) := by decide +kernel
theorem d_CX_latch_51 : decode b_CX_latch 51 = .ok (.getfield 57, 3) := by decide +kernel
theorem d_CX_latch_54 : decode b_CX_latch 54 = .ok (.getstatic 146, 3) := by decide +kernel
theorem d_CX_latch_57 : decode b_CX_latch 57 = .ok (.aconst_null, 1) := by decide +kernel
theorem d_CX_latch_58 : decode b_CX_latch 58 = .ok (.aconst_null, 1) := by decide +kernel
theorem d_CX_latch_59 : decode b_CX_latch 59 = .ok (.iload_n 1, 1) := by decide +kernel
theorem d_CX_latch_60 : decode b_CX_latch 60 = .ok (.invokevirtual 139, 3) := by decide +kernel
theorem d_CX_latch_63 : decode b_CX_latch 63 = .ok (.astore_n 2, 1) := by decide +kernel
theorem d_CX_latch_64 : decode b_CX_latch 64 = .ok (.aload_n 2, 1) := by decide +kernel
theorem d_CX_latch_65 : decode b_CX_latch 65 = .ok (.aload_n 0, 1) := by decide +kernel
theorem d_CX_latch_66 : decode b_CX_latch 66 = .ok (.getfield 69, 3) := by decide +kernel
theorem d_CX_latch_69 : decode b_CX_latch 69 = .ok (.invokevirtual 113, 3) := by decide +kernel
theorem d_CX_latch_72 : decode b_CX_latch 72 = .ok (.putfield 149, 3) := by decide +kernel
theorem d_CX_latch_75 : decode b_CX_latch 75 = .ok (.aload_n 0, 1) := by decide +kernel
theorem d_CX_latch_76 : decode b_CX_latch 76 = .ok (.getfield 75, 3) := by decide +kernel
theorem d_CX_latch_79 : decode b_CX_latch 79 = .ok (.aload_n 2, 1) := by decide +kernel
theorem d_CX_latch_80 : decode b_CX_latch 80 = .ok (.invokevirtual 126, 3) := by decide +kernel
theorem d_CX_latch_83 : decode b_CX_latch 83 = .ok (.pop, 1) := by decide +kernel
theorem d_CX_latch_84 : decode b_CX_latch 84 = .ok (.aload_n 0, 1) := by decide +kernel
theorem d_CX_latch_85 : decode b_CX_latch 85 = .ok (.aload_n 2, 1) := by decide +kernel
theorem d_CX_latch_86 : decode b_CX_latch 86 = .ok (.invokevirtual 142, 3) := by decide +kernel
theorem d_CX_latch_89 : decode b_CX_latch 89 = .ok (.ireturn, 1) := by decide +kernel
def wp_CX_latch (Q : Int → zS → Prop) (v1 : Int) (σ : zS) : Prop :=
  zc v1 ∧ ((v1 < 0 →
    Q (-1) σ) ∧
   (¬ v1 < 0 →
    ((v1 ≤ 1 →
      zc (σ 40 1) ∧ ((40 ≤ σ 40 1 →
        Q (-2) σ) ∧
       (¬ 40 ≤ σ 40 1 →
        zc (σ 40 3) ∧ ((6 ≤ σ 40 3 →
          Q (-2) σ) ∧
         (¬ 6 ≤ σ 40 3 →
          zc (σ 40 0) ∧ ((σ 40 0 < 48 →
            wp_GR_add (fun r7 σ5 =>
              0 ≤ r7 ∧ r7 < σ5 70 0 ∧ ∀ σ8, σ8 = zup σ5 8 r7 (σ5 40 1) →
              wp_add 3 (fun σ11 =>
                wp_CX_net (fun r16 σ14 =>
                  Q r16 σ14) r7 σ11) r7 σ8) 1 (-1) (-1) v1 σ) ∧
           (¬ σ 40 0 < 48 →
            Q (-2) σ))))))) ∧
     (¬ v1 ≤ 1 →
      Q (-1) σ))))
set_option maxHeartbeats 4000000 in
set_option maxRecDepth 100000 in
theorem c_CX_latch (l : Launch) (D : va_G) (g : zG) (ad : zA) (v1 : Int) (Q : Int → zS → Prop) (σ : zS) (h : wp_CX_latch Q v1 σ) (sz : Nat) : zHi l y_CX_latch b_CX_latch 3 (some .int) { frames := 8, cells := 4, slots := 318, locals := 216 } D g ad σ [.ref (ad (0, 0)), .int (zi v1)] Q sz 4 318 := by
  unfold wp_CX_latch at h
  refine zA_of (by decide) (Nat.le_of_ble_eq_true rfl) (fun E C R S hA => ?_)
  have C : zX E b_CX_latch R_CX D g { frames := 8, cells := 4, slots := 318, locals := 216 } 3 := C
  have hX : zEx ad σ ad σ := zEx.rf
  refine z_sub (L' := [(0, .ref (ad (0, 0))), (1, .int (zi v1))]) [0, 1] rfl ?_
  refine z_iload_n C (pc := 0) d_CX_latch_0 1 rfl ?_
  obtain ⟨hc1, h⟩ := h
  refine z_if_lt (tgt := 9) C (pc := 1) d_CX_latch_1 (by decide) hc1 h (fun h => ?_) (fun h => ?_)
  · refine z_iconst C (pc := 9) d_CX_latch_9 ?_
    refine zW.widen (k' := 4) (n' := 318) (by decide) (by decide) ?_
    exact za_iret C R hX (pc := 10) d_CX_latch_10 h
  · refine z_iload_n C (pc := 4) d_CX_latch_4 1 rfl ?_
    refine z_iconst C (pc := 5) d_CX_latch_5 ?_
    refine z_icmp_le (tgt := 11) C (pc := 6) d_CX_latch_6 (by decide) hc1 (by decide) h (fun h => ?_) (fun h => ?_)
    · refine z_aload_n C (pc := 11) d_CX_latch_11 0 rfl ?_
      refine x_getX (v := .ref (ad (1, 1))) C 2 (by decide) rfl wd_87 (pc := 12) d_CX_latch_12 ?_
      refine x_size (hkn := ⟨Nat.le_of_ble_eq_true rfl, Nat.le_of_ble_eq_true rfl⟩) (P := True) C S 1 (by decide) wd_146 ⟨Nat.le_of_ble_eq_true rfl, Nat.le_of_ble_eq_true rfl⟩ (Nat.le_of_ble_eq_true rfl) (pc := 15) d_CX_latch_15 ?_
      refine z_bipush C (pc := 18) d_CX_latch_18 (by decide) ?_
      obtain ⟨hc2, h⟩ := h
      refine z_icmp_ge (tgt := 47) C (pc := 20) d_CX_latch_20 (by decide) hc2 (by decide) h (fun h => ?_) (fun h => ?_)
      · refine z_bipush C (pc := 47) d_CX_latch_47 (by decide) ?_
        refine zW.widen (k' := 4) (n' := 318) (by decide) (by decide) ?_
        exact za_iret C R hX (pc := 49) d_CX_latch_49 h
      · refine z_aload_n C (pc := 23) d_CX_latch_23 0 rfl ?_
        refine x_getX (v := .ref (ad (1, 3))) C 4 (by decide) rfl wd_89 (pc := 24) d_CX_latch_24 ?_
        refine x_size (hkn := ⟨Nat.le_of_ble_eq_true rfl, Nat.le_of_ble_eq_true rfl⟩) (P := True) C S 3 (by decide) wd_146 ⟨Nat.le_of_ble_eq_true rfl, Nat.le_of_ble_eq_true rfl⟩ (Nat.le_of_ble_eq_true rfl) (pc := 27) d_CX_latch_27 ?_
        refine z_bipush C (pc := 30) d_CX_latch_30 (by decide) ?_
        obtain ⟨hc3, h⟩ := h
        refine z_icmp_ge (tgt := 47) C (pc := 32) d_CX_latch_32 (by decide) hc3 (by decide) h (fun h => ?_) (fun h => ?_)
        · refine z_bipush C (pc := 47) d_CX_latch_47 (by decide) ?_
          refine zW.widen (k' := 4) (n' := 318) (by decide) (by decide) ?_
          exact za_iret C R hX (pc := 49) d_CX_latch_49 h
        · refine z_aload_n C (pc := 35) d_CX_latch_35 0 rfl ?_
          refine x_getX (v := .ref (ad (1, 0))) C 1 (by decide) rfl wd_86 (pc := 36) d_CX_latch_36 ?_
          refine x_size (hkn := ⟨Nat.le_of_ble_eq_true rfl, Nat.le_of_ble_eq_true rfl⟩) (P := True) C S 0 (by decide) wd_146 ⟨Nat.le_of_ble_eq_true rfl, Nat.le_of_ble_eq_true rfl⟩ (Nat.le_of_ble_eq_true rfl) (pc := 39) d_CX_latch_39 ?_
          refine z_bipush C (pc := 42) d_CX_latch_42 (by decide) ?_
          obtain ⟨hc4, h⟩ := h
          refine z_icmp_lt (tgt := 50) C (pc := 44) d_CX_latch_44 (by decide) hc4 (by decide) h (fun h => ?_) (fun h => ?_)
          · refine z_aload_n C (pc := 50) d_CX_latch_50 0 rfl ?_
            refine x_getX (v := .ref (ad (0, 1))) C 0 (by decide) rfl wd_85 (pc := 51) d_CX_latch_51 ?_
            refine x_gets C S 1 (by decide) (by decide) rfl wd_324 (pc := 54) d_CX_latch_54 ?_
            refine z_nullZ (ad := ad) 4 C (pc := 57) d_CX_latch_57 ?_
            refine z_nullZ (ad := ad) 4 C (pc := 58) d_CX_latch_58 ?_
            refine z_iload_n C (pc := 59) d_CX_latch_59 1 rfl ?_
            refine z_sub (L' := [(0, .ref (ad (0, 0)))]) [0] rfl ?_
            refine xa_callVr (As := [kv g 1, zr ad 4 (-1), zr ad 4 (-1), .int (zi v1)]) (fun ad => [(0, .ref (ad (0, 0)))]) (fun ad => []) C S hA fy_GR_add (0, 1) (zids_fix zfix_1) rfl rfl wd_152 (pc := 60) d_CX_latch_60 ⟨rfl, rfl, Nat.le_of_ble_eq_true rfl, Nat.le_of_ble_eq_true rfl⟩ ⟨Nat.le_of_ble_eq_true rfl, Nat.le_of_ble_eq_true rfl⟩ rfl rfl (Nat.le_of_ble_eq_true rfl) (fun ad' ha => ⟨by simp only [zo_ag ha zfix_0 (by decide)], rfl⟩) h (c_GR_add (zln E) D g ad _ _ _ _ _ _) (fun r7 σ5 ad hE6 h => ?_)
            have hX := hX.trans hE6
            refine z_astoreZ_n (L' := [(2, zr ad 4 r7), (0, .ref (ad (0, 0)))]) C (pc := 63) d_CX_latch_63 (by decide) rfl ?_
            refine z_aloadZ_n C (pc := 64) d_CX_latch_64 0 rfl ?_
            refine z_aload_n C (pc := 65) d_CX_latch_65 1 rfl ?_
            refine x_getX (v := .ref (ad (1, 1))) C 2 (by decide) rfl wd_87 (pc := 66) d_CX_latch_66 ?_
            refine x_size (hkn := ⟨Nat.le_of_ble_eq_true rfl, Nat.le_of_ble_eq_true rfl⟩) (P := True) C S 1 (by decide) wd_146 ⟨Nat.le_of_ble_eq_true rfl, Nat.le_of_ble_eq_true rfl⟩ (by simp [zr_cat, kv_cat, cat_i, cat_l, cat_r]) (pc := 69) d_CX_latch_69 ?_
            obtain ⟨hc9, hc10, h⟩ := h
            refine x_putN (v := σ5 40 1) C 8 (by decide) hc9 hc10 rfl ⟨rfl, rfl⟩ rfl wd_188 (pc := 72) d_CX_latch_72 ?_
            refine zN h (fun σ8 eσ8 h => ?_)
            have hX := hX.upE eσ8 (by decide) (by decide) (by decide)
            refine z_aload_n C (pc := 75) d_CX_latch_75 1 rfl ?_
            refine x_getX (v := .ref (ad (1, 3))) C 4 (by decide) rfl wd_89 (pc := 76) d_CX_latch_76 ?_
            refine z_aloadZ_n C (pc := 79) d_CX_latch_79 0 rfl ?_
            refine xa_callVi (As := [zr ad 4 r7]) (fun ad => [(2, zr ad 4 r7), (0, .ref (ad (0, 0)))]) (fun ad => []) C S hA fy_AL_add (1, 3) (zids_fix (zfix_l (by decide))) rfl rfl wd_297 (pc := 80) d_CX_latch_80 ⟨rfl, rfl, Nat.le_of_ble_eq_true rfl, Nat.le_of_ble_eq_true rfl⟩ ⟨Nat.le_of_ble_eq_true rfl, Nat.le_of_ble_eq_true rfl⟩ rfl rfl (Nat.le_of_ble_eq_true rfl) (fun ad' ha => ⟨by simp only [zr_ag (x := r7) ha (Or.inr ⟨hc9, (by rw [eσ8]; exact hc10)⟩), zo_ag ha zfix_0 (by decide)], rfl⟩) h (c_AL_add (zln E) D g ad 3 (by decide) _ _ _) (fun r13 σ11 ad hE12 h => ?_)
            have hX := hX.trans hE12
            refine z_pop C (pc := 83) d_CX_latch_83 rfl ?_
            refine z_aload_n C (pc := 84) d_CX_latch_84 1 rfl ?_
            refine z_aloadZ_n C (pc := 85) d_CX_latch_85 0 rfl ?_
            refine z_sub (L' := []) [] rfl ?_
            refine xa_callVi (As := [zr ad 4 r7]) (fun ad => []) (fun ad => []) C S hA fy_CX_net (0, 0) (zids_fix zfix_0) rfl rfl wd_298 (pc := 86) d_CX_latch_86 ⟨rfl, rfl, Nat.le_of_ble_eq_true rfl, Nat.le_of_ble_eq_true rfl⟩ ⟨Nat.le_of_ble_eq_true rfl, Nat.le_of_ble_eq_true rfl⟩ rfl rfl (Nat.le_of_ble_eq_true rfl) (fun ad' ha => ⟨rfl, rfl⟩) h (c_CX_net (zln E) D g ad _ _ _) (fun r16 σ14 ad hE15 h => ?_)
            have hX := hX.trans hE15
            exact za_iret C R hX (pc := 89) d_CX_latch_89 h
          · refine z_bipush C (pc := 47) d_CX_latch_47 (by decide) ?_
            refine zW.widen (k' := 4) (n' := 318) (by decide) (by decide) ?_
            exact za_iret C R hX (pc := 49) d_CX_latch_49 h
    · refine z_iconst C (pc := 9) d_CX_latch_9 ?_
      refine zW.widen (k' := 4) (n' := 318) (by decide) (by decide) ?_
      exact za_iret C R hX (pc := 10) d_CX_latch_10 h
theorem d_CX_function_0 : decode b_CX_function 0 = .ok (.aload_n 0, 1) := by decide +kernel
theorem d_CX_function_1 : decode b_CX_function 1 = .ok (.iload_n 1, 1) := by decide +kernel
theorem d_CX_function_2 : decode b_CX_function 2 = .ok (.invokevirtual 152, 3) := by decide +kernel
theorem d_CX_function_5 : decode b_CX_function 5 = .ok (.astore 5, 2) := by decide +kernel
theorem d_CX_function_7 : decode b_CX_function 7 = .ok (.aload_n 0, 1) := by decide +kernel
theorem d_CX_function_8 : decode b_CX_function 8 = .ok (.iload_n 2, 1) := by decide +kernel
theorem d_CX_function_9 : decode b_CX_function 9 = .ok (.invokevirtual 152, 3) := by decide +kernel
theorem d_CX_function_12 : decode b_CX_function 12 = .ok (.astore 6, 2) := by decide +kernel
theorem d_CX_function_14 : decode b_CX_function 14 = .ok (.aload_n 0, 1) := by decide +kernel
theorem d_CX_function_15 : decode b_CX_function 15 = .ok (.iload_n 3, 1) := by decide +kernel
theorem d_CX_function_16 : decode b_CX_function 16 = .ok (.invokevirtual 152, 3) := by decide +kernel
theorem d_CX_function_19 : decode b_CX_function 19 = .ok (.astore 7, 2) := by decide +kernel
theorem d_CX_function_21 : decode b_CX_function 21 = .ok (.aload 5, 2) := by decide +kernel
theorem d_CX_function_23 : decode b_CX_function 23 = .ok (.ifnull 33, 3) := by decide +kernel
theorem d_CX_function_26 : decode b_CX_function 26 = .ok (.aload 6, 2) := by decide +kernel
theorem d_CX_function_28 : decode b_CX_function 28 = .ok (.ifnonnull 8, 3) := by decide +kernel
theorem d_CX_function_31 : decode b_CX_function 31 = .ok (.iload_n 2, 1) := by decide +kernel
theorem d_CX_function_32 : decode b_CX_function 32 = .ok (.iconst (-1), 1) := by decide +kernel
theorem d_CX_function_33 : decode b_CX_function 33 = .ok (.if_icmp .ne 23, 3) := by decide +kernel
theorem d_CX_function_36 : decode b_CX_function 36 = .ok (.aload 7, 2) := by decide +kernel
theorem d_CX_function_38 : decode b_CX_function 38 = .ok (.ifnonnull 8, 3) := by decide +kernel
theorem d_CX_function_41 : decode b_CX_function 41 = .ok (.iload_n 3, 1) := by decide +kernel
theorem d_CX_function_42 : decode b_CX_function 42 = .ok (.iconst (-1), 1) := by decide +kernel
theorem d_CX_function_43 : decode b_CX_function 43 = .ok (.if_icmp .ne 13, 3) := by decide +kernel
theorem d_CX_function_46 : decode b_CX_function 46 = .ok (.aload 6, 2) := by decide +kernel
theorem d_CX_function_48 : decode b_CX_function 48 = .ok (.ifnonnull 10, 3) := by decide +kernel
theorem d_CX_function_51 : decode b_CX_function 51 = .ok (.aload 7, 2) := by decide +kernel
theorem d_CX_function_53 : decode b_CX_function 53 = .ok (.ifnull 5, 3) := by decide +kernel
theorem d_CX_function_56 : decode b_CX_function 56 = .ok (.iconst (-1), 1) := by decide +kernel
theorem d_CX_function_57 : decode b_CX_function 57 = .ok (.ireturn, 1) := by decide +kernel
theorem d_CX_function_58 : decode b_CX_function 58 = .ok (.aload 7, 2) := by decide +kernel
theorem d_CX_function_60 : decode b_CX_function 60 = .ok (.ifnull 7, 3) := by decide +kernel
theorem d_CX_function_63 : decode b_CX_function 63 = .ok (.iconst 3, 1) := by decide +kernel
theorem d_CX_function_64 : decode b_CX_function 64 = .ok (.goto 13, 3) := by decide +kernel
theorem d_CX_function_67 : decode b_CX_function 67 = .ok (.aload 6, 2) := by decide +kernel
theorem d_CX_function_69 : decode b_CX_function 69 = .ok (.ifnull 7, 3) := by decide +kernel
theorem d_CX_function_72 : decode b_CX_function 72 = .ok (.iconst 2, 1) := by decide +kernel
theorem d_CX_function_73 : decode b_CX_function 73 = .ok (.goto 4, 3) := by decide +kernel
theorem d_CX_function_76 : decode b_CX_function 76 = .ok (.iconst 1, 1) := by decide +kernel
theorem d_CX_function_77 : decode b_CX_function 77 = .ok (.istore 8, 2) := by decide +kernel
theorem d_CX_function_79 : decode b_CX_function 79 = .ok (.iconst 1, 1) := by decide +kernel
theorem d_CX_function_80 : decode b_CX_function 80 = .ok (.iconst 1, 1) := by decide +kernel
theorem d_CX_function_81 : decode b_CX_function 81 = .ok (.iload 8, 2) := by decide +kernel
theorem d_CX_function_83 : decode b_CX_function 83 = .ok (.ishl, 1) := by decide +kernel
theorem d_CX_function_84 : decode b_CX_function 84 = .ok (.ishl, 1) := by decide +kernel
theorem d_CX_function_85 : decode b_CX_function 85 = .ok (.iconst 1, 1) := by decide +kernel
theorem d_CX_function_86 : decode b_CX_function 86 = .ok (.isub, 1) := by decide +kernel
theorem d_CX_function_87 : decode b_CX_function 87 = .ok (.istore 9, 2) := by decide +kernel
theorem d_CX_function_89 : decode b_CX_function 89 = .ok (.iload 4, 2) := by decide +kernel
theorem d_CX_function_91 : decode b_CX_function 91 = .ok (.ifCond .le 10, 3) := by decide +kernel
theorem d_CX_function_94 : decode b_CX_function 94 = .ok (.iload 4, 2) := by decide +kernel
theorem d_CX_function_96 : decode b_CX_function 96 = .ok (.iload 9, 2) := by decide +kernel
theorem d_CX_function_98 : decode b_CX_function 98 = .ok (.if_icmp .lt 5, 3) := by decide +kernel
theorem d_CX_function_101 : decode b_CX_function 101 = .ok (.iconst (-1), 1) := by decide +kernel
theorem d_CX_function_102 : decode b_CX_function 102 = .ok (.ireturn, 1) := by decide +kernel
theorem d_CX_function_103 : decode b_CX_function 103 = .ok (.aload_n 0, 1) := by decide +kernel
theorem d_CX_function_104 : decode b_CX_function 104 = .ok (.getfield 69, 3) := by decide +kernel
theorem d_CX_function_107 : decode b_CX_function 107 = .ok (.invokevirtual 113, 3) := by decide +kernel
theorem d_CX_function_110 : decode b_CX_function 110 = .ok (.bipush 40, 2) := by decide +kernel
theorem d_CX_function_112 : decode b_CX_function 112 = .ok (.if_icmp .ge 15, 3) := by decide +kernel
theorem d_CX_function_115 : decode b_CX_function 115 = .ok (.aload_n 0, 1) := by decide +kernel
theorem d_CX_function_116 : decode b_CX_function 116 = .ok (.getfield 65, 3) := by decide +kernel
theorem d_CX_function_119 : decode b_CX_function 119 = .ok (.invokevirtual 113, 3) := by decide +kernel
theorem d_CX_function_122 : decode b_CX_function 122 = .ok (.bipush 32, 2) := by decide +kernel
theorem d_CX_function_124 : decode b_CX_function 124 = .ok (.if_icmp .le 6, 3) := by decide +kernel
theorem d_CX_function_127 : decode b_CX_function 127 = .ok (.bipush (-2), 2) := by decide +kernel
theorem d_CX_function_129 : decode b_CX_function 129 = .ok (.ireturn, 1) := by decide +kernel
theorem d_CX_function_130 : decode b_CX_function 130 = .ok (.aload_n 0, 1) := by decide +kernel
theorem d_CX_function_131 : decode b_CX_function 131 = .ok (.aload_n 0, 1) := by decide +kernel
theorem d_CX_function_132 : decode b_CX_function 132 = .ok (.getfield 57, 3) := by decide +kernel
theorem d_CX_function_135 : decode b_CX_function 135 = .ok (.iload 4, 2) := by decide +kernel
theorem d_CX_function_137 : decode b_CX_function 137 = .ok (.aload 5, 2) := by decide +kernel
theorem d_CX_function_139 : decode b_CX_function 139 = .ok (.aload 6, 2) := by decide +kernel
theorem d_CX_function_141 : decode b_CX_function 141 = .ok (.aload 7, 2) := by decide +kernel
theorem d_CX_function_143 : decode b_CX_function 143 = .ok (.iload 8, 2) := by decide +kernel
theorem d_CX_function_145 : decode b_CX_function 145 = .ok (.invokestatic 33, 3) := by decide +kernel
theorem d_CX_function_148 : decode b_CX_function 148 = .ok (.invokevirtual 142, 3) := by decide +kernel
theorem d_CX_function_151 : decode b_CX_function 151 = .ok (.ireturn, 1) := by decide +kernel
def bk_CX_function_77 (Q : Int → zS → Prop) (v4 : Int) (v5 : Int) (v6 : Int) (v7 : Int) (z0 : Int) (σ : zS) : Prop :=
  ∀ y10, y10 = (zshl 1 (zshl 1 z0)) - 1 →
  zc v4 ∧ ((v4 ≤ 0 →
    Q (-1) σ) ∧
   (¬ v4 ≤ 0 →
    zc y10 ∧ ((v4 < y10 →
      zc (σ 40 1) ∧ ((40 ≤ σ 40 1 →
        Q (-2) σ) ∧
       (¬ 40 ≤ σ 40 1 →
        zc (σ 40 0) ∧ ((σ 40 0 ≤ 32 →
          wp_CX_build3 (fun r17 σ15 =>
            wp_CX_net (fun r20 σ18 =>
              Q r20 σ18) r17 σ15) v4 v5 v6 v7 z0 σ) ∧
         (¬ σ 40 0 ≤ 32 →
          Q (-2) σ))))) ∧
     (¬ v4 < y10 →
      Q (-1) σ))))
def bk_CX_function_58 (Q : Int → zS → Prop) (v4 : Int) (v5 : Int) (v6 : Int) (v7 : Int) (σ : zS) : Prop :=
  ((v7 < 0 →
    ((v6 < 0 →
      bk_CX_function_77 Q v4 v5 v6 v7 1 σ) ∧
     (¬ v6 < 0 →
      bk_CX_function_77 Q v4 v5 v6 v7 2 σ))) ∧
   (¬ v7 < 0 →
    bk_CX_function_77 Q v4 v5 v6 v7 3 σ))
def bk_CX_function_46 (Q : Int → zS → Prop) (v4 : Int) (v5 : Int) (v6 : Int) (v7 : Int) (σ : zS) : Prop :=
  ((v6 < 0 →
    ((v7 < 0 →
      bk_CX_function_58 Q v4 v5 v6 v7 σ) ∧
     (¬ v7 < 0 →
      Q (-1) σ))) ∧
   (¬ v6 < 0 →
    bk_CX_function_58 Q v4 v5 v6 v7 σ))
def bk_CX_function_36 (Q : Int → zS → Prop) (v3 : Int) (v4 : Int) (v5 : Int) (v6 : Int) (v7 : Int) (σ : zS) : Prop :=
  ((v7 < 0 →
    zc v3 ∧ ((v3 = (-1) →
      bk_CX_function_46 Q v4 v5 v6 v7 σ) ∧
     (¬ v3 = (-1) →
      Q (-1) σ))) ∧
   (¬ v7 < 0 →
    bk_CX_function_46 Q v4 v5 v6 v7 σ))
def wp_CX_function (Q : Int → zS → Prop) (v1 : Int) (v2 : Int) (v3 : Int) (v4 : Int) (σ : zS) : Prop :=
  wp_CX_at (fun r3 σ1 =>
    zle σ σ1 ∧
    wp_CX_at (fun r6 σ4 =>
      zle σ1 σ4 ∧
      wp_CX_at (fun r9 σ7 =>
        zle σ4 σ7 ∧
        ((r3 < 0 →
          Q (-1) σ7) ∧
         (¬ r3 < 0 →
          ((r6 < 0 →
            zc v2 ∧ ((v2 = (-1) →
              bk_CX_function_36 Q v3 v4 r3 r6 r9 σ7) ∧
             (¬ v2 = (-1) →
              Q (-1) σ7))) ∧
           (¬ r6 < 0 →
            bk_CX_function_36 Q v3 v4 r3 r6 r9 σ7))))) v3 σ4) v2 σ1) v1 σ
set_option maxHeartbeats 4000000 in
set_option maxRecDepth 100000 in
theorem wk_CX_function_77 {E : zE} {D : va_G} {g : zG} {A : Nat → Prop} {ad0 : zA} {σ0 : zS} {Q : Int → zS → Prop} (C : zX E b_CX_function R_CX D g { frames := 15, cells := 57, slots := 3404, locals := 413 } 10) (R : zRt E (some .int) (zJi D g ad0 σ0 Q A) 57 3404 A) (S : zSt g A (zst E) (zst E).heap) (hA : ∀ q, (zst E).heap.size ≤ q → A q) (ad : zA) (v4 : Int) (v5 : Int) (v6 : Int) (v7 : Int) (z0 : Int) (σ : zS) (hX : zEx ad0 σ0 ad σ) (h : bk_CX_function_77 Q v4 v5 v6 v7 z0 σ) : zW E (zOK D A (zst E) g ad) 0 0 77 [(0, .ref (ad (0, 0))), (4, .int (zi v4)), (5, zr ad 4 v5), (6, zr ad 4 v6), (7, zr ad 4 v7)] [.int (zi z0)] σ := by
  unfold bk_CX_function_77 at h
  refine z_istore (L' := [(8, .int (zi z0)), (0, .ref (ad (0, 0))), (4, .int (zi v4)), (5, zr ad 4 v5), (6, zr ad 4 v6), (7, zr ad 4 v7)]) C (pc := 77) d_CX_function_77 (by decide) (congrArg (List.cons _) (flt_eq (j := 8) rfl (List.forall_mem_singleton.mpr (zr_cat _ _ _)) rfl)) ?_
  refine z_iconst C (pc := 79) d_CX_function_79 ?_
  refine z_iconst C (pc := 80) d_CX_function_80 ?_
  refine z_iload C (pc := 81) d_CX_function_81 0 rfl ?_
  refine z_ishl C (pc := 83) d_CX_function_83 ?_
  refine z_ishl C (pc := 84) d_CX_function_84 ?_
  refine z_iconst C (pc := 85) d_CX_function_85 ?_
  refine z_isub C (pc := 86) d_CX_function_86 ?_
  refine zNi h (fun y10 ey10 h => ?_)
  refine z_istore (L' := [(9, .int (zi y10)), (8, .int (zi z0)), (0, .ref (ad (0, 0))), (4, .int (zi v4)), (5, zr ad 4 v5), (6, zr ad 4 v6), (7, zr ad 4 v7)]) C (pc := 87) d_CX_function_87 (by decide) rfl ?_
  refine z_iload C (pc := 89) d_CX_function_89 3 rfl ?_
  obtain ⟨hc11, h⟩ := h
  refine z_if_le (tgt := 101) C (pc := 91) d_CX_function_91 (by decide) hc11 h (fun h => ?_) (fun h => ?_)
  · refine z_iconst C (pc := 101) d_CX_function_101 ?_
    refine zW.widen (k' := 57) (n' := 3404) (by decide) (by decide) ?_
    exact za_iret C R hX (pc := 102) d_CX_function_102 h
  · refine z_iload C (pc := 94) d_CX_function_94 3 rfl ?_
    refine z_iload C (pc := 96) d_CX_function_96 0 rfl ?_
    obtain ⟨hc12, h⟩ := h
    refine z_icmp_lt (tgt := 103) C (pc := 98) d_CX_function_98 (by decide) hc11 hc12 h (fun h => ?_) (fun h => ?_)
    · refine z_aload_n C (pc := 103) d_CX_function_103 2 rfl ?_
      refine x_getX (v := .ref (ad (1, 1))) C 2 (by decide) rfl wd_87 (pc := 104) d_CX_function_104 ?_
      refine x_size (hkn := ⟨Nat.le_of_ble_eq_true rfl, Nat.le_of_ble_eq_true rfl⟩) (P := True) C S 1 (by decide) wd_146 ⟨Nat.le_of_ble_eq_true rfl, Nat.le_of_ble_eq_true rfl⟩ (Nat.le_of_ble_eq_true rfl) (pc := 107) d_CX_function_107 ?_
      refine z_bipush C (pc := 110) d_CX_function_110 (by decide) ?_
      obtain ⟨hc13, h⟩ := h
      refine z_icmp_ge (tgt := 127) C (pc := 112) d_CX_function_112 (by decide) hc13 (by decide) h (fun h => ?_) (fun h => ?_)
      · refine z_bipush C (pc := 127) d_CX_function_127 (by decide) ?_
        refine zW.widen (k' := 57) (n' := 3404) (by decide) (by decide) ?_
        exact za_iret C R hX (pc := 129) d_CX_function_129 h
      · refine z_aload_n C (pc := 115) d_CX_function_115 2 rfl ?_
        refine x_getX (v := .ref (ad (1, 0))) C 1 (by decide) rfl wd_86 (pc := 116) d_CX_function_116 ?_
        refine x_size (hkn := ⟨Nat.le_of_ble_eq_true rfl, Nat.le_of_ble_eq_true rfl⟩) (P := True) C S 0 (by decide) wd_146 ⟨Nat.le_of_ble_eq_true rfl, Nat.le_of_ble_eq_true rfl⟩ (Nat.le_of_ble_eq_true rfl) (pc := 119) d_CX_function_119 ?_
        refine z_bipush C (pc := 122) d_CX_function_122 (by decide) ?_
        obtain ⟨hc14, h⟩ := h
        refine z_icmp_le (tgt := 130) C (pc := 124) d_CX_function_124 (by decide) hc14 (by decide) h (fun h => ?_) (fun h => ?_)
        · refine z_aload_n C (pc := 130) d_CX_function_130 2 rfl ?_
          refine z_aload_n C (pc := 131) d_CX_function_131 2 rfl ?_
          refine x_getX (v := .ref (ad (0, 1))) C 0 (by decide) rfl wd_85 (pc := 132) d_CX_function_132 ?_
          refine z_iload C (pc := 135) d_CX_function_135 3 rfl ?_
          refine z_aloadZ C (pc := 137) d_CX_function_137 4 rfl ?_
          refine z_aloadZ C (pc := 139) d_CX_function_139 5 rfl ?_
          refine z_aloadZ C (pc := 141) d_CX_function_141 6 rfl ?_
          refine z_iload C (pc := 143) d_CX_function_143 1 rfl ?_
          refine z_sub (L' := []) [] rfl ?_
          refine xa_callSr (As := [.ref (ad (0, 1)), .int (zi v4), zr ad 4 v5, zr ad 4 v6, zr ad 4 v7, .int (zi z0)]) (fun ad => []) (fun ad => [.ref (ad (0, 0))]) C S hA fs_CX_build wd_333 (pc := 145) d_CX_function_145 ⟨rfl, rfl, Nat.le_of_ble_eq_true rfl, Nat.le_of_ble_eq_true rfl⟩ ⟨Nat.le_of_ble_eq_true rfl, Nat.le_of_ble_eq_true rfl⟩ rfl rfl (Nat.le_of_ble_eq_true rfl) (fun ad' ha => ⟨rfl, by simp only [zo_ag ha zfix_0 (by decide)]⟩) h (c_CX_build3 (zln E) D g ad _ _ _ _ _ _ _) (fun r17 σ15 ad hE16 h => ?_)
          have hX := hX.trans hE16
          refine xa_callVi (As := [zr ad 4 r17]) (fun ad => []) (fun ad => []) C S hA fy_CX_net (0, 0) (zids_fix zfix_0) rfl rfl wd_298 (pc := 148) d_CX_function_148 ⟨rfl, rfl, Nat.le_of_ble_eq_true rfl, Nat.le_of_ble_eq_true rfl⟩ ⟨Nat.le_of_ble_eq_true rfl, Nat.le_of_ble_eq_true rfl⟩ rfl rfl (Nat.le_of_ble_eq_true rfl) (fun ad' ha => ⟨rfl, rfl⟩) h (c_CX_net (zln E) D g ad _ _ _) (fun r20 σ18 ad hE19 h => ?_)
          have hX := hX.trans hE19
          exact za_iret C R hX (pc := 151) d_CX_function_151 h
        · refine z_bipush C (pc := 127) d_CX_function_127 (by decide) ?_
          refine zW.widen (k' := 57) (n' := 3404) (by decide) (by decide) ?_
          exact za_iret C R hX (pc := 129) d_CX_function_129 h
    · refine z_iconst C (pc := 101) d_CX_function_101 ?_
      refine zW.widen (k' := 57) (n' := 3404) (by decide) (by decide) ?_
      exact za_iret C R hX (pc := 102) d_CX_function_102 h
set_option maxHeartbeats 4000000 in
set_option maxRecDepth 100000 in
theorem wk_CX_function_58 {E : zE} {D : va_G} {g : zG} {A : Nat → Prop} {ad0 : zA} {σ0 : zS} {Q : Int → zS → Prop} (C : zX E b_CX_function R_CX D g { frames := 15, cells := 57, slots := 3404, locals := 413 } 10) (R : zRt E (some .int) (zJi D g ad0 σ0 Q A) 57 3404 A) (S : zSt g A (zst E) (zst E).heap) (hA : ∀ q, (zst E).heap.size ≤ q → A q) (ad : zA) (v4 : Int) (v5 : Int) (v6 : Int) (v7 : Int) (σ : zS) (hX : zEx ad0 σ0 ad σ) (h : bk_CX_function_58 Q v4 v5 v6 v7 σ) : zW E (zOK D A (zst E) g ad) 0 0 58 [(0, .ref (ad (0, 0))), (4, .int (zi v4)), (5, zr ad 4 v5), (6, zr ad 4 v6), (7, zr ad 4 v7)] [] σ := by
  unfold bk_CX_function_58 at h
  refine z_aloadZ C (pc := 58) d_CX_function_58 4 rfl ?_
  refine z_ifnull (tgt := 67) C (pc := 60) d_CX_function_60 (by decide) h (fun h => ?_) (fun h => ?_)
  · refine z_aloadZ C (pc := 67) d_CX_function_67 3 rfl ?_
    refine z_ifnull (tgt := 76) C (pc := 69) d_CX_function_69 (by decide) h (fun h => ?_) (fun h => ?_)
    · refine z_iconst C (pc := 76) d_CX_function_76 ?_
      exact wk_CX_function_77 C R S hA ad _ _ _ _ _ _ hX h
    · refine z_iconst C (pc := 72) d_CX_function_72 ?_
      refine z_goto (tgt := 77) C (pc := 73) d_CX_function_73 (by decide) ?_
      exact wk_CX_function_77 C R S hA ad _ _ _ _ _ _ hX h
  · refine z_iconst C (pc := 63) d_CX_function_63 ?_
    refine z_goto (tgt := 77) C (pc := 64) d_CX_function_64 (by decide) ?_
    exact wk_CX_function_77 C R S hA ad _ _ _ _ _ _ hX h
set_option maxHeartbeats 4000000 in
set_option maxRecDepth 100000 in
theorem wk_CX_function_46 {E : zE} {D : va_G} {g : zG} {A : Nat → Prop} {ad0 : zA} {σ0 : zS} {Q : Int → zS → Prop} (C : zX E b_CX_function R_CX D g { frames := 15, cells := 57, slots := 3404, locals := 413 } 10) (R : zRt E (some .int) (zJi D g ad0 σ0 Q A) 57 3404 A) (S : zSt g A (zst E) (zst E).heap) (hA : ∀ q, (zst E).heap.size ≤ q → A q) (ad : zA) (v4 : Int) (v5 : Int) (v6 : Int) (v7 : Int) (σ : zS) (hX : zEx ad0 σ0 ad σ) (h : bk_CX_function_46 Q v4 v5 v6 v7 σ) : zW E (zOK D A (zst E) g ad) 0 0 46 [(0, .ref (ad (0, 0))), (4, .int (zi v4)), (5, zr ad 4 v5), (6, zr ad 4 v6), (7, zr ad 4 v7)] [] σ := by
  unfold bk_CX_function_46 at h
  refine z_aloadZ C (pc := 46) d_CX_function_46 3 rfl ?_
  refine z_ifnonnull (tgt := 58) C (pc := 48) d_CX_function_48 (by decide) h (fun h => ?_) (fun h => ?_)
  · exact wk_CX_function_58 C R S hA ad _ _ _ _ _ hX h
  · refine z_aloadZ C (pc := 51) d_CX_function_51 4 rfl ?_
    refine z_ifnull (tgt := 58) C (pc := 53) d_CX_function_53 (by decide) h (fun h => ?_) (fun h => ?_)
    · exact wk_CX_function_58 C R S hA ad _ _ _ _ _ hX h
    · refine z_iconst C (pc := 56) d_CX_function_56 ?_
      refine zW.widen (k' := 57) (n' := 3404) (by decide) (by decide) ?_
      exact za_iret C R hX (pc := 57) d_CX_function_57 h
set_option maxHeartbeats 4000000 in
set_option maxRecDepth 100000 in
theorem wk_CX_function_36 {E : zE} {D : va_G} {g : zG} {A : Nat → Prop} {ad0 : zA} {σ0 : zS} {Q : Int → zS → Prop} (C : zX E b_CX_function R_CX D g { frames := 15, cells := 57, slots := 3404, locals := 413 } 10) (R : zRt E (some .int) (zJi D g ad0 σ0 Q A) 57 3404 A) (S : zSt g A (zst E) (zst E).heap) (hA : ∀ q, (zst E).heap.size ≤ q → A q) (ad : zA) (v3 : Int) (v4 : Int) (v5 : Int) (v6 : Int) (v7 : Int) (σ : zS) (hX : zEx ad0 σ0 ad σ) (h : bk_CX_function_36 Q v3 v4 v5 v6 v7 σ) : zW E (zOK D A (zst E) g ad) 0 0 36 [(0, .ref (ad (0, 0))), (3, .int (zi v3)), (4, .int (zi v4)), (5, zr ad 4 v5), (6, zr ad 4 v6), (7, zr ad 4 v7)] [] σ := by
  unfold bk_CX_function_36 at h
  refine z_aloadZ C (pc := 36) d_CX_function_36 5 rfl ?_
  refine z_ifnonnull (tgt := 46) C (pc := 38) d_CX_function_38 (by decide) h (fun h => ?_) (fun h => ?_)
  · refine z_sub [0, 2, 3, 4, 5] rfl ?_
    exact wk_CX_function_46 C R S hA ad _ _ _ _ _ hX h
  · refine z_iload_n C (pc := 41) d_CX_function_41 1 rfl ?_
    refine z_iconst C (pc := 42) d_CX_function_42 ?_
    obtain ⟨hc21, h⟩ := h
    refine z_icmp_ne (tgt := 56) C (pc := 43) d_CX_function_43 (by decide) hc21 (by decide) h (fun h => ?_) (fun h => ?_)
    · refine z_iconst C (pc := 56) d_CX_function_56 ?_
      refine zW.widen (k' := 57) (n' := 3404) (by decide) (by decide) ?_
      exact za_iret C R hX (pc := 57) d_CX_function_57 h
    · refine z_sub [0, 2, 3, 4, 5] rfl ?_
      exact wk_CX_function_46 C R S hA ad _ _ _ _ _ hX h
set_option maxHeartbeats 4000000 in
set_option maxRecDepth 100000 in
theorem c_CX_function (l : Launch) (D : va_G) (g : zG) (ad : zA) (v1 : Int) (v2 : Int) (v3 : Int) (v4 : Int) (Q : Int → zS → Prop) (σ : zS) (h : wp_CX_function Q v1 v2 v3 v4 σ) (sz : Nat) : zHi l y_CX_function b_CX_function 10 (some .int) { frames := 15, cells := 57, slots := 3404, locals := 413 } D g ad σ [.ref (ad (0, 0)), .int (zi v1), .int (zi v2), .int (zi v3), .int (zi v4)] Q sz 57 3404 := by
  unfold wp_CX_function at h
  refine zA_of (by decide) (Nat.le_of_ble_eq_true rfl) (fun E C R S hA => ?_)
  have C : zX E b_CX_function R_CX D g { frames := 15, cells := 57, slots := 3404, locals := 413 } 10 := C
  have hX : zEx ad σ ad σ := zEx.rf
  refine z_sub (L' := [(0, .ref (ad (0, 0))), (1, .int (zi v1)), (2, .int (zi v2)), (3, .int (zi v3)), (4, .int (zi v4))]) [0, 1, 2, 3, 4] rfl ?_
  refine z_aload_n C (pc := 0) d_CX_function_0 0 rfl ?_
  refine z_iload_n C (pc := 1) d_CX_function_1 1 rfl ?_
  refine x_callVr (hkn := ⟨Nat.le_of_ble_eq_true rfl, Nat.le_of_ble_eq_true rfl⟩) (As := [.int (zi v1)]) (st := []) C S fy_CX_at (0, 0) (zids_fix zfix_0) rfl rfl wd_329 (pc := 2) d_CX_function_2 ⟨rfl, rfl, Nat.le_of_ble_eq_true rfl, Nat.le_of_ble_eq_true rfl⟩ rfl rfl (Nat.le_of_ble_eq_true rfl) h (c_CX_at (zln E) D g ad _ _ _) (fun r3 σ1 h => ?_)
  obtain ⟨hE2, h⟩ := h
  have hX := hX.le hE2
  refine z_astoreZ (L' := [(5, zr ad 4 r3), (0, .ref (ad (0, 0))), (1, .int (zi v1)), (2, .int (zi v2)), (3, .int (zi v3)), (4, .int (zi v4))]) C (pc := 5) d_CX_function_5 (by decide) rfl ?_
  refine z_aload_n C (pc := 7) d_CX_function_7 1 rfl ?_
  refine z_iload_n C (pc := 8) d_CX_function_8 3 rfl ?_
  refine x_callVr (hkn := ⟨Nat.le_of_ble_eq_true rfl, Nat.le_of_ble_eq_true rfl⟩) (As := [.int (zi v2)]) (st := []) C S fy_CX_at (0, 0) (zids_fix zfix_0) rfl rfl wd_329 (pc := 9) d_CX_function_9 ⟨rfl, rfl, Nat.le_of_ble_eq_true rfl, Nat.le_of_ble_eq_true rfl⟩ rfl rfl (Nat.le_of_ble_eq_true rfl) h (c_CX_at (zln E) D g ad _ _ _) (fun r6 σ4 h => ?_)
  obtain ⟨hE5, h⟩ := h
  have hX := hX.le hE5
  refine z_astoreZ (L' := [(6, zr ad 4 r6), (5, zr ad 4 r3), (0, .ref (ad (0, 0))), (1, .int (zi v1)), (2, .int (zi v2)), (3, .int (zi v3)), (4, .int (zi v4))]) C (pc := 12) d_CX_function_12 (by decide) (congrArg (List.cons _) (flt_eq (j := 6) rfl (List.forall_mem_singleton.mpr (zr_cat _ _ _)) rfl)) ?_
  refine z_aload_n C (pc := 14) d_CX_function_14 2 rfl ?_
  refine z_iload_n C (pc := 15) d_CX_function_15 5 rfl ?_
  refine x_callVr (hkn := ⟨Nat.le_of_ble_eq_true rfl, Nat.le_of_ble_eq_true rfl⟩) (As := [.int (zi v3)]) (st := []) C S fy_CX_at (0, 0) (zids_fix zfix_0) rfl rfl wd_329 (pc := 16) d_CX_function_16 ⟨rfl, rfl, Nat.le_of_ble_eq_true rfl, Nat.le_of_ble_eq_true rfl⟩ rfl rfl (Nat.le_of_ble_eq_true rfl) h (c_CX_at (zln E) D g ad _ _ _) (fun r9 σ7 h => ?_)
  obtain ⟨hE8, h⟩ := h
  have hX := hX.le hE8
  refine z_astoreZ (L' := [(7, zr ad 4 r9), (6, zr ad 4 r6), (5, zr ad 4 r3), (0, .ref (ad (0, 0))), (1, .int (zi v1)), (2, .int (zi v2)), (3, .int (zi v3)), (4, .int (zi v4))]) C (pc := 19) d_CX_function_19 (by decide) (congrArg (List.cons _) (flt_eq (j := 7) rfl (List.forall_mem_singleton.mpr (zr_cat _ _ _)) rfl)) ?_
  refine z_aloadZ C (pc := 21) d_CX_function_21 2 rfl ?_
  refine z_ifnull (tgt := 56) C (pc := 23) d_CX_function_23 (by decide) h (fun h => ?_) (fun h => ?_)
  · refine z_iconst C (pc := 56) d_CX_function_56 ?_
    refine zW.widen (k' := 57) (n' := 3404) (by decide) (by decide) ?_
    exact za_iret C R hX (pc := 57) d_CX_function_57 h
  · refine z_aloadZ C (pc := 26) d_CX_function_26 1 rfl ?_
    refine z_ifnonnull (tgt := 36) C (pc := 28) d_CX_function_28 (by decide) h (fun h => ?_) (fun h => ?_)
    · refine z_sub [3, 6, 7, 2, 1, 0] rfl ?_
      exact wk_CX_function_36 C R S hA ad _ _ _ _ _ _ hX h
    · refine z_iload_n C (pc := 31) d_CX_function_31 5 rfl ?_
      refine z_iconst C (pc := 32) d_CX_function_32 ?_
      obtain ⟨hc22, h⟩ := h
      refine z_icmp_ne (tgt := 56) C (pc := 33) d_CX_function_33 (by decide) hc22 (by decide) h (fun h => ?_) (fun h => ?_)
      · refine z_iconst C (pc := 56) d_CX_function_56 ?_
        refine zW.widen (k' := 57) (n' := 3404) (by decide) (by decide) ?_
        exact za_iret C R hX (pc := 57) d_CX_function_57 h
      · refine z_sub [3, 6, 7, 2, 1, 0] rfl ?_
        exact wk_CX_function_36 C R S hA ad _ _ _ _ _ _ hX h
theorem d_CX_output_0 : decode b_CX_output 0 = .ok (.aload_n 0, 1) := by decide +kernel
theorem d_CX_output_1 : decode b_CX_output 1 = .ok (.iload_n 1, 1) := by decide +kernel
theorem d_CX_output_2 : decode b_CX_output 2 = .ok (.invokevirtual 152, 3) := by decide +kernel
theorem d_CX_output_5 : decode b_CX_output 5 = .ok (.astore_n 2, 1) := by decide +kernel
theorem d_CX_output_6 : decode b_CX_output 6 = .ok (.aload_n 2, 1) := by decide +kernel
theorem d_CX_output_7 : decode b_CX_output 7 = .ok (.ifnonnull 5, 3) := by decide +kernel
theorem d_CX_output_10 : decode b_CX_output 10 = .ok (.iconst (-1), 1) := by decide +kernel
theorem d_CX_output_11 : decode b_CX_output 11 = .ok (.ireturn, 1) := by decide +kernel
theorem d_CX_output_12 : decode b_CX_output 12 = .ok (.aload_n 0, 1) := by decide +kernel
theorem d_CX_output_13 : decode b_CX_output 13 = .ok (.getfield 78, 3) := by decide +kernel
theorem d_CX_output_16 : decode b_CX_output 16 = .ok (.invokevirtual 113, 3) := by decide +kernel
theorem d_CX_output_19 : decode b_CX_output 19 = .ok (.iconst 4, 1) := by decide +kernel
theorem d_CX_output_20 : decode b_CX_output 20 = .ok (.if_icmp .lt 6, 3) := by decide +kernel
theorem d_CX_output_23 : decode b_CX_output 23 = .ok (.bipush (-2), 2) := by decide +kernel
theorem d_CX_output_25 : decode b_CX_output 25 = .ok (.ireturn, 1) := by decide +kernel
theorem d_CX_output_26 : decode b_CX_output 26 = .ok (.aload_n 0, 1) := by decide +kernel
theorem d_CX_output_27 : decode b_CX_output 27 = .ok (.getfield 78, 3) := by decide +kernel
theorem d_CX_output_30 : decode b_CX_output 30 = .ok (.aload_n 2, 1) := by decide +kernel
theorem d_CX_output_31 : decode b_CX_output 31 = .ok (.invokevirtual 126, 3) := by decide +kernel
theorem d_CX_output_34 : decode b_CX_output 34 = .ok (.pop, 1) := by decide +kernel
theorem d_CX_output_35 : decode b_CX_output 35 = .ok (.aload_n 0, 1) := by decide +kernel
theorem d_CX_output_36 : decode b_CX_output 36 = .ok (.invokevirtual 130, 3) := by decide +kernel
theorem d_CX_output_39 : decode b_CX_output 39 = .ok (.aload_n 0, 1) := by decide +kernel
theorem d_CX_output_40 : decode b_CX_output 40 = .ok (.getfield 78, 3) := by decide +kernel
theorem d_CX_output_43 : decode b_CX_output 43 = .ok (.invokevirtual 113, 3) := by decide +kernel
theorem d_CX_output_46 : decode b_CX_output 46 = .ok (.iconst 1, 1) := by decide +kernel
theorem d_CX_output_47 : decode b_CX_output 47 = .ok (.isub, 1) := by decide +kernel
theorem d_CX_output_48 : decode b_CX_output 48 = .ok (.ireturn, 1) := by decide +kernel
def wp_CX_output (Q : Int → zS → Prop) (v1 : Int) (σ : zS) : Prop :=
  wp_CX_at (fun r3 σ1 =>
    zle σ σ1 ∧
    ((r3 < 0 →
      Q (-1) σ1) ∧
     (¬ r3 < 0 →
      zc (σ1 40 4) ∧ ((σ1 40 4 < 4 →
        wp_add 4 (fun σ5 =>
          wp_CX_changed (fun σ8 =>
            zle σ5 σ8 ∧
            Q ((σ8 40 4) - 1) σ8) σ5) r3 σ1) ∧
       (¬ σ1 40 4 < 4 →
        Q (-2) σ1))))) v1 σ
set_option maxHeartbeats 4000000 in
set_option maxRecDepth 100000 in
theorem c_CX_output (l : Launch) (D : va_G) (g : zG) (ad : zA) (v1 : Int) (Q : Int → zS → Prop) (σ : zS) (h : wp_CX_output Q v1 σ) (sz : Nat) : zHi l y_CX_output b_CX_output 3 (some .int) { frames := 7, cells := 1, slots := 100, locals := 191 } D g ad σ [.ref (ad (0, 0)), .int (zi v1)] Q sz 1 100 := by
  unfold wp_CX_output at h
  refine zA_of (by decide) (Nat.le_of_ble_eq_true rfl) (fun E C R S hA => ?_)
  have C : zX E b_CX_output R_CX D g { frames := 7, cells := 1, slots := 100, locals := 191 } 3 := C
  have hX : zEx ad σ ad σ := zEx.rf
  refine z_sub (L' := [(0, .ref (ad (0, 0))), (1, .int (zi v1))]) [0, 1] rfl ?_
  refine z_aload_n C (pc := 0) d_CX_output_0 0 rfl ?_
  refine z_iload_n C (pc := 1) d_CX_output_1 1 rfl ?_
  refine x_callVr (hkn := ⟨Nat.le_of_ble_eq_true rfl, Nat.le_of_ble_eq_true rfl⟩) (As := [.int (zi v1)]) (st := []) C S fy_CX_at (0, 0) (zids_fix zfix_0) rfl rfl wd_329 (pc := 2) d_CX_output_2 ⟨rfl, rfl, Nat.le_of_ble_eq_true rfl, Nat.le_of_ble_eq_true rfl⟩ rfl rfl (Nat.le_of_ble_eq_true rfl) h (c_CX_at (zln E) D g ad _ _ _) (fun r3 σ1 h => ?_)
  obtain ⟨hE2, h⟩ := h
  have hX := hX.le hE2
  refine z_astoreZ_n (L' := [(2, zr ad 4 r3), (0, .ref (ad (0, 0))), (1, .int (zi v1))]) C (pc := 5) d_CX_output_5 (by decide) rfl ?_
  refine z_aloadZ_n C (pc := 6) d_CX_output_6 0 rfl ?_
  refine z_ifnonnull (tgt := 12) C (pc := 7) d_CX_output_7 (by decide) h (fun h => ?_) (fun h => ?_)
  · refine z_aload_n C (pc := 12) d_CX_output_12 1 rfl ?_
    refine x_getX (v := .ref (ad (1, 4))) C 5 (by decide) rfl wd_90 (pc := 13) d_CX_output_13 ?_
    refine x_size (hkn := ⟨Nat.le_of_ble_eq_true rfl, Nat.le_of_ble_eq_true rfl⟩) (P := True) C S 4 (by decide) wd_146 ⟨Nat.le_of_ble_eq_true rfl, Nat.le_of_ble_eq_true rfl⟩ (Nat.le_of_ble_eq_true rfl) (pc := 16) d_CX_output_16 ?_
    refine z_iconst C (pc := 19) d_CX_output_19 ?_
    obtain ⟨hc4, h⟩ := h
    refine z_icmp_lt (tgt := 26) C (pc := 20) d_CX_output_20 (by decide) hc4 (by decide) h (fun h => ?_) (fun h => ?_)
    · refine z_aload_n C (pc := 26) d_CX_output_26 1 rfl ?_
      refine x_getX (v := .ref (ad (1, 4))) C 5 (by decide) rfl wd_90 (pc := 27) d_CX_output_27 ?_
      refine z_aloadZ_n C (pc := 30) d_CX_output_30 0 rfl ?_
      refine z_sub (L' := [(0, .ref (ad (0, 0)))]) [1] rfl ?_
      refine xa_callVi (As := [zr ad 4 r3]) (fun ad => [(0, .ref (ad (0, 0)))]) (fun ad => []) C S hA fy_AL_add (1, 4) (zids_fix (zfix_l (by decide))) rfl rfl wd_297 (pc := 31) d_CX_output_31 ⟨rfl, rfl, Nat.le_of_ble_eq_true rfl, Nat.le_of_ble_eq_true rfl⟩ ⟨Nat.le_of_ble_eq_true rfl, Nat.le_of_ble_eq_true rfl⟩ rfl rfl (Nat.le_of_ble_eq_true rfl) (fun ad' ha => ⟨by simp only [zo_ag ha zfix_0 (by decide)], rfl⟩) h (c_AL_add (zln E) D g ad 4 (by decide) _ _ _) (fun r7 σ5 ad hE6 h => ?_)
      have hX := hX.trans hE6
      refine z_pop C (pc := 34) d_CX_output_34 rfl ?_
      refine z_aload_n C (pc := 35) d_CX_output_35 0 rfl ?_
      refine x_callVv (hkn := ⟨Nat.le_of_ble_eq_true rfl, Nat.le_of_ble_eq_true rfl⟩) (As := []) (st := []) C S fy_CX_changed (0, 0) (zids_fix zfix_0) rfl rfl wd_302 (pc := 36) d_CX_output_36 ⟨rfl, rfl, Nat.le_of_ble_eq_true rfl, Nat.le_of_ble_eq_true rfl⟩ rfl rfl (Nat.le_of_ble_eq_true rfl) h (c_CX_changed (zln E) D g ad _ _) (fun σ8 h => ?_)
      obtain ⟨hE9, h⟩ := h
      have hX := hX.le hE9
      refine z_aload_n C (pc := 39) d_CX_output_39 0 rfl ?_
      refine x_getX (v := .ref (ad (1, 4))) C 5 (by decide) rfl wd_90 (pc := 40) d_CX_output_40 ?_
      refine x_size (hkn := ⟨Nat.le_of_ble_eq_true rfl, Nat.le_of_ble_eq_true rfl⟩) (P := True) C S 4 (by decide) wd_146 ⟨Nat.le_of_ble_eq_true rfl, Nat.le_of_ble_eq_true rfl⟩ (Nat.le_of_ble_eq_true rfl) (pc := 43) d_CX_output_43 ?_
      refine z_iconst C (pc := 46) d_CX_output_46 ?_
      refine z_isub C (pc := 47) d_CX_output_47 ?_
      exact za_iret C R hX (pc := 48) d_CX_output_48 h
    · refine z_bipush C (pc := 23) d_CX_output_23 (by decide) ?_
      refine zW.widen (k' := 1) (n' := 100) (by decide) (by decide) ?_
      exact za_iret C R hX (pc := 25) d_CX_output_25 h
  · refine z_iconst C (pc := 10) d_CX_output_10 ?_
    refine zW.widen (k' := 1) (n' := 100) (by decide) (by decide) ?_
    exact za_iret C R hX (pc := 11) d_CX_output_11 h
theorem d_CX_cell_0 : decode b_CX_cell 0 = .ok (.iload_n 1, 1) := by decide +kernel
theorem d_CX_cell_1 : decode b_CX_cell 1 = .ok (.invokestatic 163, 3) := by decide +kernel
theorem d_CX_cell_4 : decode b_CX_cell 4 = .ok (.ifCond .eq 26, 3) := by decide +kernel
theorem d_CX_cell_7 : decode b_CX_cell 7 = .ok (.iload_n 2, 1) := by decide +kernel
theorem d_CX_cell_8 : decode b_CX_cell 8 = .ok (.iconst 1, 1) := by decide +kernel
theorem d_CX_cell_9 : decode b_CX_cell 9 = .ok (.if_icmp .lt 21, 3) := by decide +kernel
theorem d_CX_cell_12 : decode b_CX_cell 12 = .ok (.iload_n 2, 1) := by decide +kernel
theorem d_CX_cell_13 : decode b_CX_cell 13 = .ok (.sipush 1000, 3) := by decide +kernel
theorem d_CX_cell_16 : decode b_CX_cell 16 = .ok (.if_icmp .gt 14, 3) := by decide +kernel
theorem d_CX_cell_19 : decode b_CX_cell 19 = .ok (.iload_n 3, 1) := by decide +kernel
theorem d_CX_cell_20 : decode b_CX_cell 20 = .ok (.ifCond .lt 10, 3) := by decide +kernel
theorem d_CX_cell_23 : decode b_CX_cell 23 = .ok (.iload_n 3, 1) := by decide +kernel
theorem d_CX_cell_24 : decode b_CX_cell 24 = .ok (.sipush 1000, 3) := by decide +kernel
theorem d_CX_cell_27 : decode b_CX_cell 27 = .ok (.if_icmp .le 5, 3) := by decide +kernel
theorem d_CX_cell_30 : decode b_CX_cell 30 = .ok (.iconst (-1), 1) := by decide +kernel
theorem d_CX_cell_31 : decode b_CX_cell 31 = .ok (.ireturn, 1) := by decide +kernel
theorem d_CX_cell_32 : decode b_CX_cell 32 = .ok (.aload_n 0, 1) := by decide +kernel
theorem d_CX_cell_33 : decode b_CX_cell 33 = .ok (.getfield 81, 3) := by decide +kernel
theorem d_CX_cell_36 : decode b_CX_cell 36 = .ok (.invokevirtual 113, 3) := by decide +kernel
theorem d_CX_cell_39 : decode b_CX_cell 39 = .ok (.bipush 8, 2) := by decide +kernel
theorem d_CX_cell_41 : decode b_CX_cell 41 = .ok (.if_icmp .lt 6, 3) := by decide +kernel
theorem d_CX_cell_44 : decode b_CX_cell 44 = .ok (.bipush (-2), 2) := by decide +kernel
theorem d_CX_cell_46 : decode b_CX_cell 46 = .ok (.ireturn, 1) := by decide +kernel
theorem d_CX_cell_47 : decode b_CX_cell 47 = .ok (.aload_n 0, 1) := by decide +kernel
theorem d_CX_cell_48 : decode b_CX_cell 48 = .ok (.getfield 85, 3) := by decide +kernel
theorem d_CX_cell_51 : decode b_CX_cell 51 = .ok (.iload_n 1, 1) := by decide +kernel
theorem d_CX_cell_52 : decode b_CX_cell 52 = .ok (.invokevirtual 167, 3) := by decide +kernel
theorem d_CX_cell_55 : decode b_CX_cell 55 = .ok (.aload_n 0, 1) := by decide +kernel
theorem d_CX_cell_56 : decode b_CX_cell 56 = .ok (.getfield 85, 3) := by decide +kernel
theorem d_CX_cell_59 : decode b_CX_cell 59 = .ok (.iconst 1, 1) := by decide +kernel
theorem d_CX_cell_60 : decode b_CX_cell 60 = .ok (.invokestatic 17, 3) := by decide +kernel
theorem d_CX_cell_63 : decode b_CX_cell 63 = .ok (.astore 4, 2) := by decide +kernel
theorem d_CX_cell_65 : decode b_CX_cell 65 = .ok (.aload 4, 2) := by decide +kernel
theorem d_CX_cell_67 : decode b_CX_cell 67 = .ok (.ifnonnull 5, 3) := by decide +kernel
theorem d_CX_cell_70 : decode b_CX_cell 70 = .ok (.iconst (-1), 1) := by decide +kernel
theorem d_CX_cell_71 : decode b_CX_cell 71 = .ok (.ireturn, 1) := by decide +kernel
theorem d_CX_cell_72 : decode b_CX_cell 72 = .ok (.aload_n 0, 1) := by decide +kernel
theorem d_CX_cell_73 : decode b_CX_cell 73 = .ok (.getfield 81, 3) := by decide +kernel
theorem d_CX_cell_76 : decode b_CX_cell 76 = .ok (.new 170, 3) := by decide +kernel
theorem d_CX_cell_79 : decode b_CX_cell 79 = .ok (.dup, 1) := by decide +kernel
theorem d_CX_cell_80 : decode b_CX_cell 80 = .ok (.aload_n 0, 1) := by decide +kernel
theorem d_CX_cell_81 : decode b_CX_cell 81 = .ok (.getfield 81, 3) := by decide +kernel
theorem d_CX_cell_84 : decode b_CX_cell 84 = .ok (.invokevirtual 113, 3) := by decide +kernel
theorem d_CX_cell_87 : decode b_CX_cell 87 = .ok (.iload_n 1, 1) := by decide +kernel
theorem d_CX_cell_88 : decode b_CX_cell 88 = .ok (.iload_n 2, 1) := by decide +kernel
theorem d_CX_cell_89 : decode b_CX_cell 89 = .ok (.iload_n 3, 1) := by decide +kernel
theorem d_CX_cell_90 : decode b_CX_cell 90 = .ok (.aload_n 0, 1) := by decide +kernel
theorem d_CX_cell_91 : decode b_CX_cell 91 = .ok (.getfield 85, 3) := by decide +kernel
theorem d_CX_cell_94 : decode b_CX_cell 94 = .ok (.getfield 9, 3) := by decide +kernel
theorem d_CX_cell_97 : decode b_CX_cell 97 = .ok (.aload 4, 2) := by decide +kernel
theorem d_CX_cell_99 : decode b_CX_cell 99 = .ok (.invokespecial 172, 3) := by decide +kernel
theorem d_CX_cell_102 : decode b_CX_cell 102 = .ok (.invokevirtual 126, 3) := by decide +kernel
theorem d_CX_cell_105 : decode b_CX_cell 105 = .ok (.pop, 1) := by decide +kernel
theorem d_CX_cell_106 : decode b_CX_cell 106 = .ok (.aload_n 0, 1) := by decide +kernel
theorem d_CX_cell_107 : decode b_CX_cell 107 = .ok (.invokevirtual 130, 3) := by decide +kernel
theorem d_CX_cell_110 : decode b_CX_cell 110 = .ok (.aload_n 0, 1) := by decide +kernel
theorem d_CX_cell_111 : decode b_CX_cell 111 = .ok (.getfield 81, 3) := by decide +kernel
theorem d_CX_cell_114 : decode b_CX_cell 114 = .ok (.invokevirtual 113, 3) := by decide +kernel
theorem d_CX_cell_117 : decode b_CX_cell 117 = .ok (.iconst 1, 1) := by decide +kernel
theorem d_CX_cell_118 : decode b_CX_cell 118 = .ok (.isub, 1) := by decide +kernel
theorem d_CX_cell_119 : decode b_CX_cell 119 = .ok (.ireturn, 1) := by decide +kernel
def wp_CX_cell (Q : Int → zS → Prop) (v1 : Int) (v2 : Int) (v3 : Int) (σ : zS) : Prop :=
  wp_CX_shaped (fun r3 σ1 =>
    zle σ σ1 ∧
    zc r3 ∧ ((r3 = 0 →
      Q (-1) σ1) ∧
     (¬ r3 = 0 →
      zc v2 ∧ ((v2 < 1 →
        Q (-1) σ1) ∧
       (¬ v2 < 1 →
        ((1000 < v2 →
          Q (-1) σ1) ∧
         (¬ 1000 < v2 →
          zc v3 ∧ ((v3 < 0 →
            Q (-1) σ1) ∧
           (¬ v3 < 0 →
            ((v3 ≤ 1000 →
              zc (σ1 40 5) ∧ ((σ1 40 5 < 8 →
                wp_DG_begin (fun σ8 =>
                  zle σ1 σ8 ∧
                  wp_CX_parse1 (fun r13 σ11 =>
                    ((r13 < 0 →
                      Q (-1) σ11) ∧
                     (¬ r13 < 0 →
                      zWf σ11 ∧ 0 ≤ σ11 71 0 ∧ zvp σ11 r13 ∧ ∀ σ17, σ17 = znew5 σ11 →
                      wp_CE_init (fun σ19 =>
                        zle σ17 σ19 ∧
                        wp_add 5 (fun σ21 =>
                          wp_CX_changed (fun σ24 =>
                            zle σ21 σ24 ∧
                            Q ((σ24 40 5) - 1) σ24) σ21) (σ11 71 0) σ19) (σ11 71 0) (σ17 40 5) v1 v2 v3 (σ17 62 0) r13 σ17))) 1 σ8) v1 σ1) ∧
               (¬ σ1 40 5 < 8 →
                Q (-2) σ1))) ∧
             (¬ v3 ≤ 1000 →
              Q (-1) σ1))))))))))) v1 σ
set_option maxHeartbeats 4000000 in
set_option maxRecDepth 100000 in
theorem c_CX_cell (l : Launch) (D : va_G) (g : zG) (ad : zA) (v1 : Int) (v2 : Int) (v3 : Int) (Q : Int → zS → Prop) (σ : zS) (h : wp_CX_cell Q v1 v2 v3 σ) (sz : Nat) : zHi l y_CX_cell b_CX_cell 5 (some .int) { frames := 11, cells := 257, slots := 616, locals := 246 } D g ad σ [.ref (ad (0, 0)), .int (zi v1), .int (zi v2), .int (zi v3)] Q sz 257 616 := by
  unfold wp_CX_cell at h
  refine zA_of (by decide) (Nat.le_of_ble_eq_true rfl) (fun E C R S hA => ?_)
  have C : zX E b_CX_cell R_CX D g { frames := 11, cells := 257, slots := 616, locals := 246 } 5 := C
  have hX : zEx ad σ ad σ := zEx.rf
  refine z_sub (L' := [(0, .ref (ad (0, 0))), (1, .int (zi v1)), (2, .int (zi v2)), (3, .int (zi v3))]) [0, 1, 2, 3] rfl ?_
  refine z_iload_n C (pc := 0) d_CX_cell_0 1 rfl ?_
  refine x_callSi (hkn := ⟨Nat.le_of_ble_eq_true rfl, Nat.le_of_ble_eq_true rfl⟩) (As := [.int (zi v1)]) (st := []) C S fs_CX_shaped wd_372 (pc := 1) d_CX_cell_1 ⟨rfl, rfl, Nat.le_of_ble_eq_true rfl, Nat.le_of_ble_eq_true rfl⟩ rfl rfl (Nat.le_of_ble_eq_true rfl) h (c_CX_shaped (zln E) D g ad _ _ _) (fun r3 σ1 h => ?_)
  obtain ⟨hE2, h⟩ := h
  have hX := hX.le hE2
  obtain ⟨hc4, h⟩ := h
  refine z_if_eq (tgt := 30) C (pc := 4) d_CX_cell_4 (by decide) hc4 h (fun h => ?_) (fun h => ?_)
  · refine z_iconst C (pc := 30) d_CX_cell_30 ?_
    refine zW.widen (k' := 257) (n' := 616) (by decide) (by decide) ?_
    exact za_iret C R hX (pc := 31) d_CX_cell_31 h
  · refine z_iload_n C (pc := 7) d_CX_cell_7 2 rfl ?_
    refine z_iconst C (pc := 8) d_CX_cell_8 ?_
    obtain ⟨hc5, h⟩ := h
    refine z_icmp_lt (tgt := 30) C (pc := 9) d_CX_cell_9 (by decide) hc5 (by decide) h (fun h => ?_) (fun h => ?_)
    · refine z_iconst C (pc := 30) d_CX_cell_30 ?_
      refine zW.widen (k' := 257) (n' := 616) (by decide) (by decide) ?_
      exact za_iret C R hX (pc := 31) d_CX_cell_31 h
    · refine z_iload_n C (pc := 12) d_CX_cell_12 2 rfl ?_
      refine z_sipush C (pc := 13) d_CX_cell_13 (by decide) ?_
      refine z_icmp_gt (tgt := 30) C (pc := 16) d_CX_cell_16 (by decide) hc5 (by decide) h (fun h => ?_) (fun h => ?_)
      · refine z_iconst C (pc := 30) d_CX_cell_30 ?_
        refine zW.widen (k' := 257) (n' := 616) (by decide) (by decide) ?_
        exact za_iret C R hX (pc := 31) d_CX_cell_31 h
      · refine z_iload_n C (pc := 19) d_CX_cell_19 3 rfl ?_
        obtain ⟨hc6, h⟩ := h
        refine z_if_lt (tgt := 30) C (pc := 20) d_CX_cell_20 (by decide) hc6 h (fun h => ?_) (fun h => ?_)
        · refine z_iconst C (pc := 30) d_CX_cell_30 ?_
          refine zW.widen (k' := 257) (n' := 616) (by decide) (by decide) ?_
          exact za_iret C R hX (pc := 31) d_CX_cell_31 h
        · refine z_iload_n C (pc := 23) d_CX_cell_23 3 rfl ?_
          refine z_sipush C (pc := 24) d_CX_cell_24 (by decide) ?_
          refine z_icmp_le (tgt := 32) C (pc := 27) d_CX_cell_27 (by decide) hc6 (by decide) h (fun h => ?_) (fun h => ?_)
          · refine z_aload_n C (pc := 32) d_CX_cell_32 0 rfl ?_
            refine x_getX (v := .ref (ad (1, 5))) C 6 (by decide) rfl wd_91 (pc := 33) d_CX_cell_33 ?_
            refine x_size (hkn := ⟨Nat.le_of_ble_eq_true rfl, Nat.le_of_ble_eq_true rfl⟩) (P := True) C S 5 (by decide) wd_146 ⟨Nat.le_of_ble_eq_true rfl, Nat.le_of_ble_eq_true rfl⟩ (Nat.le_of_ble_eq_true rfl) (pc := 36) d_CX_cell_36 ?_
            refine z_bipush C (pc := 39) d_CX_cell_39 (by decide) ?_
            obtain ⟨hc7, h⟩ := h
            refine z_icmp_lt (tgt := 47) C (pc := 41) d_CX_cell_41 (by decide) hc7 (by decide) h (fun h => ?_) (fun h => ?_)
            · refine z_aload_n C (pc := 47) d_CX_cell_47 0 rfl ?_
              refine x_getX (v := .ref (ad (0, 2))) C 7 (by decide) rfl wd_92 (pc := 48) d_CX_cell_48 ?_
              refine z_iload_n C (pc := 51) d_CX_cell_51 1 rfl ?_
              refine x_callVv (hkn := ⟨Nat.le_of_ble_eq_true rfl, Nat.le_of_ble_eq_true rfl⟩) (As := [.int (zi v1)]) (st := []) C S fy_DG_begin (0, 2) (zids_fix zfix_2) rfl rfl wd_375 (pc := 52) d_CX_cell_52 ⟨rfl, rfl, Nat.le_of_ble_eq_true rfl, Nat.le_of_ble_eq_true rfl⟩ rfl rfl (Nat.le_of_ble_eq_true rfl) h (c_DG_begin (zln E) D g ad _ _ _) (fun σ8 h => ?_)
              obtain ⟨hE9, h⟩ := h
              have hX := hX.le hE9
              refine z_aload_n C (pc := 55) d_CX_cell_55 0 rfl ?_
              refine x_getX (v := .ref (ad (0, 2))) C 7 (by decide) rfl wd_92 (pc := 56) d_CX_cell_56 ?_
              refine z_iconst C (pc := 59) d_CX_cell_59 ?_
              refine xa_callSr (As := [.ref (ad (0, 2)), .int (zi 1)]) (fun ad => [(0, .ref (ad (0, 0))), (1, .int (zi v1)), (2, .int (zi v2)), (3, .int (zi v3))]) (fun ad => []) C S hA fs_CX_parse wd_379 (pc := 60) d_CX_cell_60 ⟨rfl, rfl, Nat.le_of_ble_eq_true rfl, Nat.le_of_ble_eq_true rfl⟩ ⟨Nat.le_of_ble_eq_true rfl, Nat.le_of_ble_eq_true rfl⟩ rfl rfl (Nat.le_of_ble_eq_true rfl) (fun ad' ha => ⟨by simp only [zo_ag ha zfix_0 (by decide)], rfl⟩) h (c_CX_parse1 (zln E) D g ad _ _ _) (fun r13 σ11 ad hE12 h => ?_)
              have hX := hX.trans hE12
              refine z_astoreZ (L' := [(4, zr ad 6 r13), (0, .ref (ad (0, 0))), (1, .int (zi v1)), (2, .int (zi v2)), (3, .int (zi v3))]) C (pc := 63) d_CX_cell_63 (by decide) rfl ?_
              refine z_aloadZ C (pc := 65) d_CX_cell_65 0 rfl ?_
              refine z_ifnonnull (tgt := 72) C (pc := 67) d_CX_cell_67 (by decide) h (fun h => ?_) (fun h => ?_)
              · refine z_aload_n C (pc := 72) d_CX_cell_72 1 rfl ?_
                refine x_getX (v := .ref (ad (1, 5))) C 6 (by decide) rfl wd_91 (pc := 73) d_CX_cell_73 ?_
                obtain ⟨hc14, hc15, hc16, h⟩ := h
                refine xa_new5 (fun ad => [(4, zr ad 6 r13), (0, .ref (ad (0, 0))), (1, .int (zi v1)), (2, .int (zi v2)), (3, .int (zi v3))]) (fun ad => [.ref (ad (1, 5))]) C hA hc14 hc15 wd_422 (pc := 76) d_CX_cell_76 ⟨Nat.le_of_ble_eq_true rfl, Nat.le_of_ble_eq_true rfl⟩ (fun ad' ha => ⟨by simp only [zr_agP (x := r13) ha hc16, zo_ag ha zfix_0 (by decide)], by simp only [zo_ag ha (zfix_l (l := 5) (by decide)) (by decide)]⟩) (fun ad hE18 => ?_)
                refine zN h (fun σ17 eσ17 h => ?_)
                rw [← eσ17] at hE18
                have hX := hX.trans hE18
                refine z_dup C (pc := 79) d_CX_cell_79 (zr_cat _ _ _) ?_
                refine z_aload_n C (pc := 80) d_CX_cell_80 1 rfl ?_
                refine x_getX (v := .ref (ad (1, 5))) C 6 (by decide) rfl wd_91 (pc := 81) d_CX_cell_81 ?_
                refine x_size (hkn := ⟨Nat.le_of_ble_eq_true rfl, Nat.le_of_ble_eq_true rfl⟩) (P := True) C S 5 (by decide) wd_146 ⟨Nat.le_of_ble_eq_true rfl, Nat.le_of_ble_eq_true rfl⟩ (by simp [zr_cat, kv_cat, cat_i, cat_l, cat_r]) (pc := 84) d_CX_cell_84 ?_
                refine z_iload_n C (pc := 87) d_CX_cell_87 2 rfl ?_
                refine z_iload_n C (pc := 88) d_CX_cell_88 3 rfl ?_
                refine z_iload_n C (pc := 89) d_CX_cell_89 4 rfl ?_
                refine z_aload_n C (pc := 90) d_CX_cell_90 1 rfl ?_
                refine x_getX (v := .ref (ad (0, 2))) C 7 (by decide) rfl wd_92 (pc := 91) d_CX_cell_91 ?_
                refine x_getD C 1 (by decide) wd_77 (pc := 94) d_CX_cell_94 ?_
                refine z_aloadZ C (pc := 97) d_CX_cell_97 0 rfl ?_
                refine x_callIv (hkn := ⟨Nat.le_of_ble_eq_true rfl, Nat.le_of_ble_eq_true rfl⟩) (As := [.int (zi (σ17 40 5)), .int (zi v1), .int (zi v2), .int (zi v3), .int (zi (σ17 62 0)), zr ad 6 r13]) (st := [zr ad 5 (σ11 71 0), .ref (ad (1, 5))]) (a := ad (5, (σ11 71 0).toNat)) C S fi_CE_init wd_424 (pc := 99) d_CX_cell_99 ⟨rfl, rfl, Nat.le_of_ble_eq_true rfl, Nat.le_of_ble_eq_true rfl⟩ rfl (by rw [zr_s ad 5 hc15]; rfl) (by simp [zr_cat, kv_cat, cat_i, cat_l, cat_r]) h (c_CE_init (zln E) D g ad _ _ _ _ _ _ _ _ _) (fun σ19 h => ?_)
                obtain ⟨hE20, h⟩ := h
                have hX := hX.le hE20
                refine z_sub (L' := [(0, .ref (ad (0, 0)))]) [1] rfl ?_
                refine xa_callVi (As := [zr ad 5 (σ11 71 0)]) (fun ad => [(0, .ref (ad (0, 0)))]) (fun ad => []) C S hA fy_AL_add (1, 5) (zids_fix (zfix_l (by decide))) rfl rfl wd_297 (pc := 102) d_CX_cell_102 ⟨rfl, rfl, Nat.le_of_ble_eq_true rfl, Nat.le_of_ble_eq_true rfl⟩ ⟨Nat.le_of_ble_eq_true rfl, Nat.le_of_ble_eq_true rfl⟩ rfl rfl (Nat.le_of_ble_eq_true rfl) (fun ad' ha => ⟨by simp only [zo_ag ha zfix_0 (by decide)], rfl⟩) h (c_AL_add (zln E) D g ad 5 (by decide) _ _ _) (fun r23 σ21 ad hE22 h => ?_)
                have hX := hX.trans hE22
                refine z_pop C (pc := 105) d_CX_cell_105 rfl ?_
                refine z_aload_n C (pc := 106) d_CX_cell_106 0 rfl ?_
                refine x_callVv (hkn := ⟨Nat.le_of_ble_eq_true rfl, Nat.le_of_ble_eq_true rfl⟩) (As := []) (st := []) C S fy_CX_changed (0, 0) (zids_fix zfix_0) rfl rfl wd_302 (pc := 107) d_CX_cell_107 ⟨rfl, rfl, Nat.le_of_ble_eq_true rfl, Nat.le_of_ble_eq_true rfl⟩ rfl rfl (Nat.le_of_ble_eq_true rfl) h (c_CX_changed (zln E) D g ad _ _) (fun σ24 h => ?_)
                obtain ⟨hE25, h⟩ := h
                have hX := hX.le hE25
                refine z_aload_n C (pc := 110) d_CX_cell_110 0 rfl ?_
                refine x_getX (v := .ref (ad (1, 5))) C 6 (by decide) rfl wd_91 (pc := 111) d_CX_cell_111 ?_
                refine x_size (hkn := ⟨Nat.le_of_ble_eq_true rfl, Nat.le_of_ble_eq_true rfl⟩) (P := True) C S 5 (by decide) wd_146 ⟨Nat.le_of_ble_eq_true rfl, Nat.le_of_ble_eq_true rfl⟩ (Nat.le_of_ble_eq_true rfl) (pc := 114) d_CX_cell_114 ?_
                refine z_iconst C (pc := 117) d_CX_cell_117 ?_
                refine z_isub C (pc := 118) d_CX_cell_118 ?_
                exact za_iret C R hX (pc := 119) d_CX_cell_119 h
              · refine z_iconst C (pc := 70) d_CX_cell_70 ?_
                refine zW.widen (k' := 257) (n' := 616) (by decide) (by decide) ?_
                exact za_iret C R hX (pc := 71) d_CX_cell_71 h
            · refine z_bipush C (pc := 44) d_CX_cell_44 (by decide) ?_
              refine zW.widen (k' := 257) (n' := 616) (by decide) (by decide) ?_
              exact za_iret C R hX (pc := 46) d_CX_cell_46 h
          · refine z_iconst C (pc := 30) d_CX_cell_30 ?_
            refine zW.widen (k' := 257) (n' := 616) (by decide) (by decide) ?_
            exact za_iret C R hX (pc := 31) d_CX_cell_31 h
