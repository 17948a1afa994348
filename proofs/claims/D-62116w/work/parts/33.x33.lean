theorem d_CX_choose_0 : decode b_CX_choose 0 = .ok (.aload_n 1, 1) := by decide +kernel
theorem d_CX_choose_1 : decode b_CX_choose 1 = .ok (.ldc 217, 2) := by decide +kernel
theorem d_CX_choose_3 : decode b_CX_choose 3 = .ok (.putfield 218, 3) := by decide +kernel
theorem d_CX_choose_6 : decode b_CX_choose 6 = .ok (.iconst 0, 1) := by decide +kernel
theorem d_CX_choose_7 : decode b_CX_choose 7 = .ok (.istore_n 2, 1) := by decide +kernel
theorem d_CX_choose_8 : decode b_CX_choose 8 = .ok (.iload_n 2, 1) := by decide +kernel
theorem d_CX_choose_9 : decode b_CX_choose 9 = .ok (.aload_n 0, 1) := by decide +kernel
theorem d_CX_choose_10 : decode b_CX_choose 10 = .ok (.getfield 81, 3) := by decide +kernel
theorem d_CX_choose_13 : decode b_CX_choose 13 = .ok (.invokevirtual 113, 3) := by decide +kernel
theorem d_CX_choose_16 : decode b_CX_choose 16 = .ok (.if_icmp .ge 64, 3) := by decide +kernel
theorem d_CX_choose_19 : decode b_CX_choose 19 = .ok (.aload_n 0, 1) := by decide +kernel
theorem d_CX_choose_20 : decode b_CX_choose 20 = .ok (.getfield 81, 3) := by decide +kernel
theorem d_CX_choose_23 : decode b_CX_choose 23 = .ok (.iload_n 2, 1) := by decide +kernel
theorem d_CX_choose_24 : decode b_CX_choose 24 = .ok (.invokevirtual 116, 3) := by decide +kernel
theorem d_CX_choose_27 : decode b_CX_choose 27 = .ok (.checkcast 170, 3) := by decide +kernel
theorem d_CX_choose_30 : decode b_CX_choose 30 = .ok (.astore_n 3, 1) := by decide +kernel
theorem d_CX_choose_31 : decode b_CX_choose 31 = .ok (.ldc 217, 2) := by decide +kernel
theorem d_CX_choose_33 : decode b_CX_choose 33 = .ok (.aload_n 3, 1) := by decide +kernel
theorem d_CX_choose_34 : decode b_CX_choose 34 = .ok (.getfield 221, 3) := by decide +kernel
theorem d_CX_choose_37 : decode b_CX_choose 37 = .ok (.aload_n 3, 1) := by decide +kernel
theorem d_CX_choose_38 : decode b_CX_choose 38 = .ok (.getfield 224, 3) := by decide +kernel
theorem d_CX_choose_41 : decode b_CX_choose 41 = .ok (.aload_n 1, 1) := by decide +kernel
theorem d_CX_choose_42 : decode b_CX_choose 42 = .ok (.iconst 1, 1) := by decide +kernel
theorem d_CX_choose_43 : decode b_CX_choose 43 = .ok (.invokeinterface 228 3, 5) := by decide +kernel
theorem d_CX_choose_48 : decode b_CX_choose 48 = .ok (.iadd, 1) := by decide +kernel
theorem d_CX_choose_49 : decode b_CX_choose 49 = .ok (.invokestatic 234, 3) := by decide +kernel
theorem d_CX_choose_52 : decode b_CX_choose 52 = .ok (.istore 4, 2) := by decide +kernel
theorem d_CX_choose_54 : decode b_CX_choose 54 = .ok (.iload 4, 2) := by decide +kernel
theorem d_CX_choose_56 : decode b_CX_choose 56 = .ok (.aload_n 1, 1) := by decide +kernel
theorem d_CX_choose_57 : decode b_CX_choose 57 = .ok (.getfield 218, 3) := by decide +kernel
theorem d_CX_choose_60 : decode b_CX_choose 60 = .ok (.if_icmp .ge 14, 3) := by decide +kernel
theorem d_CX_choose_63 : decode b_CX_choose 63 = .ok (.aload_n 1, 1) := by decide +kernel
theorem d_CX_choose_64 : decode b_CX_choose 64 = .ok (.iload 4, 2) := by decide +kernel
theorem d_CX_choose_66 : decode b_CX_choose 66 = .ok (.putfield 218, 3) := by decide +kernel
theorem d_CX_choose_69 : decode b_CX_choose 69 = .ok (.aload_n 1, 1) := by decide +kernel
theorem d_CX_choose_70 : decode b_CX_choose 70 = .ok (.aload_n 3, 1) := by decide +kernel
theorem d_CX_choose_71 : decode b_CX_choose 71 = .ok (.putfield 199, 3) := by decide +kernel
theorem d_CX_choose_74 : decode b_CX_choose 74 = .ok (.iinc 2 1, 3) := by decide +kernel
theorem d_CX_choose_77 : decode b_CX_choose 77 = .ok (.goto (-69), 3) := by decide +kernel
theorem d_CX_choose_80 : decode b_CX_choose 80 = .ok (.return_, 1) := by decide +kernel
def lp_CX_choose_8 (Q : zS → Prop) : Nat → Int → Int → zS → Prop
  | 0 => fun _ _ _ => False
  | n + 1 => fun v1 v2 σ =>
    zc v2 ∧ zc (σ 40 5) ∧ ((σ 40 5 ≤ v2 →
      Q σ) ∧
     (¬ σ 40 5 ≤ v2 →
      0 ≤ v2 ∧ v2 < σ 40 5 ∧ 
      0 ≤ σ 46 v2 ∧ σ 46 v2 < σ 71 0 ∧ 
      ∀ y10, y10 = σ 46 v2 →
      wp_lay 8 (fun r12 σ11 =>
        zc ((σ 22 y10) + r12) ∧ 
        ∀ y14, y14 = (if (σ 22 y10) + r12 < 268435456 then (σ 22 y10) + r12 else 268435456) →
        0 ≤ v1 ∧ v1 < σ11 70 0 ∧ 
        zc y14 ∧ zc (σ11 13 v1) ∧ ((σ11 13 v1 ≤ y14 →
          lp_CX_choose_8 Q n v1 (v2 + 1) σ11) ∧
         (¬ σ11 13 v1 ≤ y14 →
          ∀ σ19, σ19 = zup σ11 13 v1 y14 →
          ∀ σ20, σ20 = zup σ19 14 v1 y10 →
          lp_CX_choose_8 Q n v1 (v2 + 1) σ20))) (σ 25 y10) v1 1 σ))
def wp_CX_choose (Q : zS → Prop) (v1 : Int) (σ : zS) : Prop :=
  0 ≤ v1 ∧ v1 < σ 70 0 ∧ ∀ σ1, σ1 = zup σ 13 v1 268435456 →
  ∃ u8, lp_CX_choose_8 Q u8 v1 0 σ1
set_option maxHeartbeats 4000000 in
set_option maxRecDepth 100000 in
theorem wk_CX_choose_8 {E : zE} {D : va_G} {g : zG} {A : Nat → Prop} {ad : zA} {Q : zS → Prop} (C : zX E b_CX_choose R_CX D g { frames := 25, cells := 0, slots := 0, locals := 824 } 5) (R : zRt E none (zQv D g ad Q A) 0 0 A) (S : zSt g A (zst E) (zst E).heap) : ∀ (n : Nat) (v1 : Int) (v2 : Int) (σ : zS), lp_CX_choose_8 Q n v1 v2 σ → zW E (zOK D A (zst E) g ad) 0 0 8 [(0, .ref (ad (0, 0))), (1, zr ad 4 v1), (2, .int (zi v2))] [] σ := by
  intro n
  induction n with
  | zero =>
    intro v1 v2 σ h
    exact h.elim
  | succ n ih =>
    intro v1 v2 σ h
    refine z_iload_n C (pc := 8) d_CX_choose_8 2 rfl ?_
    refine z_aload_n C (pc := 9) d_CX_choose_9 0 rfl ?_
    refine x_getX (v := .ref (ad (1, 5))) C 6 (by decide) rfl wd_91 (pc := 10) d_CX_choose_10 ?_
    refine x_size (P := True) C S 5 (by decide) wd_146 ⟨Nat.le_of_ble_eq_true rfl, Nat.le_of_ble_eq_true rfl⟩ (Nat.le_of_ble_eq_true rfl) (pc := 13) d_CX_choose_13 ?_
    obtain ⟨hc4, hc5, h⟩ := h
    refine z_icmp_ge (tgt := 80) C (pc := 16) d_CX_choose_16 (by decide) hc4 hc5 h (fun h => ?_) (fun h => ?_)
    · exact z_vret C R (pc := 80) d_CX_choose_80 h
    · refine z_aload_n C (pc := 19) d_CX_choose_19 0 rfl ?_
      refine x_getX (v := .ref (ad (1, 5))) C 6 (by decide) rfl wd_91 (pc := 20) d_CX_choose_20 ?_
      refine z_iload_n C (pc := 23) d_CX_choose_23 2 rfl ?_
      obtain ⟨hc6, hc7, h⟩ := h
      refine x_lget C S 5 (by decide) hc6 hc7 wd_306 ⟨Nat.le_of_ble_eq_true rfl, Nat.le_of_ble_eq_true rfl⟩ (Nat.le_of_ble_eq_true rfl) (pc := 24) d_CX_choose_24 ?_
      obtain ⟨hc8, hc9, h⟩ := h
      refine x_castC C wd_422 hc8 hc9 (pc := 27) d_CX_choose_27 ?_
      refine zNz h (fun y10 ey10 h => ?_)
      refine z_astoreZ_n (L' := [(3, zr ad 5 y10), (0, .ref (ad (0, 0))), (1, zr ad 4 v1), (2, .int (zi v2))]) C (pc := 30) d_CX_choose_30 (by decide) rfl ?_
      refine z_ldc (x := 268435456) C (pc := 31) d_CX_choose_31 wd_496 (by decide) ?_
      refine z_aloadZ_n C (pc := 33) d_CX_choose_33 0 rfl ?_
      refine x_getC (v := .int (zi (σ 22 y10))) C 2 (by decide) (by rw [ey10]; exact hc8) (by rw [ey10]; exact hc9) rfl wd_433 (pc := 34) d_CX_choose_34 ?_
      refine z_aloadZ_n C (pc := 37) d_CX_choose_37 0 rfl ?_
      refine x_getC (v := zr ad 6 (σ 25 y10)) C 5 (by decide) (by rw [ey10]; exact hc8) (by rw [ey10]; exact hc9) rfl wd_439 (pc := 38) d_CX_choose_38 ?_
      refine z_aloadZ_n C (pc := 41) d_CX_choose_41 2 rfl ?_
      refine z_iconst C (pc := 42) d_CX_choose_42 ?_
      refine x_callF_lay (As := [zr ad 4 v1, .int (zi 1)]) C S wd_498 (pc := 43) d_CX_choose_43 ⟨Nat.le_of_ble_eq_true rfl, Nat.le_of_ble_eq_true rfl⟩ rfl (Nat.le_of_ble_eq_true rfl) h (c_lay 8) (fun r12 σ11 h => ?_)
      refine z_iadd C (pc := 48) d_CX_choose_48 ?_
      obtain ⟨hc13, h⟩ := h
      refine x_mmin C wd_547 ⟨Nat.le_of_ble_eq_true rfl, Nat.le_of_ble_eq_true rfl, Nat.zero_le _, Nat.zero_le _⟩ (by decide) hc13 (Nat.le_of_ble_eq_true rfl) (pc := 49) d_CX_choose_49 ?_
      refine zNi h (fun y14 ey14 h => ?_)
      refine z_istore (L' := [(4, .int (zi y14)), (3, zr ad 5 y10), (0, .ref (ad (0, 0))), (1, zr ad 4 v1), (2, .int (zi v2))]) C (pc := 52) d_CX_choose_52 (by decide) (congrArg (List.cons _) (flt_eq (j := 4) rfl (List.forall_mem_singleton.mpr (zr_cat _ _ _)) rfl)) ?_
      refine z_iload C (pc := 54) d_CX_choose_54 0 rfl ?_
      refine z_aloadZ_n C (pc := 56) d_CX_choose_56 3 rfl ?_
      obtain ⟨hc15, hc16, h⟩ := h
      refine x_getN (v := .int (zi (σ11 13 v1))) C 13 (by decide) hc15 hc16 rfl wd_197 (pc := 57) d_CX_choose_57 ?_
      obtain ⟨hc17, hc18, h⟩ := h
      refine z_icmp_ge (tgt := 74) C (pc := 60) d_CX_choose_60 (by decide) hc17 hc18 h (fun h => ?_) (fun h => ?_)
      · refine z_iinc (L' := [(2, .int (zi (v2 + 1))), (4, .int (zi y14)), (3, zr ad 5 y10), (0, .ref (ad (0, 0))), (1, zr ad 4 v1)]) C (pc := 74) d_CX_choose_74 4 rfl (by decide) (congrArg (List.cons _) (flt_eq (j := 2) rfl (List.forall_mem_singleton.mpr (zr_cat _ _ _)) rfl)) ?_
        refine z_goto (tgt := 8) C (pc := 77) d_CX_choose_77 (by decide) ?_
        refine z_sub [3, 4, 0] rfl ?_
        exact ih _ _ _ h
      · refine z_aloadZ_n C (pc := 63) d_CX_choose_63 3 rfl ?_
        refine z_iload C (pc := 64) d_CX_choose_64 0 rfl ?_
        refine x_putN (v := y14) C 13 (by decide) hc15 hc16 rfl ⟨rfl, rfl⟩ rfl wd_197 (pc := 66) d_CX_choose_66 ?_
        refine zN h (fun σ19 eσ19 h => ?_)
        refine z_aloadZ_n C (pc := 69) d_CX_choose_69 3 rfl ?_
        refine z_aloadZ_n C (pc := 70) d_CX_choose_70 1 rfl ?_
        refine x_putN (v := y10) C 14 (by decide) hc15 (by rw [eσ19]; exact hc16) rfl (zr_fit _ _ _ _) rfl wd_198 (pc := 71) d_CX_choose_71 ?_
        refine zN h (fun σ20 eσ20 h => ?_)
        refine z_iinc (L' := [(2, .int (zi (v2 + 1))), (4, .int (zi y14)), (3, zr ad 5 y10), (0, .ref (ad (0, 0))), (1, zr ad 4 v1)]) C (pc := 74) d_CX_choose_74 4 rfl (by decide) (congrArg (List.cons _) (flt_eq (j := 2) rfl (List.forall_mem_singleton.mpr (zr_cat _ _ _)) rfl)) ?_
        refine z_goto (tgt := 8) C (pc := 77) d_CX_choose_77 (by decide) ?_
        refine z_sub [3, 4, 0] rfl ?_
        exact ih _ _ _ h
set_option maxHeartbeats 4000000 in
set_option maxRecDepth 100000 in
theorem c_CX_choose (l : Launch) (D : va_G) (g : zG) (ad : zA) (v1 : Int) (Q : zS → Prop) (σ : zS) (h : wp_CX_choose Q v1 σ) : zGv l y_CX_choose b_CX_choose 5 none { frames := 25, cells := 0, slots := 0, locals := 824 } D g ad σ [.ref (ad (0, 0)), zr ad 4 v1] Q := by
  unfold wp_CX_choose at h
  refine zN_of (by decide) (by simp [lg_sl, zr_cat, kv_cat, cat_i, cat_l, cat_r]) (fun E C R S => ?_)
  have C : zX E b_CX_choose R_CX D g { frames := 25, cells := 0, slots := 0, locals := 824 } 5 := C
  refine z_sub (L' := [(0, .ref (ad (0, 0))), (1, zr ad 4 v1)]) [0, 1] (by simp [lv_args, lv_pick, zr_cat, kv_cat, cat_i, cat_l, cat_r]) ?_
  refine z_aloadZ_n C (pc := 0) d_CX_choose_0 1 rfl ?_
  refine z_ldc (x := 268435456) C (pc := 1) d_CX_choose_1 wd_496 (by decide) ?_
  obtain ⟨hc2, hc3, h⟩ := h
  refine x_putN (v := 268435456) C 13 (by decide) hc2 hc3 rfl ⟨rfl, rfl⟩ rfl wd_197 (pc := 3) d_CX_choose_3 ?_
  refine zN h (fun σ1 eσ1 h => ?_)
  refine z_iconst C (pc := 6) d_CX_choose_6 ?_
  refine z_istore_n (L' := [(2, .int (zi 0)), (0, .ref (ad (0, 0))), (1, zr ad 4 v1)]) C (pc := 7) d_CX_choose_7 (by decide) (congrArg (List.cons _) (flt_eq (j := 2) rfl (List.forall_mem_singleton.mpr (zr_cat _ _ _)) rfl)) ?_
  refine z_sub [1, 2, 0] rfl ?_
  obtain ⟨n21, h⟩ := h
  exact wk_CX_choose_8 C R S n21 _ _ _ h
theorem d_CX_cover_0 : decode b_CX_cover 0 = .ok (.iconst 0, 1) := by decide +kernel
theorem d_CX_cover_1 : decode b_CX_cover 1 = .ok (.istore_n 1, 1) := by decide +kernel
theorem d_CX_cover_2 : decode b_CX_cover 2 = .ok (.iload_n 1, 1) := by decide +kernel
theorem d_CX_cover_3 : decode b_CX_cover 3 = .ok (.aload_n 0, 1) := by decide +kernel
theorem d_CX_cover_4 : decode b_CX_cover 4 = .ok (.getfield 65, 3) := by decide +kernel
theorem d_CX_cover_7 : decode b_CX_cover 7 = .ok (.invokevirtual 113, 3) := by decide +kernel
theorem d_CX_cover_10 : decode b_CX_cover 10 = .ok (.if_icmp .ge 51, 3) := by decide +kernel
theorem d_CX_cover_13 : decode b_CX_cover 13 = .ok (.aload_n 0, 1) := by decide +kernel
theorem d_CX_cover_14 : decode b_CX_cover 14 = .ok (.getfield 65, 3) := by decide +kernel
theorem d_CX_cover_17 : decode b_CX_cover 17 = .ok (.iload_n 1, 1) := by decide +kernel
theorem d_CX_cover_18 : decode b_CX_cover 18 = .ok (.invokevirtual 116, 3) := by decide +kernel
theorem d_CX_cover_21 : decode b_CX_cover 21 = .ok (.checkcast 89, 3) := by decide +kernel
theorem d_CX_cover_24 : decode b_CX_cover 24 = .ok (.astore_n 2, 1) := by decide +kernel
theorem d_CX_cover_25 : decode b_CX_cover 25 = .ok (.aload_n 2, 1) := by decide +kernel
theorem d_CX_cover_26 : decode b_CX_cover 26 = .ok (.iconst 0, 1) := by decide +kernel
theorem d_CX_cover_27 : decode b_CX_cover 27 = .ok (.putfield 187, 3) := by decide +kernel
theorem d_CX_cover_30 : decode b_CX_cover 30 = .ok (.aload_n 2, 1) := by decide +kernel
theorem d_CX_cover_31 : decode b_CX_cover 31 = .ok (.iconst 0, 1) := by decide +kernel
theorem d_CX_cover_32 : decode b_CX_cover 32 = .ok (.putfield 193, 3) := by decide +kernel
theorem d_CX_cover_35 : decode b_CX_cover 35 = .ok (.aload_n 2, 1) := by decide +kernel
theorem d_CX_cover_36 : decode b_CX_cover 36 = .ok (.iconst 0, 1) := by decide +kernel
theorem d_CX_cover_37 : decode b_CX_cover 37 = .ok (.putfield 196, 3) := by decide +kernel
theorem d_CX_cover_40 : decode b_CX_cover 40 = .ok (.aload_n 2, 1) := by decide +kernel
theorem d_CX_cover_41 : decode b_CX_cover 41 = .ok (.iconst 0, 1) := by decide +kernel
theorem d_CX_cover_42 : decode b_CX_cover 42 = .ok (.putfield 190, 3) := by decide +kernel
theorem d_CX_cover_45 : decode b_CX_cover 45 = .ok (.aload_n 2, 1) := by decide +kernel
theorem d_CX_cover_46 : decode b_CX_cover 46 = .ok (.aconst_null, 1) := by decide +kernel
theorem d_CX_cover_47 : decode b_CX_cover 47 = .ok (.putfield 199, 3) := by decide +kernel
theorem d_CX_cover_50 : decode b_CX_cover 50 = .ok (.aload_n 2, 1) := by decide +kernel
theorem d_CX_cover_51 : decode b_CX_cover 51 = .ok (.iconst 0, 1) := by decide +kernel
theorem d_CX_cover_52 : decode b_CX_cover 52 = .ok (.putfield 203, 3) := by decide +kernel
theorem d_CX_cover_55 : decode b_CX_cover 55 = .ok (.iinc 1 1, 3) := by decide +kernel
theorem d_CX_cover_58 : decode b_CX_cover 58 = .ok (.goto (-56), 3) := by decide +kernel
theorem d_CX_cover_61 : decode b_CX_cover 61 = .ok (.iconst 0, 1) := by decide +kernel
theorem d_CX_cover_62 : decode b_CX_cover 62 = .ok (.istore_n 1, 1) := by decide +kernel
theorem d_CX_cover_63 : decode b_CX_cover 63 = .ok (.iload_n 1, 1) := by decide +kernel
theorem d_CX_cover_64 : decode b_CX_cover 64 = .ok (.aload_n 0, 1) := by decide +kernel
theorem d_CX_cover_65 : decode b_CX_cover 65 = .ok (.getfield 78, 3) := by decide +kernel
theorem d_CX_cover_68 : decode b_CX_cover 68 = .ok (.invokevirtual 113, 3) := by decide +kernel
theorem d_CX_cover_71 : decode b_CX_cover 71 = .ok (.if_icmp .ge 31, 3) := by decide +kernel
theorem d_CX_cover_74 : decode b_CX_cover 74 = .ok (.aload_n 0, 1) := by decide +kernel
theorem d_CX_cover_75 : decode b_CX_cover 75 = .ok (.getfield 78, 3) := by decide +kernel
theorem d_CX_cover_78 : decode b_CX_cover 78 = .ok (.iload_n 1, 1) := by decide +kernel
theorem d_CX_cover_79 : decode b_CX_cover 79 = .ok (.invokevirtual 116, 3) := by decide +kernel
theorem d_CX_cover_82 : decode b_CX_cover 82 = .ok (.checkcast 89, 3) := by decide +kernel
theorem d_CX_cover_85 : decode b_CX_cover 85 = .ok (.astore_n 2, 1) := by decide +kernel
theorem d_CX_cover_86 : decode b_CX_cover 86 = .ok (.aload_n 2, 1) := by decide +kernel
theorem d_CX_cover_87 : decode b_CX_cover 87 = .ok (.iconst 1, 1) := by decide +kernel
theorem d_CX_cover_88 : decode b_CX_cover 88 = .ok (.putfield 187, 3) := by decide +kernel
theorem d_CX_cover_91 : decode b_CX_cover 91 = .ok (.aload_n 2, 1) := by decide +kernel
theorem d_CX_cover_92 : decode b_CX_cover 92 = .ok (.iconst 1, 1) := by decide +kernel
theorem d_CX_cover_93 : decode b_CX_cover 93 = .ok (.putfield 193, 3) := by decide +kernel
theorem d_CX_cover_96 : decode b_CX_cover 96 = .ok (.iinc 1 1, 3) := by decide +kernel
theorem d_CX_cover_99 : decode b_CX_cover 99 = .ok (.goto (-36), 3) := by decide +kernel
theorem d_CX_cover_102 : decode b_CX_cover 102 = .ok (.iconst 0, 1) := by decide +kernel
theorem d_CX_cover_103 : decode b_CX_cover 103 = .ok (.istore_n 1, 1) := by decide +kernel
theorem d_CX_cover_104 : decode b_CX_cover 104 = .ok (.iload_n 1, 1) := by decide +kernel
theorem d_CX_cover_105 : decode b_CX_cover 105 = .ok (.aload_n 0, 1) := by decide +kernel
theorem d_CX_cover_106 : decode b_CX_cover 106 = .ok (.getfield 75, 3) := by decide +kernel
theorem d_CX_cover_109 : decode b_CX_cover 109 = .ok (.invokevirtual 113, 3) := by decide +kernel
theorem d_CX_cover_112 : decode b_CX_cover 112 = .ok (.if_icmp .ge 37, 3) := by decide +kernel
theorem d_CX_cover_115 : decode b_CX_cover 115 = .ok (.aload_n 0, 1) := by decide +kernel
theorem d_CX_cover_116 : decode b_CX_cover 116 = .ok (.getfield 75, 3) := by decide +kernel
theorem d_CX_cover_119 : decode b_CX_cover 119 = .ok (.iload_n 1, 1) := by decide +kernel
theorem d_CX_cover_120 : decode b_CX_cover 120 = .ok (.invokevirtual 116, 3) := by decide +kernel
theorem d_CX_cover_123 : decode b_CX_cover 123 = .ok (.checkcast 89, 3) := by decide +kernel
theorem d_CX_cover_126 : decode b_CX_cover 126 = .ok (.astore_n 2, 1) := by decide +kernel
theorem d_CX_cover_127 : decode b_CX_cover 127 = .ok (.aload_n 2, 1) := by decide +kernel
theorem d_CX_cover_128 : decode b_CX_cover 128 = .ok (.getfield 159, 3) := by decide +kernel
theorem d_CX_cover_131 : decode b_CX_cover 131 = .ok (.iconst 1, 1) := by decide +kernel
theorem d_CX_cover_132 : decode b_CX_cover 132 = .ok (.putfield 187, 3) := by decide +kernel
theorem d_CX_cover_135 : decode b_CX_cover 135 = .ok (.aload_n 2, 1) := by decide +kernel
theorem d_CX_cover_136 : decode b_CX_cover 136 = .ok (.getfield 159, 3) := by decide +kernel
theorem d_CX_cover_139 : decode b_CX_cover 139 = .ok (.iconst 1, 1) := by decide +kernel
theorem d_CX_cover_140 : decode b_CX_cover 140 = .ok (.putfield 193, 3) := by decide +kernel
theorem d_CX_cover_143 : decode b_CX_cover 143 = .ok (.iinc 1 1, 3) := by decide +kernel
theorem d_CX_cover_146 : decode b_CX_cover 146 = .ok (.goto (-42), 3) := by decide +kernel
theorem d_CX_cover_149 : decode b_CX_cover 149 = .ok (.aload_n 0, 1) := by decide +kernel
theorem d_CX_cover_150 : decode b_CX_cover 150 = .ok (.getfield 65, 3) := by decide +kernel
theorem d_CX_cover_153 : decode b_CX_cover 153 = .ok (.invokevirtual 113, 3) := by decide +kernel
theorem d_CX_cover_156 : decode b_CX_cover 156 = .ok (.iconst 1, 1) := by decide +kernel
theorem d_CX_cover_157 : decode b_CX_cover 157 = .ok (.isub, 1) := by decide +kernel
theorem d_CX_cover_158 : decode b_CX_cover 158 = .ok (.istore_n 1, 1) := by decide +kernel
theorem d_CX_cover_159 : decode b_CX_cover 159 = .ok (.iload_n 1, 1) := by decide +kernel
theorem d_CX_cover_160 : decode b_CX_cover 160 = .ok (.ifCond .lt 59, 3) := by decide +kernel
theorem d_CX_cover_163 : decode b_CX_cover 163 = .ok (.aload_n 0, 1) := by decide +kernel
theorem d_CX_cover_164 : decode b_CX_cover 164 = .ok (.getfield 65, 3) := by decide +kernel
theorem d_CX_cover_167 : decode b_CX_cover 167 = .ok (.iload_n 1, 1) := by decide +kernel
theorem d_CX_cover_168 : decode b_CX_cover 168 = .ok (.invokevirtual 116, 3) := by decide +kernel
theorem d_CX_cover_171 : decode b_CX_cover 171 = .ok (.checkcast 89, 3) := by decide +kernel
theorem d_CX_cover_174 : decode b_CX_cover 174 = .ok (.astore_n 2, 1) := by decide +kernel
theorem d_CX_cover_175 : decode b_CX_cover 175 = .ok (.aload_n 2, 1) := by decide +kernel
theorem d_CX_cover_176 : decode b_CX_cover 176 = .ok (.getfield 187, 3) := by decide +kernel
theorem d_CX_cover_179 : decode b_CX_cover 179 = .ok (.ifCond .eq 34, 3) := by decide +kernel
theorem d_CX_cover_182 : decode b_CX_cover 182 = .ok (.aload_n 2, 1) := by decide +kernel
theorem d_CX_cover_183 : decode b_CX_cover 183 = .ok (.getfield 156, 3) := by decide +kernel
theorem d_CX_cover_186 : decode b_CX_cover 186 = .ok (.invokevirtual 206, 3) := by decide +kernel
theorem d_CX_cover_189 : decode b_CX_cover 189 = .ok (.ifCond .eq 24, 3) := by decide +kernel
theorem d_CX_cover_192 : decode b_CX_cover 192 = .ok (.aload_n 2, 1) := by decide +kernel
theorem d_CX_cover_193 : decode b_CX_cover 193 = .ok (.getfield 178, 3) := by decide +kernel
theorem d_CX_cover_196 : decode b_CX_cover 196 = .ok (.invokestatic 210, 3) := by decide +kernel
theorem d_CX_cover_199 : decode b_CX_cover 199 = .ok (.aload_n 2, 1) := by decide +kernel
theorem d_CX_cover_200 : decode b_CX_cover 200 = .ok (.getfield 181, 3) := by decide +kernel
theorem d_CX_cover_203 : decode b_CX_cover 203 = .ok (.ifnull 10, 3) := by decide +kernel
theorem d_CX_cover_206 : decode b_CX_cover 206 = .ok (.aload_n 2, 1) := by decide +kernel
theorem d_CX_cover_207 : decode b_CX_cover 207 = .ok (.getfield 181, 3) := by decide +kernel
theorem d_CX_cover_210 : decode b_CX_cover 210 = .ok (.invokestatic 210, 3) := by decide +kernel
theorem d_CX_cover_213 : decode b_CX_cover 213 = .ok (.iinc 1 (-1), 3) := by decide +kernel
theorem d_CX_cover_216 : decode b_CX_cover 216 = .ok (.goto (-57), 3) := by decide +kernel
theorem d_CX_cover_219 : decode b_CX_cover 219 = .ok (.iconst 0, 1) := by decide +kernel
theorem d_CX_cover_220 : decode b_CX_cover 220 = .ok (.istore_n 1, 1) := by decide +kernel
theorem d_CX_cover_221 : decode b_CX_cover 221 = .ok (.iload_n 1, 1) := by decide +kernel
theorem d_CX_cover_222 : decode b_CX_cover 222 = .ok (.aload_n 0, 1) := by decide +kernel
theorem d_CX_cover_223 : decode b_CX_cover 223 = .ok (.getfield 65, 3) := by decide +kernel
theorem d_CX_cover_226 : decode b_CX_cover 226 = .ok (.invokevirtual 113, 3) := by decide +kernel
theorem d_CX_cover_229 : decode b_CX_cover 229 = .ok (.if_icmp .ge 43, 3) := by decide +kernel
theorem d_CX_cover_232 : decode b_CX_cover 232 = .ok (.aload_n 0, 1) := by decide +kernel
theorem d_CX_cover_233 : decode b_CX_cover 233 = .ok (.getfield 65, 3) := by decide +kernel
theorem d_CX_cover_236 : decode b_CX_cover 236 = .ok (.iload_n 1, 1) := by decide +kernel
theorem d_CX_cover_237 : decode b_CX_cover 237 = .ok (.invokevirtual 116, 3) := by decide +kernel
theorem d_CX_cover_240 : decode b_CX_cover 240 = .ok (.checkcast 89, 3) := by decide +kernel
theorem d_CX_cover_243 : decode b_CX_cover 243 = .ok (.astore_n 2, 1) := by decide +kernel
theorem d_CX_cover_244 : decode b_CX_cover 244 = .ok (.aload_n 2, 1) := by decide +kernel
theorem d_CX_cover_245 : decode b_CX_cover 245 = .ok (.getfield 187, 3) := by decide +kernel
theorem d_CX_cover_248 : decode b_CX_cover 248 = .ok (.ifCond .eq 18, 3) := by decide +kernel
theorem d_CX_cover_251 : decode b_CX_cover 251 = .ok (.aload_n 2, 1) := by decide +kernel
theorem d_CX_cover_252 : decode b_CX_cover 252 = .ok (.getfield 156, 3) := by decide +kernel
theorem d_CX_cover_255 : decode b_CX_cover 255 = .ok (.invokevirtual 206, 3) := by decide +kernel
theorem d_CX_cover_258 : decode b_CX_cover 258 = .ok (.ifCond .eq 8, 3) := by decide +kernel
theorem d_CX_cover_261 : decode b_CX_cover 261 = .ok (.aload_n 0, 1) := by decide +kernel
theorem d_CX_cover_262 : decode b_CX_cover 262 = .ok (.aload_n 2, 1) := by decide +kernel
theorem d_CX_cover_263 : decode b_CX_cover 263 = .ok (.invokevirtual 214, 3) := by decide +kernel
theorem d_CX_cover_266 : decode b_CX_cover 266 = .ok (.iinc 1 1, 3) := by decide +kernel
theorem d_CX_cover_269 : decode b_CX_cover 269 = .ok (.goto (-48), 3) := by decide +kernel
theorem d_CX_cover_272 : decode b_CX_cover 272 = .ok (.return_, 1) := by decide +kernel
def lp_CX_cover_221 (Q : zS → Prop) : Nat → Int → zS → Prop
  | 0 => fun _ _ => False
  | n + 1 => fun v1 σ =>
    zc v1 ∧ zc (σ 40 0) ∧ ((σ 40 0 ≤ v1 →
      Q σ) ∧
     (¬ σ 40 0 ≤ v1 →
      0 ≤ v1 ∧ v1 < σ 40 0 ∧ 
      0 ≤ σ 41 v1 ∧ σ 41 v1 < σ 70 0 ∧ 
      ∀ y15, y15 = σ 41 v1 →
      zc (σ 9 y15) ∧ ((σ 9 y15 = 0 →
        lp_CX_cover_221 Q n (v1 + 1) σ) ∧
       (¬ σ 9 y15 = 0 →
        0 ≤ σ 1 y15 ∧ σ 1 y15 < 4 ∧ 
        ((lgc (σ 1 y15) = 0 →
          lp_CX_cover_221 Q n (v1 + 1) σ) ∧
         (¬ lgc (σ 1 y15) = 0 →
          wp_CX_choose (fun σ19 =>
            lp_CX_cover_221 Q n (v1 + 1) σ19) y15 σ))))))
def lp_CX_cover_159 (Q : zS → Prop) : Nat → Int → zS → Prop
  | 0 => fun _ _ => False
  | n + 1 => fun v1 σ =>
    zc v1 ∧ ((v1 < 0 →
      ∃ u221, lp_CX_cover_221 Q u221 0 σ) ∧
     (¬ v1 < 0 →
      0 ≤ v1 ∧ v1 < σ 40 0 ∧ 
      0 ≤ σ 41 v1 ∧ σ 41 v1 < σ 70 0 ∧ 
      ∀ y26, y26 = σ 41 v1 →
      zc (σ 9 y26) ∧ ((σ 9 y26 = 0 →
        lp_CX_cover_159 Q n (v1 + (-1)) σ) ∧
       (¬ σ 9 y26 = 0 →
        0 ≤ σ 1 y26 ∧ σ 1 y26 < 4 ∧ 
        ((lgc (σ 1 y26) = 0 →
          lp_CX_cover_159 Q n (v1 + (-1)) σ) ∧
         (¬ lgc (σ 1 y26) = 0 →
          wp_CX_use (fun σ30 =>
            0 ≤ y26 ∧ y26 < σ30 70 0 ∧ 
            ((σ30 3 y26 < 0 →
              lp_CX_cover_159 Q n (v1 + (-1)) σ30) ∧
             (¬ σ30 3 y26 < 0 →
              wp_CX_use (fun σ34 =>
                lp_CX_cover_159 Q n (v1 + (-1)) σ34) (σ30 3 y26) σ30))) (σ 2 y26) σ))))))
def lp_CX_cover_104 (Q : zS → Prop) : Nat → Int → zS → Prop
  | 0 => fun _ _ => False
  | n + 1 => fun v1 σ =>
    zc v1 ∧ zc (σ 40 3) ∧ ((σ 40 3 ≤ v1 →
      ∀ y7, y7 = (σ 40 0) - 1 →
      ∃ u159, lp_CX_cover_159 Q u159 y7 σ) ∧
     (¬ σ 40 3 ≤ v1 →
      0 ≤ v1 ∧ v1 < σ 40 3 ∧ 
      0 ≤ σ 44 v1 ∧ σ 44 v1 < σ 70 0 ∧ 
      ∀ y41, y41 = σ 44 v1 →
      0 ≤ σ 5 y41 ∧ σ 5 y41 < σ 70 0 ∧ ∀ σ42, σ42 = zup σ 9 (σ 5 y41) 1 →
      0 ≤ σ42 5 y41 ∧ σ42 5 y41 < σ42 70 0 ∧ ∀ σ45, σ45 = zup σ42 10 (σ42 5 y41) 1 →
      lp_CX_cover_104 Q n (v1 + 1) σ45))
def lp_CX_cover_63 (Q : zS → Prop) : Nat → Int → zS → Prop
  | 0 => fun _ _ => False
  | n + 1 => fun v1 σ =>
    zc v1 ∧ zc (σ 40 4) ∧ ((σ 40 4 ≤ v1 →
      ∃ u104, lp_CX_cover_104 Q u104 0 σ) ∧
     (¬ σ 40 4 ≤ v1 →
      0 ≤ v1 ∧ v1 < σ 40 4 ∧ 
      0 ≤ σ 45 v1 ∧ σ 45 v1 < σ 70 0 ∧ 
      ∀ y53, y53 = σ 45 v1 →
      ∀ σ54, σ54 = zup σ 9 y53 1 →
      ∀ σ55, σ55 = zup σ54 10 y53 1 →
      lp_CX_cover_63 Q n (v1 + 1) σ55))
def lp_CX_cover_2 (Q : zS → Prop) : Nat → Int → zS → Prop
  | 0 => fun _ _ => False
  | n + 1 => fun v1 σ =>
    zc v1 ∧ zc (σ 40 0) ∧ ((σ 40 0 ≤ v1 →
      ∃ u63, lp_CX_cover_63 Q u63 0 σ) ∧
     (¬ σ 40 0 ≤ v1 →
      0 ≤ v1 ∧ v1 < σ 40 0 ∧ 
      0 ≤ σ 41 v1 ∧ σ 41 v1 < σ 70 0 ∧ 
      ∀ y61, y61 = σ 41 v1 →
      ∀ σ62, σ62 = zup σ 9 y61 0 →
      ∀ σ63, σ63 = zup σ62 10 y61 0 →
      ∀ σ64, σ64 = zup σ63 11 y61 0 →
      ∀ σ65, σ65 = zup σ64 12 y61 0 →
      ∀ σ66, σ66 = zup σ65 14 y61 (-1) →
      ∀ σ67, σ67 = zup σ66 16 y61 0 →
      lp_CX_cover_2 Q n (v1 + 1) σ67))
def wp_CX_cover (Q : zS → Prop) (σ : zS) : Prop :=
  ∃ u2, lp_CX_cover_2 Q u2 0 σ
set_option maxHeartbeats 4000000 in
set_option maxRecDepth 100000 in
theorem wk_CX_cover_221 {E : zE} {D : va_G} {g : zG} {A : Nat → Prop} {ad : zA} {Q : zS → Prop} (C : zX E b_CX_cover R_CX D g { frames := 26, cells := 0, slots := 0, locals := 848 } 3) (R : zRt E none (zQv D g ad Q A) 0 0 A) (S : zSt g A (zst E) (zst E).heap) : ∀ (n : Nat) (v1 : Int) (σ : zS), lp_CX_cover_221 Q n v1 σ → zW E (zOK D A (zst E) g ad) 0 0 221 [(0, .ref (ad (0, 0))), (1, .int (zi v1))] [] σ := by
  intro n
  induction n with
  | zero =>
    intro v1 σ h
    exact h.elim
  | succ n ih =>
    intro v1 σ h
    refine z_iload_n C (pc := 221) d_CX_cover_221 1 rfl ?_
    refine z_aload_n C (pc := 222) d_CX_cover_222 0 rfl ?_
    refine x_getX (v := .ref (ad (1, 0))) C 1 (by decide) rfl wd_86 (pc := 223) d_CX_cover_223 ?_
    refine x_size (P := True) C S 0 (by decide) wd_146 ⟨Nat.le_of_ble_eq_true rfl, Nat.le_of_ble_eq_true rfl⟩ (Nat.le_of_ble_eq_true rfl) (pc := 226) d_CX_cover_226 ?_
    obtain ⟨hc9, hc10, h⟩ := h
    refine z_icmp_ge (tgt := 272) C (pc := 229) d_CX_cover_229 (by decide) hc9 hc10 h (fun h => ?_) (fun h => ?_)
    · exact z_vret C R (pc := 272) d_CX_cover_272 h
    · refine z_aload_n C (pc := 232) d_CX_cover_232 0 rfl ?_
      refine x_getX (v := .ref (ad (1, 0))) C 1 (by decide) rfl wd_86 (pc := 233) d_CX_cover_233 ?_
      refine z_iload_n C (pc := 236) d_CX_cover_236 1 rfl ?_
      obtain ⟨hc11, hc12, h⟩ := h
      refine x_lget C S 0 (by decide) hc11 hc12 wd_306 ⟨Nat.le_of_ble_eq_true rfl, Nat.le_of_ble_eq_true rfl⟩ (Nat.le_of_ble_eq_true rfl) (pc := 237) d_CX_cover_237 ?_
      obtain ⟨hc13, hc14, h⟩ := h
      refine x_castN C wd_83 (Or.inr ⟨hc13, hc14⟩) (pc := 240) d_CX_cover_240 ?_
      refine zNz h (fun y15 ey15 h => ?_)
      refine z_astoreZ_n (L' := [(2, zr ad 4 y15), (0, .ref (ad (0, 0))), (1, .int (zi v1))]) C (pc := 243) d_CX_cover_243 (by decide) rfl ?_
      refine z_aloadZ_n C (pc := 244) d_CX_cover_244 0 rfl ?_
      refine x_getN (v := .int (zi (σ 9 y15))) C 9 (by decide) (by rw [ey15]; exact hc13) (by rw [ey15]; exact hc14) rfl wd_190 (pc := 245) d_CX_cover_245 ?_
      obtain ⟨hc16, h⟩ := h
      refine z_if_eq (tgt := 266) C (pc := 248) d_CX_cover_248 (by decide) hc16 h (fun h => ?_) (fun h => ?_)
      · refine z_iinc (L' := [(1, .int (zi (v1 + 1))), (2, zr ad 4 y15), (0, .ref (ad (0, 0)))]) C (pc := 266) d_CX_cover_266 2 rfl (by decide) rfl ?_
        refine z_goto (tgt := 221) C (pc := 269) d_CX_cover_269 (by decide) ?_
        refine z_sub [2, 0] rfl ?_
        exact ih _ _ h
      · refine z_aloadZ_n C (pc := 251) d_CX_cover_251 0 rfl ?_
        refine x_getN (v := kv g (σ 1 y15)) C 1 (by decide) (by rw [ey15]; exact hc13) (by rw [ey15]; exact hc14) rfl wd_172 (pc := 252) d_CX_cover_252 ?_
        obtain ⟨hc17, hc18, h⟩ := h
        refine x_logic C S wd_485 ⟨Nat.le_of_ble_eq_true rfl, Nat.le_of_ble_eq_true rfl⟩ hc17 hc18 (Nat.le_of_ble_eq_true rfl) (pc := 255) d_CX_cover_255 ?_
        refine z_if_eq (tgt := 266) C (pc := 258) d_CX_cover_258 (by decide) (lgc_c _) h (fun h => ?_) (fun h => ?_)
        · refine z_iinc (L' := [(1, .int (zi (v1 + 1))), (2, zr ad 4 y15), (0, .ref (ad (0, 0)))]) C (pc := 266) d_CX_cover_266 2 rfl (by decide) rfl ?_
          refine z_goto (tgt := 221) C (pc := 269) d_CX_cover_269 (by decide) ?_
          refine z_sub [2, 0] rfl ?_
          exact ih _ _ h
        · refine z_aload_n C (pc := 261) d_CX_cover_261 1 rfl ?_
          refine z_aloadZ_n C (pc := 262) d_CX_cover_262 0 rfl ?_
          refine x_callVv (As := [zr ad 4 y15]) (st := []) C S fy_CX_choose (0, 0) (zids_fix zfix_0) rfl rfl wd_492 (pc := 263) d_CX_cover_263 ⟨rfl, rfl, Nat.le_of_ble_eq_true rfl, Nat.le_of_ble_eq_true rfl⟩ rfl rfl (Nat.le_of_ble_eq_true rfl) h (c_CX_choose (zln E) D g ad _ _ _) (fun σ19 h => ?_)
          refine z_iinc (L' := [(1, .int (zi (v1 + 1))), (2, zr ad 4 y15), (0, .ref (ad (0, 0)))]) C (pc := 266) d_CX_cover_266 2 rfl (by decide) rfl ?_
          refine z_goto (tgt := 221) C (pc := 269) d_CX_cover_269 (by decide) ?_
          refine z_sub [2, 0] rfl ?_
          exact ih _ _ h
set_option maxHeartbeats 4000000 in
set_option maxRecDepth 100000 in
theorem wk_CX_cover_159 {E : zE} {D : va_G} {g : zG} {A : Nat → Prop} {ad : zA} {Q : zS → Prop} (C : zX E b_CX_cover R_CX D g { frames := 26, cells := 0, slots := 0, locals := 848 } 3) (R : zRt E none (zQv D g ad Q A) 0 0 A) (S : zSt g A (zst E) (zst E).heap) : ∀ (n : Nat) (v1 : Int) (σ : zS), lp_CX_cover_159 Q n v1 σ → zW E (zOK D A (zst E) g ad) 0 0 159 [(0, .ref (ad (0, 0))), (1, .int (zi v1))] [] σ := by
  intro n
  induction n with
  | zero =>
    intro v1 σ h
    exact h.elim
  | succ n ih =>
    intro v1 σ h
    refine z_iload_n C (pc := 159) d_CX_cover_159 1 rfl ?_
    obtain ⟨hc8, h⟩ := h
    refine z_if_lt (tgt := 219) C (pc := 160) d_CX_cover_160 (by decide) hc8 h (fun h => ?_) (fun h => ?_)
    · refine z_iconst C (pc := 219) d_CX_cover_219 ?_
      refine z_istore_n (L' := [(1, .int (zi 0)), (0, .ref (ad (0, 0)))]) C (pc := 220) d_CX_cover_220 (by decide) rfl ?_
      refine z_sub [1, 0] rfl ?_
      obtain ⟨n21, h⟩ := h
      exact wk_CX_cover_221 C R S n21 _ _ h
    · refine z_aload_n C (pc := 163) d_CX_cover_163 0 rfl ?_
      refine x_getX (v := .ref (ad (1, 0))) C 1 (by decide) rfl wd_86 (pc := 164) d_CX_cover_164 ?_
      refine z_iload_n C (pc := 167) d_CX_cover_167 1 rfl ?_
      obtain ⟨hc22, hc23, h⟩ := h
      refine x_lget C S 0 (by decide) hc22 hc23 wd_306 ⟨Nat.le_of_ble_eq_true rfl, Nat.le_of_ble_eq_true rfl⟩ (Nat.le_of_ble_eq_true rfl) (pc := 168) d_CX_cover_168 ?_
      obtain ⟨hc24, hc25, h⟩ := h
      refine x_castN C wd_83 (Or.inr ⟨hc24, hc25⟩) (pc := 171) d_CX_cover_171 ?_
      refine zNz h (fun y26 ey26 h => ?_)
      refine z_astoreZ_n (L' := [(2, zr ad 4 y26), (0, .ref (ad (0, 0))), (1, .int (zi v1))]) C (pc := 174) d_CX_cover_174 (by decide) rfl ?_
      refine z_aloadZ_n C (pc := 175) d_CX_cover_175 0 rfl ?_
      refine x_getN (v := .int (zi (σ 9 y26))) C 9 (by decide) (by rw [ey26]; exact hc24) (by rw [ey26]; exact hc25) rfl wd_190 (pc := 176) d_CX_cover_176 ?_
      obtain ⟨hc27, h⟩ := h
      refine z_if_eq (tgt := 213) C (pc := 179) d_CX_cover_179 (by decide) hc27 h (fun h => ?_) (fun h => ?_)
      · refine z_iinc (L' := [(1, .int (zi (v1 + (-1)))), (2, zr ad 4 y26), (0, .ref (ad (0, 0)))]) C (pc := 213) d_CX_cover_213 2 rfl (by decide) rfl ?_
        refine z_goto (tgt := 159) C (pc := 216) d_CX_cover_216 (by decide) ?_
        refine z_sub [2, 0] rfl ?_
        exact ih _ _ h
      · refine z_aloadZ_n C (pc := 182) d_CX_cover_182 0 rfl ?_
        refine x_getN (v := kv g (σ 1 y26)) C 1 (by decide) (by rw [ey26]; exact hc24) (by rw [ey26]; exact hc25) rfl wd_172 (pc := 183) d_CX_cover_183 ?_
        obtain ⟨hc28, hc29, h⟩ := h
        refine x_logic C S wd_485 ⟨Nat.le_of_ble_eq_true rfl, Nat.le_of_ble_eq_true rfl⟩ hc28 hc29 (Nat.le_of_ble_eq_true rfl) (pc := 186) d_CX_cover_186 ?_
        refine z_if_eq (tgt := 213) C (pc := 189) d_CX_cover_189 (by decide) (lgc_c _) h (fun h => ?_) (fun h => ?_)
        · refine z_iinc (L' := [(1, .int (zi (v1 + (-1)))), (2, zr ad 4 y26), (0, .ref (ad (0, 0)))]) C (pc := 213) d_CX_cover_213 2 rfl (by decide) rfl ?_
          refine z_goto (tgt := 159) C (pc := 216) d_CX_cover_216 (by decide) ?_
          refine z_sub [2, 0] rfl ?_
          exact ih _ _ h
        · refine z_aloadZ_n C (pc := 192) d_CX_cover_192 0 rfl ?_
          refine x_getN (v := zr ad 4 (σ 2 y26)) C 2 (by decide) (by rw [ey26]; exact hc24) (by rw [ey26]; exact hc25) rfl wd_177 (pc := 193) d_CX_cover_193 ?_
          refine x_callSv (As := [zr ad 4 (σ 2 y26)]) (st := []) C S fs_CX_use wd_489 (pc := 196) d_CX_cover_196 ⟨rfl, rfl, Nat.le_of_ble_eq_true rfl, Nat.le_of_ble_eq_true rfl⟩ rfl rfl (Nat.le_of_ble_eq_true rfl) h (c_CX_use (zln E) D g ad _ _ _) (fun σ30 h => ?_)
          refine z_aloadZ_n C (pc := 199) d_CX_cover_199 0 rfl ?_
          obtain ⟨hc32, hc33, h⟩ := h
          refine x_getN (v := zr ad 4 (σ30 3 y26)) C 3 (by decide) hc32 hc33 rfl wd_181 (pc := 200) d_CX_cover_200 ?_
          refine z_ifnull (tgt := 213) C (pc := 203) d_CX_cover_203 (by decide) h (fun h => ?_) (fun h => ?_)
          · refine z_iinc (L' := [(1, .int (zi (v1 + (-1)))), (2, zr ad 4 y26), (0, .ref (ad (0, 0)))]) C (pc := 213) d_CX_cover_213 2 rfl (by decide) rfl ?_
            refine z_goto (tgt := 159) C (pc := 216) d_CX_cover_216 (by decide) ?_
            refine z_sub [2, 0] rfl ?_
            exact ih _ _ h
          · refine z_aloadZ_n C (pc := 206) d_CX_cover_206 0 rfl ?_
            refine x_getN (v := zr ad 4 (σ30 3 y26)) C 3 (by decide) hc32 hc33 rfl wd_181 (pc := 207) d_CX_cover_207 ?_
            refine x_callSv (As := [zr ad 4 (σ30 3 y26)]) (st := []) C S fs_CX_use wd_489 (pc := 210) d_CX_cover_210 ⟨rfl, rfl, Nat.le_of_ble_eq_true rfl, Nat.le_of_ble_eq_true rfl⟩ rfl rfl (Nat.le_of_ble_eq_true rfl) h (c_CX_use (zln E) D g ad _ _ _) (fun σ34 h => ?_)
            refine z_iinc (L' := [(1, .int (zi (v1 + (-1)))), (2, zr ad 4 y26), (0, .ref (ad (0, 0)))]) C (pc := 213) d_CX_cover_213 2 rfl (by decide) rfl ?_
            refine z_goto (tgt := 159) C (pc := 216) d_CX_cover_216 (by decide) ?_
            refine z_sub [2, 0] rfl ?_
            exact ih _ _ h
set_option maxHeartbeats 4000000 in
set_option maxRecDepth 100000 in
theorem wk_CX_cover_104 {E : zE} {D : va_G} {g : zG} {A : Nat → Prop} {ad : zA} {Q : zS → Prop} (C : zX E b_CX_cover R_CX D g { frames := 26, cells := 0, slots := 0, locals := 848 } 3) (R : zRt E none (zQv D g ad Q A) 0 0 A) (S : zSt g A (zst E) (zst E).heap) : ∀ (n : Nat) (v1 : Int) (σ : zS), lp_CX_cover_104 Q n v1 σ → zW E (zOK D A (zst E) g ad) 0 0 104 [(0, .ref (ad (0, 0))), (1, .int (zi v1))] [] σ := by
  intro n
  induction n with
  | zero =>
    intro v1 σ h
    exact h.elim
  | succ n ih =>
    intro v1 σ h
    refine z_iload_n C (pc := 104) d_CX_cover_104 1 rfl ?_
    refine z_aload_n C (pc := 105) d_CX_cover_105 0 rfl ?_
    refine x_getX (v := .ref (ad (1, 3))) C 4 (by decide) rfl wd_89 (pc := 106) d_CX_cover_106 ?_
    refine x_size (P := True) C S 3 (by decide) wd_146 ⟨Nat.le_of_ble_eq_true rfl, Nat.le_of_ble_eq_true rfl⟩ (Nat.le_of_ble_eq_true rfl) (pc := 109) d_CX_cover_109 ?_
    obtain ⟨hc5, hc6, h⟩ := h
    refine z_icmp_ge (tgt := 149) C (pc := 112) d_CX_cover_112 (by decide) hc5 hc6 h (fun h => ?_) (fun h => ?_)
    · refine z_aload_n C (pc := 149) d_CX_cover_149 0 rfl ?_
      refine x_getX (v := .ref (ad (1, 0))) C 1 (by decide) rfl wd_86 (pc := 150) d_CX_cover_150 ?_
      refine x_size (P := True) C S 0 (by decide) wd_146 ⟨Nat.le_of_ble_eq_true rfl, Nat.le_of_ble_eq_true rfl⟩ (Nat.le_of_ble_eq_true rfl) (pc := 153) d_CX_cover_153 ?_
      refine z_iconst C (pc := 156) d_CX_cover_156 ?_
      refine z_isub C (pc := 157) d_CX_cover_157 ?_
      refine zNi h (fun y7 ey7 h => ?_)
      refine z_istore_n (L' := [(1, .int (zi y7)), (0, .ref (ad (0, 0)))]) C (pc := 158) d_CX_cover_158 (by decide) rfl ?_
      refine z_sub [1, 0] rfl ?_
      obtain ⟨n36, h⟩ := h
      exact wk_CX_cover_159 C R S n36 _ _ h
    · refine z_aload_n C (pc := 115) d_CX_cover_115 0 rfl ?_
      refine x_getX (v := .ref (ad (1, 3))) C 4 (by decide) rfl wd_89 (pc := 116) d_CX_cover_116 ?_
      refine z_iload_n C (pc := 119) d_CX_cover_119 1 rfl ?_
      obtain ⟨hc37, hc38, h⟩ := h
      refine x_lget C S 3 (by decide) hc37 hc38 wd_306 ⟨Nat.le_of_ble_eq_true rfl, Nat.le_of_ble_eq_true rfl⟩ (Nat.le_of_ble_eq_true rfl) (pc := 120) d_CX_cover_120 ?_
      obtain ⟨hc39, hc40, h⟩ := h
      refine x_castN C wd_83 (Or.inr ⟨hc39, hc40⟩) (pc := 123) d_CX_cover_123 ?_
      refine zNz h (fun y41 ey41 h => ?_)
      refine z_astoreZ_n (L' := [(2, zr ad 4 y41), (0, .ref (ad (0, 0))), (1, .int (zi v1))]) C (pc := 126) d_CX_cover_126 (by decide) rfl ?_
      refine z_aloadZ_n C (pc := 127) d_CX_cover_127 0 rfl ?_
      refine x_getN (v := zr ad 4 (σ 5 y41)) C 5 (by decide) (by rw [ey41]; exact hc39) (by rw [ey41]; exact hc40) rfl wd_184 (pc := 128) d_CX_cover_128 ?_
      refine z_iconst C (pc := 131) d_CX_cover_131 ?_
      obtain ⟨hc43, hc44, h⟩ := h
      refine x_putN (v := 1) C 9 (by decide) hc43 hc44 rfl (z_bool rfl (by decide)) rfl wd_190 (pc := 132) d_CX_cover_132 ?_
      refine zN h (fun σ42 eσ42 h => ?_)
      refine z_aloadZ_n C (pc := 135) d_CX_cover_135 0 rfl ?_
      refine x_getN (v := zr ad 4 (σ42 5 y41)) C 5 (by decide) (by rw [ey41]; exact hc39) (by rw [eσ42]; exact (by rw [ey41]; exact hc40)) rfl wd_184 (pc := 136) d_CX_cover_136 ?_
      refine z_iconst C (pc := 139) d_CX_cover_139 ?_
      obtain ⟨hc46, hc47, h⟩ := h
      refine x_putN (v := 1) C 10 (by decide) hc46 hc47 rfl (z_bool rfl (by decide)) rfl wd_192 (pc := 140) d_CX_cover_140 ?_
      refine zN h (fun σ45 eσ45 h => ?_)
      refine z_iinc (L' := [(1, .int (zi (v1 + 1))), (2, zr ad 4 y41), (0, .ref (ad (0, 0)))]) C (pc := 143) d_CX_cover_143 2 rfl (by decide) rfl ?_
      refine z_goto (tgt := 104) C (pc := 146) d_CX_cover_146 (by decide) ?_
      refine z_sub [2, 0] rfl ?_
      exact ih _ _ h
set_option maxHeartbeats 4000000 in
set_option maxRecDepth 100000 in
theorem wk_CX_cover_63 {E : zE} {D : va_G} {g : zG} {A : Nat → Prop} {ad : zA} {Q : zS → Prop} (C : zX E b_CX_cover R_CX D g { frames := 26, cells := 0, slots := 0, locals := 848 } 3) (R : zRt E none (zQv D g ad Q A) 0 0 A) (S : zSt g A (zst E) (zst E).heap) : ∀ (n : Nat) (v1 : Int) (σ : zS), lp_CX_cover_63 Q n v1 σ → zW E (zOK D A (zst E) g ad) 0 0 63 [(0, .ref (ad (0, 0))), (1, .int (zi v1))] [] σ := by
  intro n
  induction n with
  | zero =>
    intro v1 σ h
    exact h.elim
  | succ n ih =>
    intro v1 σ h
    refine z_iload_n C (pc := 63) d_CX_cover_63 1 rfl ?_
    refine z_aload_n C (pc := 64) d_CX_cover_64 0 rfl ?_
    refine x_getX (v := .ref (ad (1, 4))) C 5 (by decide) rfl wd_90 (pc := 65) d_CX_cover_65 ?_
    refine x_size (P := True) C S 4 (by decide) wd_146 ⟨Nat.le_of_ble_eq_true rfl, Nat.le_of_ble_eq_true rfl⟩ (Nat.le_of_ble_eq_true rfl) (pc := 68) d_CX_cover_68 ?_
    obtain ⟨hc3, hc4, h⟩ := h
    refine z_icmp_ge (tgt := 102) C (pc := 71) d_CX_cover_71 (by decide) hc3 hc4 h (fun h => ?_) (fun h => ?_)
    · refine z_iconst C (pc := 102) d_CX_cover_102 ?_
      refine z_istore_n (L' := [(1, .int (zi 0)), (0, .ref (ad (0, 0)))]) C (pc := 103) d_CX_cover_103 (by decide) rfl ?_
      refine z_sub [1, 0] rfl ?_
      obtain ⟨n48, h⟩ := h
      exact wk_CX_cover_104 C R S n48 _ _ h
    · refine z_aload_n C (pc := 74) d_CX_cover_74 0 rfl ?_
      refine x_getX (v := .ref (ad (1, 4))) C 5 (by decide) rfl wd_90 (pc := 75) d_CX_cover_75 ?_
      refine z_iload_n C (pc := 78) d_CX_cover_78 1 rfl ?_
      obtain ⟨hc49, hc50, h⟩ := h
      refine x_lget C S 4 (by decide) hc49 hc50 wd_306 ⟨Nat.le_of_ble_eq_true rfl, Nat.le_of_ble_eq_true rfl⟩ (Nat.le_of_ble_eq_true rfl) (pc := 79) d_CX_cover_79 ?_
      obtain ⟨hc51, hc52, h⟩ := h
      refine x_castN C wd_83 (Or.inr ⟨hc51, hc52⟩) (pc := 82) d_CX_cover_82 ?_
      refine zNz h (fun y53 ey53 h => ?_)
      refine z_astoreZ_n (L' := [(2, zr ad 4 y53), (0, .ref (ad (0, 0))), (1, .int (zi v1))]) C (pc := 85) d_CX_cover_85 (by decide) rfl ?_
      refine z_aloadZ_n C (pc := 86) d_CX_cover_86 0 rfl ?_
      refine z_iconst C (pc := 87) d_CX_cover_87 ?_
      refine x_putN (v := 1) C 9 (by decide) (by rw [ey53]; exact hc51) (by rw [ey53]; exact hc52) rfl (z_bool rfl (by decide)) rfl wd_190 (pc := 88) d_CX_cover_88 ?_
      refine zN h (fun σ54 eσ54 h => ?_)
      refine z_aloadZ_n C (pc := 91) d_CX_cover_91 0 rfl ?_
      refine z_iconst C (pc := 92) d_CX_cover_92 ?_
      refine x_putN (v := 1) C 10 (by decide) (by rw [ey53]; exact hc51) (by rw [eσ54]; exact (by rw [ey53]; exact hc52)) rfl (z_bool rfl (by decide)) rfl wd_192 (pc := 93) d_CX_cover_93 ?_
      refine zN h (fun σ55 eσ55 h => ?_)
      refine z_iinc (L' := [(1, .int (zi (v1 + 1))), (2, zr ad 4 y53), (0, .ref (ad (0, 0)))]) C (pc := 96) d_CX_cover_96 2 rfl (by decide) rfl ?_
      refine z_goto (tgt := 63) C (pc := 99) d_CX_cover_99 (by decide) ?_
      refine z_sub [2, 0] rfl ?_
      exact ih _ _ h
set_option maxHeartbeats 4000000 in
set_option maxRecDepth 100000 in
theorem wk_CX_cover_2 {E : zE} {D : va_G} {g : zG} {A : Nat → Prop} {ad : zA} {Q : zS → Prop} (C : zX E b_CX_cover R_CX D g { frames := 26, cells := 0, slots := 0, locals := 848 } 3) (R : zRt E none (zQv D g ad Q A) 0 0 A) (S : zSt g A (zst E) (zst E).heap) : ∀ (n : Nat) (v1 : Int) (σ : zS), lp_CX_cover_2 Q n v1 σ → zW E (zOK D A (zst E) g ad) 0 0 2 [(0, .ref (ad (0, 0))), (1, .int (zi v1))] [] σ := by
  intro n
  induction n with
  | zero =>
    intro v1 σ h
    exact h.elim
  | succ n ih =>
    intro v1 σ h
    refine z_iload_n C (pc := 2) d_CX_cover_2 1 rfl ?_
    refine z_aload_n C (pc := 3) d_CX_cover_3 0 rfl ?_
    refine x_getX (v := .ref (ad (1, 0))) C 1 (by decide) rfl wd_86 (pc := 4) d_CX_cover_4 ?_
    refine x_size (P := True) C S 0 (by decide) wd_146 ⟨Nat.le_of_ble_eq_true rfl, Nat.le_of_ble_eq_true rfl⟩ (Nat.le_of_ble_eq_true rfl) (pc := 7) d_CX_cover_7 ?_
    obtain ⟨hc1, hc2, h⟩ := h
    refine z_icmp_ge (tgt := 61) C (pc := 10) d_CX_cover_10 (by decide) hc1 hc2 h (fun h => ?_) (fun h => ?_)
    · refine z_iconst C (pc := 61) d_CX_cover_61 ?_
      refine z_istore_n (L' := [(1, .int (zi 0)), (0, .ref (ad (0, 0)))]) C (pc := 62) d_CX_cover_62 (by decide) rfl ?_
      refine z_sub [1, 0] rfl ?_
      obtain ⟨n56, h⟩ := h
      exact wk_CX_cover_63 C R S n56 _ _ h
    · refine z_aload_n C (pc := 13) d_CX_cover_13 0 rfl ?_
      refine x_getX (v := .ref (ad (1, 0))) C 1 (by decide) rfl wd_86 (pc := 14) d_CX_cover_14 ?_
      refine z_iload_n C (pc := 17) d_CX_cover_17 1 rfl ?_
      obtain ⟨hc57, hc58, h⟩ := h
      refine x_lget C S 0 (by decide) hc57 hc58 wd_306 ⟨Nat.le_of_ble_eq_true rfl, Nat.le_of_ble_eq_true rfl⟩ (Nat.le_of_ble_eq_true rfl) (pc := 18) d_CX_cover_18 ?_
      obtain ⟨hc59, hc60, h⟩ := h
      refine x_castN C wd_83 (Or.inr ⟨hc59, hc60⟩) (pc := 21) d_CX_cover_21 ?_
      refine zNz h (fun y61 ey61 h => ?_)
      refine z_astoreZ_n (L' := [(2, zr ad 4 y61), (0, .ref (ad (0, 0))), (1, .int (zi v1))]) C (pc := 24) d_CX_cover_24 (by decide) rfl ?_
      refine z_aloadZ_n C (pc := 25) d_CX_cover_25 0 rfl ?_
      refine z_iconst C (pc := 26) d_CX_cover_26 ?_
      refine x_putN (v := 0) C 9 (by decide) (by rw [ey61]; exact hc59) (by rw [ey61]; exact hc60) rfl (z_bool rfl (by decide)) rfl wd_190 (pc := 27) d_CX_cover_27 ?_
      refine zN h (fun σ62 eσ62 h => ?_)
      refine z_aloadZ_n C (pc := 30) d_CX_cover_30 0 rfl ?_
      refine z_iconst C (pc := 31) d_CX_cover_31 ?_
      refine x_putN (v := 0) C 10 (by decide) (by rw [ey61]; exact hc59) (by rw [eσ62]; exact (by rw [ey61]; exact hc60)) rfl (z_bool rfl (by decide)) rfl wd_192 (pc := 32) d_CX_cover_32 ?_
      refine zN h (fun σ63 eσ63 h => ?_)
      refine z_aloadZ_n C (pc := 35) d_CX_cover_35 0 rfl ?_
      refine z_iconst C (pc := 36) d_CX_cover_36 ?_
      refine x_putN (v := 0) C 11 (by decide) (by rw [ey61]; exact hc59) (by rw [eσ63]; exact (by rw [eσ62]; exact (by rw [ey61]; exact hc60))) rfl (z_bool rfl (by decide)) rfl wd_193 (pc := 37) d_CX_cover_37 ?_
      refine zN h (fun σ64 eσ64 h => ?_)
      refine z_aloadZ_n C (pc := 40) d_CX_cover_40 0 rfl ?_
      refine z_iconst C (pc := 41) d_CX_cover_41 ?_
      refine x_putN (v := 0) C 12 (by decide) (by rw [ey61]; exact hc59) (by rw [eσ64]; exact (by rw [eσ63]; exact (by rw [eσ62]; exact (by rw [ey61]; exact hc60)))) rfl ⟨rfl, rfl⟩ rfl wd_195 (pc := 42) d_CX_cover_42 ?_
      refine zN h (fun σ65 eσ65 h => ?_)
      refine z_aloadZ_n C (pc := 45) d_CX_cover_45 0 rfl ?_
      refine z_nullZ (ad := ad) 5 C (pc := 46) d_CX_cover_46 ?_
      refine x_putN (v := (-1)) C 14 (by decide) (by rw [ey61]; exact hc59) (by rw [eσ65]; exact (by rw [eσ64]; exact (by rw [eσ63]; exact (by rw [eσ62]; exact (by rw [ey61]; exact hc60))))) rfl (zr_fit _ _ _ _) rfl wd_198 (pc := 47) d_CX_cover_47 ?_
      refine zN h (fun σ66 eσ66 h => ?_)
      refine z_aloadZ_n C (pc := 50) d_CX_cover_50 0 rfl ?_
      refine z_iconst C (pc := 51) d_CX_cover_51 ?_
      refine x_putN (v := 0) C 16 (by decide) (by rw [ey61]; exact hc59) (by rw [eσ66]; exact (by rw [eσ65]; exact (by rw [eσ64]; exact (by rw [eσ63]; exact (by rw [eσ62]; exact (by rw [ey61]; exact hc60)))))) rfl ⟨rfl, rfl⟩ rfl wd_200 (pc := 52) d_CX_cover_52 ?_
      refine zN h (fun σ67 eσ67 h => ?_)
      refine z_iinc (L' := [(1, .int (zi (v1 + 1))), (2, zr ad 4 y61), (0, .ref (ad (0, 0)))]) C (pc := 55) d_CX_cover_55 2 rfl (by decide) rfl ?_
      refine z_goto (tgt := 2) C (pc := 58) d_CX_cover_58 (by decide) ?_
      refine z_sub [2, 0] rfl ?_
      exact ih _ _ h
set_option maxHeartbeats 4000000 in
set_option maxRecDepth 100000 in
theorem c_CX_cover (l : Launch) (D : va_G) (g : zG) (ad : zA) (Q : zS → Prop) (σ : zS) (h : wp_CX_cover Q σ) : zGv l y_CX_cover b_CX_cover 3 none { frames := 26, cells := 0, slots := 0, locals := 848 } D g ad σ [.ref (ad (0, 0))] Q := by
  unfold wp_CX_cover at h
  refine zN_of (by decide) (Nat.le_of_ble_eq_true rfl) (fun E C R S => ?_)
  have C : zX E b_CX_cover R_CX D g { frames := 26, cells := 0, slots := 0, locals := 848 } 3 := C
  refine z_sub (L' := [(0, .ref (ad (0, 0)))]) [0] rfl ?_
  refine z_iconst C (pc := 0) d_CX_cover_0 ?_
  refine z_istore_n (L' := [(1, .int (zi 0)), (0, .ref (ad (0, 0)))]) C (pc := 1) d_CX_cover_1 (by decide) rfl ?_
  refine z_sub [1, 0] rfl ?_
  obtain ⟨n68, h⟩ := h
  exact wk_CX_cover_2 C R S n68 _ _ h
theorem d_CX_connect_0 : decode b_CX_connect 0 = .ok (.aload_n 0, 1) := by decide +kernel
theorem d_CX_connect_1 : decode b_CX_connect 1 = .ok (.iconst 0, 1) := by decide +kernel
theorem d_CX_connect_2 : decode b_CX_connect 2 = .ok (.putfield 240, 3) := by decide +kernel
theorem d_CX_connect_5 : decode b_CX_connect 5 = .ok (.aload_n 0, 1) := by decide +kernel
theorem d_CX_connect_6 : decode b_CX_connect 6 = .ok (.iconst 0, 1) := by decide +kernel
theorem d_CX_connect_7 : decode b_CX_connect 7 = .ok (.putfield 243, 3) := by decide +kernel
theorem d_CX_connect_10 : decode b_CX_connect 10 = .ok (.iconst 0, 1) := by decide +kernel
theorem d_CX_connect_11 : decode b_CX_connect 11 = .ok (.istore_n 1, 1) := by decide +kernel
theorem d_CX_connect_12 : decode b_CX_connect 12 = .ok (.iload_n 1, 1) := by decide +kernel
theorem d_CX_connect_13 : decode b_CX_connect 13 = .ok (.aload_n 0, 1) := by decide +kernel
theorem d_CX_connect_14 : decode b_CX_connect 14 = .ok (.getfield 91, 3) := by decide +kernel
theorem d_CX_connect_17 : decode b_CX_connect 17 = .ok (.arraylength, 1) := by decide +kernel
theorem d_CX_connect_18 : decode b_CX_connect 18 = .ok (.if_icmp .ge 37, 3) := by decide +kernel
theorem d_CX_connect_21 : decode b_CX_connect 21 = .ok (.aload_n 0, 1) := by decide +kernel
theorem d_CX_connect_22 : decode b_CX_connect 22 = .ok (.getfield 91, 3) := by decide +kernel
theorem d_CX_connect_25 : decode b_CX_connect 25 = .ok (.iload_n 1, 1) := by decide +kernel
theorem d_CX_connect_26 : decode b_CX_connect 26 = .ok (.aconst_null, 1) := by decide +kernel
theorem d_CX_connect_27 : decode b_CX_connect 27 = .ok (.aastore, 1) := by decide +kernel
theorem d_CX_connect_28 : decode b_CX_connect 28 = .ok (.aload_n 0, 1) := by decide +kernel
theorem d_CX_connect_29 : decode b_CX_connect 29 = .ok (.getfield 95, 3) := by decide +kernel
theorem d_CX_connect_32 : decode b_CX_connect 32 = .ok (.iload_n 1, 1) := by decide +kernel
theorem d_CX_connect_33 : decode b_CX_connect 33 = .ok (.aconst_null, 1) := by decide +kernel
theorem d_CX_connect_34 : decode b_CX_connect 34 = .ok (.aastore, 1) := by decide +kernel
theorem d_CX_connect_35 : decode b_CX_connect 35 = .ok (.aload_n 0, 1) := by decide +kernel
theorem d_CX_connect_36 : decode b_CX_connect 36 = .ok (.getfield 98, 3) := by decide +kernel
theorem d_CX_connect_39 : decode b_CX_connect 39 = .ok (.iload_n 1, 1) := by decide +kernel
theorem d_CX_connect_40 : decode b_CX_connect 40 = .ok (.iconst 0, 1) := by decide +kernel
theorem d_CX_connect_41 : decode b_CX_connect 41 = .ok (.iastore, 1) := by decide +kernel
theorem d_CX_connect_42 : decode b_CX_connect 42 = .ok (.aload_n 0, 1) := by decide +kernel
theorem d_CX_connect_43 : decode b_CX_connect 43 = .ok (.getfield 102, 3) := by decide +kernel
theorem d_CX_connect_46 : decode b_CX_connect 46 = .ok (.iload_n 1, 1) := by decide +kernel
theorem d_CX_connect_47 : decode b_CX_connect 47 = .ok (.lconst 0, 1) := by decide +kernel
theorem d_CX_connect_48 : decode b_CX_connect 48 = .ok (.lastore, 1) := by decide +kernel
theorem d_CX_connect_49 : decode b_CX_connect 49 = .ok (.iinc 1 1, 3) := by decide +kernel
theorem d_CX_connect_52 : decode b_CX_connect 52 = .ok (.goto (-40), 3) := by decide +kernel
theorem d_CX_connect_55 : decode b_CX_connect 55 = .ok (.aload_n 0, 1) := by decide +kernel
theorem d_CX_connect_56 : decode b_CX_connect 56 = .ok (.getfield 65, 3) := by decide +kernel
theorem d_CX_connect_59 : decode b_CX_connect 59 = .ok (.invokevirtual 113, 3) := by decide +kernel
theorem d_CX_connect_62 : decode b_CX_connect 62 = .ok (.iconst 1, 1) := by decide +kernel
theorem d_CX_connect_63 : decode b_CX_connect 63 = .ok (.isub, 1) := by decide +kernel
theorem d_CX_connect_64 : decode b_CX_connect 64 = .ok (.istore_n 1, 1) := by decide +kernel
theorem d_CX_connect_65 : decode b_CX_connect 65 = .ok (.iload_n 1, 1) := by decide +kernel
theorem d_CX_connect_66 : decode b_CX_connect 66 = .ok (.ifCond .lt 165, 3) := by decide +kernel
theorem d_CX_connect_69 : decode b_CX_connect 69 = .ok (.aload_n 0, 1) := by decide +kernel
theorem d_CX_connect_70 : decode b_CX_connect 70 = .ok (.getfield 65, 3) := by decide +kernel
theorem d_CX_connect_73 : decode b_CX_connect 73 = .ok (.iload_n 1, 1) := by decide +kernel
theorem d_CX_connect_74 : decode b_CX_connect 74 = .ok (.invokevirtual 116, 3) := by decide +kernel
theorem d_CX_connect_77 : decode b_CX_connect 77 = .ok (.checkcast 89, 3) := by decide +kernel
theorem d_CX_connect_80 : decode b_CX_connect 80 = .ok (.astore_n 2, 1) := by decide +kernel
theorem d_CX_connect_81 : decode b_CX_connect 81 = .ok (.aload_n 2, 1) := by decide +kernel
theorem d_CX_connect_82 : decode b_CX_connect 82 = .ok (.aload_n 2, 1) := by decide +kernel
theorem d_CX_connect_83 : decode b_CX_connect 83 = .ok (.getfield 196, 3) := by decide +kernel
theorem d_CX_connect_86 : decode b_CX_connect 86 = .ok (.ifCond .ne 10, 3) := by decide +kernel
theorem d_CX_connect_89 : decode b_CX_connect 89 = .ok (.aload_n 2, 1) := by decide +kernel
theorem d_CX_connect_90 : decode b_CX_connect 90 = .ok (.invokevirtual 244, 3) := by decide +kernel
theorem d_CX_connect_93 : decode b_CX_connect 93 = .ok (.ifCond .eq 7, 3) := by decide +kernel
theorem d_CX_connect_96 : decode b_CX_connect 96 = .ok (.iconst 1, 1) := by decide +kernel
theorem d_CX_connect_97 : decode b_CX_connect 97 = .ok (.goto 4, 3) := by decide +kernel
theorem d_CX_connect_100 : decode b_CX_connect 100 = .ok (.iconst 0, 1) := by decide +kernel
theorem d_CX_connect_101 : decode b_CX_connect 101 = .ok (.putfield 196, 3) := by decide +kernel
theorem d_CX_connect_104 : decode b_CX_connect 104 = .ok (.aload_n 2, 1) := by decide +kernel
theorem d_CX_connect_105 : decode b_CX_connect 105 = .ok (.getfield 196, 3) := by decide +kernel
theorem d_CX_connect_108 : decode b_CX_connect 108 = .ok (.ifCond .eq 117, 3) := by decide +kernel
theorem d_CX_connect_111 : decode b_CX_connect 111 = .ok (.aload_n 2, 1) := by decide +kernel
theorem d_CX_connect_112 : decode b_CX_connect 112 = .ok (.getfield 199, 3) := by decide +kernel
theorem d_CX_connect_115 : decode b_CX_connect 115 = .ok (.ifnull 110, 3) := by decide +kernel
theorem d_CX_connect_118 : decode b_CX_connect 118 = .ok (.aload_n 0, 1) := by decide +kernel
theorem d_CX_connect_119 : decode b_CX_connect 119 = .ok (.dup, 1) := by decide +kernel
theorem d_CX_connect_120 : decode b_CX_connect 120 = .ok (.getfield 240, 3) := by decide +kernel
theorem d_CX_connect_123 : decode b_CX_connect 123 = .ok (.iconst 1, 1) := by decide +kernel
theorem d_CX_connect_124 : decode b_CX_connect 124 = .ok (.iadd, 1) := by decide +kernel
theorem d_CX_connect_125 : decode b_CX_connect 125 = .ok (.putfield 240, 3) := by decide +kernel
theorem d_CX_connect_128 : decode b_CX_connect 128 = .ok (.aload_n 0, 1) := by decide +kernel
theorem d_CX_connect_129 : decode b_CX_connect 129 = .ok (.dup, 1) := by decide +kernel
theorem d_CX_connect_130 : decode b_CX_connect 130 = .ok (.getfield 243, 3) := by decide +kernel
theorem d_CX_connect_133 : decode b_CX_connect 133 = .ok (.aload_n 2, 1) := by decide +kernel
theorem d_CX_connect_134 : decode b_CX_connect 134 = .ok (.getfield 199, 3) := by decide +kernel
theorem d_CX_connect_137 : decode b_CX_connect 137 = .ok (.getfield 221, 3) := by decide +kernel
theorem d_CX_connect_140 : decode b_CX_connect 140 = .ok (.iadd, 1) := by decide +kernel
theorem d_CX_connect_141 : decode b_CX_connect 141 = .ok (.putfield 243, 3) := by decide +kernel
theorem d_CX_connect_144 : decode b_CX_connect 144 = .ok (.aload_n 2, 1) := by decide +kernel
theorem d_CX_connect_145 : decode b_CX_connect 145 = .ok (.getfield 199, 3) := by decide +kernel
theorem d_CX_connect_148 : decode b_CX_connect 148 = .ok (.getfield 224, 3) := by decide +kernel
theorem d_CX_connect_151 : decode b_CX_connect 151 = .ok (.aload_n 2, 1) := by decide +kernel
theorem d_CX_connect_152 : decode b_CX_connect 152 = .ok (.aload_n 0, 1) := by decide +kernel
theorem d_CX_connect_153 : decode b_CX_connect 153 = .ok (.getfield 91, 3) := by decide +kernel
theorem d_CX_connect_156 : decode b_CX_connect 156 = .ok (.iconst 4, 1) := by decide +kernel
theorem d_CX_connect_157 : decode b_CX_connect 157 = .ok (.iload_n 1, 1) := by decide +kernel
theorem d_CX_connect_158 : decode b_CX_connect 158 = .ok (.imul, 1) := by decide +kernel
theorem d_CX_connect_159 : decode b_CX_connect 159 = .ok (.invokeinterface 247 4, 5) := by decide +kernel
theorem d_CX_connect_164 : decode b_CX_connect 164 = .ok (.iconst 4, 1) := by decide +kernel
theorem d_CX_connect_165 : decode b_CX_connect 165 = .ok (.iload_n 1, 1) := by decide +kernel
theorem d_CX_connect_166 : decode b_CX_connect 166 = .ok (.imul, 1) := by decide +kernel
theorem d_CX_connect_167 : decode b_CX_connect 167 = .ok (.istore_n 3, 1) := by decide +kernel
theorem d_CX_connect_168 : decode b_CX_connect 168 = .ok (.iload_n 3, 1) := by decide +kernel
theorem d_CX_connect_169 : decode b_CX_connect 169 = .ok (.iconst 4, 1) := by decide +kernel
theorem d_CX_connect_170 : decode b_CX_connect 170 = .ok (.iload_n 1, 1) := by decide +kernel
theorem d_CX_connect_171 : decode b_CX_connect 171 = .ok (.imul, 1) := by decide +kernel
theorem d_CX_connect_172 : decode b_CX_connect 172 = .ok (.aload_n 2, 1) := by decide +kernel
theorem d_CX_connect_173 : decode b_CX_connect 173 = .ok (.getfield 199, 3) := by decide +kernel
theorem d_CX_connect_176 : decode b_CX_connect 176 = .ok (.getfield 251, 3) := by decide +kernel
theorem d_CX_connect_179 : decode b_CX_connect 179 = .ok (.iadd, 1) := by decide +kernel
theorem d_CX_connect_180 : decode b_CX_connect 180 = .ok (.if_icmp .ge 45, 3) := by decide +kernel
theorem d_CX_connect_183 : decode b_CX_connect 183 = .ok (.aload_n 0, 1) := by decide +kernel
theorem d_CX_connect_184 : decode b_CX_connect 184 = .ok (.getfield 91, 3) := by decide +kernel
theorem d_CX_connect_187 : decode b_CX_connect 187 = .ok (.iload_n 3, 1) := by decide +kernel
theorem d_CX_connect_188 : decode b_CX_connect 188 = .ok (.aaload, 1) := by decide +kernel
theorem d_CX_connect_189 : decode b_CX_connect 189 = .ok (.ifnull 25, 3) := by decide +kernel
theorem d_CX_connect_192 : decode b_CX_connect 192 = .ok (.aload_n 0, 1) := by decide +kernel
theorem d_CX_connect_193 : decode b_CX_connect 193 = .ok (.getfield 91, 3) := by decide +kernel
theorem d_CX_connect_196 : decode b_CX_connect 196 = .ok (.iload_n 3, 1) := by decide +kernel
theorem d_CX_connect_197 : decode b_CX_connect 197 = .ok (.aaload, 1) := by decide +kernel
theorem d_CX_connect_198 : decode b_CX_connect 198 = .ok (.invokevirtual 252, 3) := by decide +kernel
theorem d_CX_connect_201 : decode b_CX_connect 201 = .ok (.ifCond .eq 13, 3) := by decide +kernel
theorem d_CX_connect_204 : decode b_CX_connect 204 = .ok (.aload_n 0, 1) := by decide +kernel
theorem d_CX_connect_205 : decode b_CX_connect 205 = .ok (.getfield 91, 3) := by decide +kernel
theorem d_CX_connect_208 : decode b_CX_connect 208 = .ok (.iload_n 3, 1) := by decide +kernel
theorem d_CX_connect_209 : decode b_CX_connect 209 = .ok (.aaload, 1) := by decide +kernel
theorem d_CX_connect_210 : decode b_CX_connect 210 = .ok (.iconst 1, 1) := by decide +kernel
theorem d_CX_connect_211 : decode b_CX_connect 211 = .ok (.putfield 196, 3) := by decide +kernel
theorem d_CX_connect_214 : decode b_CX_connect 214 = .ok (.aload_n 0, 1) := by decide +kernel
theorem d_CX_connect_215 : decode b_CX_connect 215 = .ok (.iload_n 3, 1) := by decide +kernel
theorem d_CX_connect_216 : decode b_CX_connect 216 = .ok (.invokevirtual 255, 3) := by decide +kernel
theorem d_CX_connect_219 : decode b_CX_connect 219 = .ok (.iinc 3 1, 3) := by decide +kernel
theorem d_CX_connect_222 : decode b_CX_connect 222 = .ok (.goto (-54), 3) := by decide +kernel
theorem d_CX_connect_225 : decode b_CX_connect 225 = .ok (.iinc 1 (-1), 3) := by decide +kernel
theorem d_CX_connect_228 : decode b_CX_connect 228 = .ok (.goto (-163), 3) := by decide +kernel
theorem d_CX_connect_231 : decode b_CX_connect 231 = .ok (.iconst 0, 1) := by decide +kernel
theorem d_CX_connect_232 : decode b_CX_connect 232 = .ok (.istore_n 1, 1) := by decide +kernel
theorem d_CX_connect_233 : decode b_CX_connect 233 = .ok (.iload_n 1, 1) := by decide +kernel
theorem d_CX_connect_234 : decode b_CX_connect 234 = .ok (.aload_n 0, 1) := by decide +kernel
theorem d_CX_connect_235 : decode b_CX_connect 235 = .ok (.getfield 78, 3) := by decide +kernel
theorem d_CX_connect_238 : decode b_CX_connect 238 = .ok (.invokevirtual 113, 3) := by decide +kernel
theorem d_CX_connect_241 : decode b_CX_connect 241 = .ok (.if_icmp .ge 39, 3) := by decide +kernel
theorem d_CX_connect_244 : decode b_CX_connect 244 = .ok (.aload_n 0, 1) := by decide +kernel
theorem d_CX_connect_245 : decode b_CX_connect 245 = .ok (.getfield 91, 3) := by decide +kernel
theorem d_CX_connect_248 : decode b_CX_connect 248 = .ok (.sipush 192, 3) := by decide +kernel
theorem d_CX_connect_251 : decode b_CX_connect 251 = .ok (.iload_n 1, 1) := by decide +kernel
theorem d_CX_connect_252 : decode b_CX_connect 252 = .ok (.iadd, 1) := by decide +kernel
theorem d_CX_connect_253 : decode b_CX_connect 253 = .ok (.aload_n 0, 1) := by decide +kernel
theorem d_CX_connect_254 : decode b_CX_connect 254 = .ok (.getfield 78, 3) := by decide +kernel
theorem d_CX_connect_257 : decode b_CX_connect 257 = .ok (.iload_n 1, 1) := by decide +kernel
theorem d_CX_connect_258 : decode b_CX_connect 258 = .ok (.invokevirtual 116, 3) := by decide +kernel
theorem d_CX_connect_261 : decode b_CX_connect 261 = .ok (.checkcast 89, 3) := by decide +kernel
theorem d_CX_connect_264 : decode b_CX_connect 264 = .ok (.aastore, 1) := by decide +kernel
theorem d_CX_connect_265 : decode b_CX_connect 265 = .ok (.aload_n 0, 1) := by decide +kernel
theorem d_CX_connect_266 : decode b_CX_connect 266 = .ok (.sipush 192, 3) := by decide +kernel
theorem d_CX_connect_269 : decode b_CX_connect 269 = .ok (.iload_n 1, 1) := by decide +kernel
theorem d_CX_connect_270 : decode b_CX_connect 270 = .ok (.iadd, 1) := by decide +kernel
theorem d_CX_connect_271 : decode b_CX_connect 271 = .ok (.invokevirtual 255, 3) := by decide +kernel
theorem d_CX_connect_274 : decode b_CX_connect 274 = .ok (.iinc 1 1, 3) := by decide +kernel
theorem d_CX_connect_277 : decode b_CX_connect 277 = .ok (.goto (-44), 3) := by decide +kernel
theorem d_CX_connect_280 : decode b_CX_connect 280 = .ok (.return_, 1) := by decide +kernel
def lp_CX_connect_233 (Q : zS → Prop) : Nat → Int → zS → Prop
  | 0 => fun _ _ => False
  | n + 1 => fun v1 σ =>
    zc v1 ∧ zc (σ 40 4) ∧ ((σ 40 4 ≤ v1 →
      Q σ) ∧
     (¬ σ 40 4 ≤ v1 →
      0 ≤ v1 ∧ v1 < σ 40 4 ∧ 
      0 ≤ σ 45 v1 ∧ σ 45 v1 < σ 70 0 ∧ 
      0 ≤ 192 + v1 ∧ 192 + v1 < 196 ∧ ∀ σ12, σ12 = zup σ 50 (192 + v1) (σ 45 v1) →
      wp_CX_trace (fun σ15 =>
        lp_CX_connect_233 Q n (v1 + 1) σ15) (192 + v1) σ12))
def bk_CX_connect_214 (Q : zS → Prop) (J65 : Int → zS → Prop) (J168 : Int → Int → Int → zS → Prop) (v1 : Int) (v2 : Int) (v3 : Int) (σ : zS) : Prop :=
  wp_CX_trace (fun σ48 =>
    J168 v1 v2 (v3 + 1) σ48) v3 σ
def lp_CX_connect_168 (Q : zS → Prop) (J65 : Int → zS → Prop) : Nat → Int → Int → Int → zS → Prop
  | 0 => fun _ _ _ _ => False
  | n + 1 => fun v1 v2 v3 σ =>
    0 ≤ v2 ∧ v2 < σ 70 0 ∧ 
    0 ≤ σ 14 v2 ∧ σ 14 v2 < σ 71 0 ∧ 
    zc v3 ∧ zc ((4 * v1) + (σ 24 (σ 14 v2))) ∧ (((4 * v1) + (σ 24 (σ 14 v2)) ≤ v3 →
      J65 (v1 + (-1)) σ) ∧
     (¬ (4 * v1) + (σ 24 (σ 14 v2)) ≤ v3 →
      0 ≤ v3 ∧ v3 < 196 ∧ 
      ((σ 50 v3 < 0 →
        bk_CX_connect_214 Q J65 (lp_CX_connect_168 Q J65 n) v1 v2 v3 σ) ∧
       (¬ σ 50 v3 < 0 →
        0 ≤ σ 50 v3 ∧ σ 50 v3 < σ 70 0 ∧ wp_ND_inner (fun r51 σ50 =>
          zc r51 ∧ ((r51 = 0 →
            bk_CX_connect_214 Q J65 (lp_CX_connect_168 Q J65 n) v1 v2 v3 σ50) ∧
           (¬ r51 = 0 →
            0 ≤ σ50 50 v3 ∧ σ50 50 v3 < σ50 70 0 ∧ ∀ σ55, σ55 = zup σ50 11 (σ50 50 v3) 1 →
            bk_CX_connect_214 Q J65 (lp_CX_connect_168 Q J65 n) v1 v2 v3 σ55))) (σ 50 v3) σ))))
def bk_CX_connect_101 (Q : zS → Prop) (J65 : Int → zS → Prop) (v1 : Int) (v2 : Int) (z0 : Int) (z1 : Int) (σ : zS) : Prop :=
  0 ≤ z1 ∧ z1 < σ 70 0 ∧ (z0 = 0 ∨ z0 = 1) ∧ ∀ σ24, σ24 = zup σ 11 z1 z0 →
  0 ≤ v2 ∧ v2 < σ24 70 0 ∧ 
  zc (σ24 11 v2) ∧ ((σ24 11 v2 = 0 →
    J65 (v1 + (-1)) σ24) ∧
   (¬ σ24 11 v2 = 0 →
    ((σ24 14 v2 < 0 →
      J65 (v1 + (-1)) σ24) ∧
     (¬ σ24 14 v2 < 0 →
      ∀ σ31, σ31 = zup σ24 57 0 ((σ24 57 0) + 1) →
      0 ≤ σ31 14 v2 ∧ σ31 14 v2 < σ31 71 0 ∧ 
      ∀ σ34, σ34 = zup σ31 58 0 ((σ31 58 0) + (σ31 22 (σ31 14 v2))) →
      0 ≤ σ34 14 v2 ∧ σ34 14 v2 < σ34 71 0 ∧ 
      wp_bind 8 (fun σ37 =>
        ∀ y39, y39 = 4 * v1 →
        ∃ u168, lp_CX_connect_168 Q J65 u168 v1 v2 y39 σ37) (σ34 25 (σ34 14 v2)) v2 (4 * v1) σ34))))
def bk_CX_connect_96 (Q : zS → Prop) (J65 : Int → zS → Prop) (v1 : Int) (v2 : Int) (z0 : Int) (σ : zS) : Prop :=
  bk_CX_connect_101 Q J65 v1 v2 1 z0 σ
def lp_CX_connect_65 (Q : zS → Prop) : Nat → Int → zS → Prop
  | 0 => fun _ _ => False
  | n + 1 => fun v1 σ =>
    zc v1 ∧ ((v1 < 0 →
      ∃ u233, lp_CX_connect_233 Q u233 0 σ) ∧
     (¬ v1 < 0 →
      0 ≤ v1 ∧ v1 < σ 40 0 ∧ 
      0 ≤ σ 41 v1 ∧ σ 41 v1 < σ 70 0 ∧ 
      ∀ y22, y22 = σ 41 v1 →
      zc (σ 11 y22) ∧ ((σ 11 y22 = 0 →
        wp_ND_root (fun r60 σ59 =>
          zc r60 ∧ ((r60 = 0 →
            bk_CX_connect_101 Q (lp_CX_connect_65 Q n) v1 y22 0 y22 σ59) ∧
           (¬ r60 = 0 →
            bk_CX_connect_96 Q (lp_CX_connect_65 Q n) v1 y22 y22 σ59))) y22 σ) ∧
       (¬ σ 11 y22 = 0 →
        bk_CX_connect_96 Q (lp_CX_connect_65 Q n) v1 y22 y22 σ))))
def lp_CX_connect_12 (Q : zS → Prop) : Nat → Int → zS → Prop
  | 0 => fun _ _ => False
  | n + 1 => fun v1 σ =>
    zc v1 ∧ ((196 ≤ v1 →
      ∀ y4, y4 = (σ 40 0) - 1 →
      ∃ u65, lp_CX_connect_65 Q u65 y4 σ) ∧
     (¬ 196 ≤ v1 →
      0 ≤ v1 ∧ v1 < 196 ∧ ∀ σ63, σ63 = zup σ 50 v1 (-1) →
      ∀ σ66, σ66 = zup σ63 51 v1 (-1) →
      ∀ σ67, σ67 = zup σ66 52 v1 0 →
      ∀ σ68, σ68 = zup σ67 53 v1 0 →
      lp_CX_connect_12 Q n (v1 + 1) σ68))
def wp_CX_connect (Q : zS → Prop) (σ : zS) : Prop :=
  ∀ σ1, σ1 = zup σ 57 0 0 →
  ∀ σ2, σ2 = zup σ1 58 0 0 →
  ∃ u12, lp_CX_connect_12 Q u12 0 σ2
set_option maxHeartbeats 4000000 in
set_option maxRecDepth 100000 in
theorem wk_CX_connect_233 {E : zE} {D : va_G} {g : zG} {A : Nat → Prop} {ad : zA} {Q : zS → Prop} (C : zX E b_CX_connect R_CX D g { frames := 25, cells := 0, slots := 0, locals := 824 } 4) (R : zRt E none (zQv D g ad Q A) 0 0 A) (S : zSt g A (zst E) (zst E).heap) : ∀ (n : Nat) (v1 : Int) (σ : zS), lp_CX_connect_233 Q n v1 σ → zW E (zOK D A (zst E) g ad) 0 0 233 [(0, .ref (ad (0, 0))), (1, .int (zi v1))] [] σ := by
  intro n
  induction n with
  | zero =>
    intro v1 σ h
    exact h.elim
  | succ n ih =>
    intro v1 σ h
    refine z_iload_n C (pc := 233) d_CX_connect_233 1 rfl ?_
    refine z_aload_n C (pc := 234) d_CX_connect_234 0 rfl ?_
    refine x_getX (v := .ref (ad (1, 4))) C 5 (by decide) rfl wd_90 (pc := 235) d_CX_connect_235 ?_
    refine x_size (P := True) C S 4 (by decide) wd_146 ⟨Nat.le_of_ble_eq_true rfl, Nat.le_of_ble_eq_true rfl⟩ (Nat.le_of_ble_eq_true rfl) (pc := 238) d_CX_connect_238 ?_
    obtain ⟨hc6, hc7, h⟩ := h
    refine z_icmp_ge (tgt := 280) C (pc := 241) d_CX_connect_241 (by decide) hc6 hc7 h (fun h => ?_) (fun h => ?_)
    · exact z_vret C R (pc := 280) d_CX_connect_280 h
    · refine z_aload_n C (pc := 244) d_CX_connect_244 0 rfl ?_
      refine x_getX (v := .ref (ad (3, 0))) C 9 (by decide) rfl wd_94 (pc := 245) d_CX_connect_245 ?_
      refine z_sipush C (pc := 248) d_CX_connect_248 (by decide) ?_
      refine z_iload_n C (pc := 251) d_CX_connect_251 1 rfl ?_
      refine z_iadd C (pc := 252) d_CX_connect_252 ?_
      refine z_aload_n C (pc := 253) d_CX_connect_253 0 rfl ?_
      refine x_getX (v := .ref (ad (1, 4))) C 5 (by decide) rfl wd_90 (pc := 254) d_CX_connect_254 ?_
      refine z_iload_n C (pc := 257) d_CX_connect_257 1 rfl ?_
      obtain ⟨hc8, hc9, h⟩ := h
      refine x_lget C S 4 (by decide) hc8 hc9 wd_306 ⟨Nat.le_of_ble_eq_true rfl, Nat.le_of_ble_eq_true rfl⟩ (Nat.le_of_ble_eq_true rfl) (pc := 258) d_CX_connect_258 ?_
      obtain ⟨hc10, hc11, h⟩ := h
      refine x_castN C wd_83 (Or.inr ⟨hc10, hc11⟩) (pc := 261) d_CX_connect_261 ?_
      obtain ⟨hc13, hc14, h⟩ := h
      refine x_aast C 0 (by decide) hc13 hc14 (Or.inr ⟨hc10, hc11⟩) (pc := 264) d_CX_connect_264 ?_
      refine zN h (fun σ12 eσ12 h => ?_)
      refine z_aload_n C (pc := 265) d_CX_connect_265 0 rfl ?_
      refine z_sipush C (pc := 266) d_CX_connect_266 (by decide) ?_
      refine z_iload_n C (pc := 269) d_CX_connect_269 1 rfl ?_
      refine z_iadd C (pc := 270) d_CX_connect_270 ?_
      refine x_callVv (As := [.int (zi (192 + v1))]) (st := []) C S fy_CX_trace (0, 0) (zids_fix zfix_0) rfl rfl wd_577 (pc := 271) d_CX_connect_271 ⟨rfl, rfl, Nat.le_of_ble_eq_true rfl, Nat.le_of_ble_eq_true rfl⟩ rfl rfl (Nat.le_of_ble_eq_true rfl) h (c_CX_trace (zln E) D g ad _ _ _) (fun σ15 h => ?_)
      refine z_iinc (L' := [(1, .int (zi (v1 + 1))), (0, .ref (ad (0, 0)))]) C (pc := 274) d_CX_connect_274 1 rfl (by decide) rfl ?_
      refine z_goto (tgt := 233) C (pc := 277) d_CX_connect_277 (by decide) ?_
      refine z_sub [1, 0] rfl ?_
      exact ih _ _ h
set_option maxHeartbeats 4000000 in
set_option maxRecDepth 100000 in
theorem wk_CX_connect_214 {E : zE} {D : va_G} {g : zG} {A : Nat → Prop} {ad : zA} {Q : zS → Prop} {J65 : Int → zS → Prop} {J168 : Int → Int → Int → zS → Prop} (C : zX E b_CX_connect R_CX D g { frames := 25, cells := 0, slots := 0, locals := 824 } 4) (R : zRt E none (zQv D g ad Q A) 0 0 A) (S : zSt g A (zst E) (zst E).heap) (hJ65 : ∀ (v1 : Int) (σ : zS), J65 v1 σ → zW E (zOK D A (zst E) g ad) 0 0 65 [(0, .ref (ad (0, 0))), (1, .int (zi v1))] [] σ) (hJ168 : ∀ (v1 : Int) (v2 : Int) (v3 : Int) (σ : zS), J168 v1 v2 v3 σ → zW E (zOK D A (zst E) g ad) 0 0 168 [(0, .ref (ad (0, 0))), (1, .int (zi v1)), (2, zr ad 4 v2), (3, .int (zi v3))] [] σ) (v1 : Int) (v2 : Int) (v3 : Int) (σ : zS) (h : bk_CX_connect_214 Q J65 J168 v1 v2 v3 σ) : zW E (zOK D A (zst E) g ad) 0 0 214 [(0, .ref (ad (0, 0))), (1, .int (zi v1)), (2, zr ad 4 v2), (3, .int (zi v3))] [] σ := by
  unfold bk_CX_connect_214 at h
  refine z_aload_n C (pc := 214) d_CX_connect_214 0 rfl ?_
  refine z_iload_n C (pc := 215) d_CX_connect_215 3 rfl ?_
  refine x_callVv (As := [.int (zi v3)]) (st := []) C S fy_CX_trace (0, 0) (zids_fix zfix_0) rfl rfl wd_577 (pc := 216) d_CX_connect_216 ⟨rfl, rfl, Nat.le_of_ble_eq_true rfl, Nat.le_of_ble_eq_true rfl⟩ rfl rfl (Nat.le_of_ble_eq_true rfl) h (c_CX_trace (zln E) D g ad _ _ _) (fun σ48 h => ?_)
  refine z_iinc (L' := [(3, .int (zi (v3 + 1))), (0, .ref (ad (0, 0))), (1, .int (zi v1)), (2, zr ad 4 v2)]) C (pc := 219) d_CX_connect_219 3 rfl (by decide) (congrArg (List.cons _) (flt_eq (j := 3) rfl (List.forall_mem_singleton.mpr (zr_cat _ _ _)) rfl)) ?_
  refine z_goto (tgt := 168) C (pc := 222) d_CX_connect_222 (by decide) ?_
  refine z_sub [1, 2, 3, 0] rfl ?_
  exact hJ168 _ _ _ _ h
set_option maxHeartbeats 4000000 in
set_option maxRecDepth 100000 in
theorem wk_CX_connect_168 {E : zE} {D : va_G} {g : zG} {A : Nat → Prop} {ad : zA} {Q : zS → Prop} {J65 : Int → zS → Prop} (C : zX E b_CX_connect R_CX D g { frames := 25, cells := 0, slots := 0, locals := 824 } 4) (R : zRt E none (zQv D g ad Q A) 0 0 A) (S : zSt g A (zst E) (zst E).heap) (hJ65 : ∀ (v1 : Int) (σ : zS), J65 v1 σ → zW E (zOK D A (zst E) g ad) 0 0 65 [(0, .ref (ad (0, 0))), (1, .int (zi v1))] [] σ) : ∀ (n : Nat) (v1 : Int) (v2 : Int) (v3 : Int) (σ : zS), lp_CX_connect_168 Q J65 n v1 v2 v3 σ → zW E (zOK D A (zst E) g ad) 0 0 168 [(0, .ref (ad (0, 0))), (1, .int (zi v1)), (2, zr ad 4 v2), (3, .int (zi v3))] [] σ := by
  intro n
  induction n with
  | zero =>
    intro v1 v2 v3 σ h
    exact h.elim
  | succ n ih =>
    intro v1 v2 v3 σ h
    refine z_iload_n C (pc := 168) d_CX_connect_168 3 rfl ?_
    refine z_iconst C (pc := 169) d_CX_connect_169 ?_
    refine z_iload_n C (pc := 170) d_CX_connect_170 1 rfl ?_
    refine z_imul C (pc := 171) d_CX_connect_171 ?_
    refine z_aloadZ_n C (pc := 172) d_CX_connect_172 2 rfl ?_
    obtain ⟨hc40, hc41, h⟩ := h
    refine x_getN (v := zr ad 5 (σ 14 v2)) C 14 (by decide) hc40 hc41 rfl wd_198 (pc := 173) d_CX_connect_173 ?_
    obtain ⟨hc42, hc43, h⟩ := h
    refine x_getC (v := .int (zi (σ 24 (σ 14 v2)))) C 4 (by decide) hc42 hc43 rfl wd_437 (pc := 176) d_CX_connect_176 ?_
    refine z_iadd C (pc := 179) d_CX_connect_179 ?_
    obtain ⟨hc44, hc45, h⟩ := h
    refine z_icmp_ge (tgt := 225) C (pc := 180) d_CX_connect_180 (by decide) hc44 hc45 h (fun h => ?_) (fun h => ?_)
    · refine z_iinc (L' := [(1, .int (zi (v1 + (-1)))), (0, .ref (ad (0, 0))), (2, zr ad 4 v2), (3, .int (zi v3))]) C (pc := 225) d_CX_connect_225 1 rfl (by decide) rfl ?_
      refine z_goto (tgt := 65) C (pc := 228) d_CX_connect_228 (by decide) ?_
      refine z_sub [1, 0] rfl ?_
      exact hJ65 _ _ h
    · refine z_aload_n C (pc := 183) d_CX_connect_183 0 rfl ?_
      refine x_getX (v := .ref (ad (3, 0))) C 9 (by decide) rfl wd_94 (pc := 184) d_CX_connect_184 ?_
      refine z_iload_n C (pc := 187) d_CX_connect_187 3 rfl ?_
      obtain ⟨hc46, hc47, h⟩ := h
      refine x_aald C 0 (by decide) hc46 hc47 (pc := 188) d_CX_connect_188 ?_
      refine z_ifnull (tgt := 214) C (pc := 189) d_CX_connect_189 (by decide) h (fun h => ?_) (fun h => ?_)
      · exact wk_CX_connect_214 C R S hJ65 ih _ _ _ _ h
      · refine z_aload_n C (pc := 192) d_CX_connect_192 0 rfl ?_
        refine x_getX (v := .ref (ad (3, 0))) C 9 (by decide) rfl wd_94 (pc := 193) d_CX_connect_193 ?_
        refine z_iload_n C (pc := 196) d_CX_connect_196 3 rfl ?_
        refine x_aald C 0 (by decide) hc46 hc47 (pc := 197) d_CX_connect_197 ?_
        obtain ⟨hc52, hc53, h⟩ := h
        refine x_callVi (As := []) (st := []) C S fy_ND_inner (4, (σ 50 v3).toNat) (zids_node hc52 hc53) rfl rfl wd_576 (pc := 198) d_CX_connect_198 ⟨rfl, rfl, Nat.le_of_ble_eq_true rfl, Nat.le_of_ble_eq_true rfl⟩ rfl (by rw [zr_s ad 4 hc52]; rfl) (Nat.le_of_ble_eq_true rfl) h (c_ND_inner (zln E) D g ad _ _ _) (fun r51 σ50 h => ?_)
        obtain ⟨hc54, h⟩ := h
        refine z_if_eq (tgt := 214) C (pc := 201) d_CX_connect_201 (by decide) hc54 h (fun h => ?_) (fun h => ?_)
        · exact wk_CX_connect_214 C R S hJ65 ih _ _ _ _ h
        · refine z_aload_n C (pc := 204) d_CX_connect_204 0 rfl ?_
          refine x_getX (v := .ref (ad (3, 0))) C 9 (by decide) rfl wd_94 (pc := 205) d_CX_connect_205 ?_
          refine z_iload_n C (pc := 208) d_CX_connect_208 3 rfl ?_
          refine x_aald C 0 (by decide) hc46 hc47 (pc := 209) d_CX_connect_209 ?_
          refine z_iconst C (pc := 210) d_CX_connect_210 ?_
          obtain ⟨hc56, hc57, h⟩ := h
          refine x_putN (v := 1) C 11 (by decide) hc56 hc57 rfl (z_bool rfl (by decide)) rfl wd_193 (pc := 211) d_CX_connect_211 ?_
          refine zN h (fun σ55 eσ55 h => ?_)
          exact wk_CX_connect_214 C R S hJ65 ih _ _ _ _ h
set_option maxHeartbeats 4000000 in
set_option maxRecDepth 100000 in
theorem wk_CX_connect_101 {E : zE} {D : va_G} {g : zG} {A : Nat → Prop} {ad : zA} {Q : zS → Prop} {J65 : Int → zS → Prop} (C : zX E b_CX_connect R_CX D g { frames := 25, cells := 0, slots := 0, locals := 824 } 4) (R : zRt E none (zQv D g ad Q A) 0 0 A) (S : zSt g A (zst E) (zst E).heap) (hJ65 : ∀ (v1 : Int) (σ : zS), J65 v1 σ → zW E (zOK D A (zst E) g ad) 0 0 65 [(0, .ref (ad (0, 0))), (1, .int (zi v1))] [] σ) (v1 : Int) (v2 : Int) (z0 : Int) (z1 : Int) (σ : zS) (h : bk_CX_connect_101 Q J65 v1 v2 z0 z1 σ) : zW E (zOK D A (zst E) g ad) 0 0 101 [(0, .ref (ad (0, 0))), (1, .int (zi v1)), (2, zr ad 4 v2)] [.int (zi z0), zr ad 4 z1] σ := by
  unfold bk_CX_connect_101 at h
  obtain ⟨hc25, hc26, hc27, h⟩ := h
  refine x_putN (v := z0) C 11 (by decide) hc25 hc26 rfl (z_bool rfl hc27) rfl wd_193 (pc := 101) d_CX_connect_101 ?_
  refine zN h (fun σ24 eσ24 h => ?_)
  refine z_aloadZ_n C (pc := 104) d_CX_connect_104 2 rfl ?_
  obtain ⟨hc28, hc29, h⟩ := h
  refine x_getN (v := .int (zi (σ24 11 v2))) C 11 (by decide) hc28 hc29 rfl wd_193 (pc := 105) d_CX_connect_105 ?_
  obtain ⟨hc30, h⟩ := h
  refine z_if_eq (tgt := 225) C (pc := 108) d_CX_connect_108 (by decide) hc30 h (fun h => ?_) (fun h => ?_)
  · refine z_iinc (L' := [(1, .int (zi (v1 + (-1)))), (0, .ref (ad (0, 0))), (2, zr ad 4 v2)]) C (pc := 225) d_CX_connect_225 1 rfl (by decide) rfl ?_
    refine z_goto (tgt := 65) C (pc := 228) d_CX_connect_228 (by decide) ?_
    refine z_sub [1, 0] rfl ?_
    exact hJ65 _ _ h
  · refine z_aloadZ_n C (pc := 111) d_CX_connect_111 2 rfl ?_
    refine x_getN (v := zr ad 5 (σ24 14 v2)) C 14 (by decide) hc28 hc29 rfl wd_198 (pc := 112) d_CX_connect_112 ?_
    refine z_ifnull (tgt := 225) C (pc := 115) d_CX_connect_115 (by decide) h (fun h => ?_) (fun h => ?_)
    · refine z_iinc (L' := [(1, .int (zi (v1 + (-1)))), (0, .ref (ad (0, 0))), (2, zr ad 4 v2)]) C (pc := 225) d_CX_connect_225 1 rfl (by decide) rfl ?_
      refine z_goto (tgt := 65) C (pc := 228) d_CX_connect_228 (by decide) ?_
      refine z_sub [1, 0] rfl ?_
      exact hJ65 _ _ h
    · refine z_aload_n C (pc := 118) d_CX_connect_118 0 rfl ?_
      refine z_dup C (pc := 119) d_CX_connect_119 rfl ?_
      refine x_getX (v := .int (zi (σ24 57 0))) C 14 (by decide) rfl wd_99 (pc := 120) d_CX_connect_120 ?_
      refine z_iconst C (pc := 123) d_CX_connect_123 ?_
      refine z_iadd C (pc := 124) d_CX_connect_124 ?_
      refine x_putX C 14 57 rfl (by decide) ⟨rfl, rfl⟩ rfl wd_99 (pc := 125) d_CX_connect_125 ?_
      refine zN h (fun σ31 eσ31 h => ?_)
      refine z_aload_n C (pc := 128) d_CX_connect_128 0 rfl ?_
      refine z_dup C (pc := 129) d_CX_connect_129 rfl ?_
      refine x_getX (v := .int (zi (σ31 58 0))) C 15 (by decide) rfl wd_100 (pc := 130) d_CX_connect_130 ?_
      refine z_aloadZ_n C (pc := 133) d_CX_connect_133 2 rfl ?_
      refine x_getN (v := zr ad 5 (σ31 14 v2)) C 14 (by decide) hc28 (by rw [eσ31]; exact hc29) rfl wd_198 (pc := 134) d_CX_connect_134 ?_
      obtain ⟨hc32, hc33, h⟩ := h
      refine x_getC (v := .int (zi (σ31 22 (σ31 14 v2)))) C 2 (by decide) hc32 hc33 rfl wd_433 (pc := 137) d_CX_connect_137 ?_
      refine z_iadd C (pc := 140) d_CX_connect_140 ?_
      refine x_putX C 15 58 rfl (by decide) ⟨rfl, rfl⟩ rfl wd_100 (pc := 141) d_CX_connect_141 ?_
      refine zN h (fun σ34 eσ34 h => ?_)
      refine z_aloadZ_n C (pc := 144) d_CX_connect_144 2 rfl ?_
      refine x_getN (v := zr ad 5 (σ34 14 v2)) C 14 (by decide) hc28 (by rw [eσ34]; exact (by rw [eσ31]; exact hc29)) rfl wd_198 (pc := 145) d_CX_connect_145 ?_
      obtain ⟨hc35, hc36, h⟩ := h
      refine x_getC (v := zr ad 6 (σ34 25 (σ34 14 v2))) C 5 (by decide) hc35 hc36 rfl wd_439 (pc := 148) d_CX_connect_148 ?_
      refine z_aloadZ_n C (pc := 151) d_CX_connect_151 2 rfl ?_
      refine z_aload_n C (pc := 152) d_CX_connect_152 0 rfl ?_
      refine x_getX (v := .ref (ad (3, 0))) C 9 (by decide) rfl wd_94 (pc := 153) d_CX_connect_153 ?_
      refine z_iconst C (pc := 156) d_CX_connect_156 ?_
      refine z_iload_n C (pc := 157) d_CX_connect_157 1 rfl ?_
      refine z_imul C (pc := 158) d_CX_connect_158 ?_
      refine x_callF_bind (As := [zr ad 4 v2, .ref (ad (3, 0)), .int (zi (4 * v1))]) C S wd_554 (pc := 159) d_CX_connect_159 ⟨Nat.le_of_ble_eq_true rfl, Nat.le_of_ble_eq_true rfl⟩ rfl (Nat.le_of_ble_eq_true rfl) h (c_bind 8) (fun σ37 h => ?_)
      refine z_iconst C (pc := 164) d_CX_connect_164 ?_
      refine z_iload_n C (pc := 165) d_CX_connect_165 1 rfl ?_
      refine z_imul C (pc := 166) d_CX_connect_166 ?_
      refine zNi h (fun y39 ey39 h => ?_)
      refine z_istore_n (L' := [(3, .int (zi y39)), (0, .ref (ad (0, 0))), (1, .int (zi v1)), (2, zr ad 4 v2)]) C (pc := 167) d_CX_connect_167 (by decide) (congrArg (List.cons _) (flt_eq (j := 3) rfl (List.forall_mem_singleton.mpr (zr_cat _ _ _)) rfl)) ?_
      refine z_sub [1, 2, 3, 0] rfl ?_
      obtain ⟨n58, h⟩ := h
      exact wk_CX_connect_168 C R S hJ65 n58 _ _ _ _ h
set_option maxHeartbeats 4000000 in
set_option maxRecDepth 100000 in
theorem wk_CX_connect_96 {E : zE} {D : va_G} {g : zG} {A : Nat → Prop} {ad : zA} {Q : zS → Prop} {J65 : Int → zS → Prop} (C : zX E b_CX_connect R_CX D g { frames := 25, cells := 0, slots := 0, locals := 824 } 4) (R : zRt E none (zQv D g ad Q A) 0 0 A) (S : zSt g A (zst E) (zst E).heap) (hJ65 : ∀ (v1 : Int) (σ : zS), J65 v1 σ → zW E (zOK D A (zst E) g ad) 0 0 65 [(0, .ref (ad (0, 0))), (1, .int (zi v1))] [] σ) (v1 : Int) (v2 : Int) (z0 : Int) (σ : zS) (h : bk_CX_connect_96 Q J65 v1 v2 z0 σ) : zW E (zOK D A (zst E) g ad) 0 0 96 [(0, .ref (ad (0, 0))), (1, .int (zi v1)), (2, zr ad 4 v2)] [zr ad 4 z0] σ := by
  unfold bk_CX_connect_96 at h
  refine z_iconst C (pc := 96) d_CX_connect_96 ?_
  refine z_goto (tgt := 101) C (pc := 97) d_CX_connect_97 (by decide) ?_
  exact wk_CX_connect_101 C R S hJ65 _ _ _ _ _ h
set_option maxHeartbeats 4000000 in
set_option maxRecDepth 100000 in
theorem wk_CX_connect_65 {E : zE} {D : va_G} {g : zG} {A : Nat → Prop} {ad : zA} {Q : zS → Prop} (C : zX E b_CX_connect R_CX D g { frames := 25, cells := 0, slots := 0, locals := 824 } 4) (R : zRt E none (zQv D g ad Q A) 0 0 A) (S : zSt g A (zst E) (zst E).heap) : ∀ (n : Nat) (v1 : Int) (σ : zS), lp_CX_connect_65 Q n v1 σ → zW E (zOK D A (zst E) g ad) 0 0 65 [(0, .ref (ad (0, 0))), (1, .int (zi v1))] [] σ := by
  intro n
  induction n with
  | zero =>
    intro v1 σ h
    exact h.elim
  | succ n ih =>
    intro v1 σ h
    refine z_iload_n C (pc := 65) d_CX_connect_65 1 rfl ?_
    obtain ⟨hc5, h⟩ := h
    refine z_if_lt (tgt := 231) C (pc := 66) d_CX_connect_66 (by decide) hc5 h (fun h => ?_) (fun h => ?_)
    · refine z_iconst C (pc := 231) d_CX_connect_231 ?_
      refine z_istore_n (L' := [(1, .int (zi 0)), (0, .ref (ad (0, 0)))]) C (pc := 232) d_CX_connect_232 (by decide) rfl ?_
      refine z_sub [1, 0] rfl ?_
      obtain ⟨n17, h⟩ := h
      exact wk_CX_connect_233 C R S n17 _ _ h
    · refine z_aload_n C (pc := 69) d_CX_connect_69 0 rfl ?_
      refine x_getX (v := .ref (ad (1, 0))) C 1 (by decide) rfl wd_86 (pc := 70) d_CX_connect_70 ?_
      refine z_iload_n C (pc := 73) d_CX_connect_73 1 rfl ?_
      obtain ⟨hc18, hc19, h⟩ := h
      refine x_lget C S 0 (by decide) hc18 hc19 wd_306 ⟨Nat.le_of_ble_eq_true rfl, Nat.le_of_ble_eq_true rfl⟩ (Nat.le_of_ble_eq_true rfl) (pc := 74) d_CX_connect_74 ?_
      obtain ⟨hc20, hc21, h⟩ := h
      refine x_castN C wd_83 (Or.inr ⟨hc20, hc21⟩) (pc := 77) d_CX_connect_77 ?_
      refine zNz h (fun y22 ey22 h => ?_)
      refine z_astoreZ_n (L' := [(2, zr ad 4 y22), (0, .ref (ad (0, 0))), (1, .int (zi v1))]) C (pc := 80) d_CX_connect_80 (by decide) rfl ?_
      refine z_aloadZ_n C (pc := 81) d_CX_connect_81 0 rfl ?_
      refine z_aloadZ_n C (pc := 82) d_CX_connect_82 0 rfl ?_
      refine x_getN (v := .int (zi (σ 11 y22))) C 11 (by decide) (by rw [ey22]; exact hc20) (by rw [ey22]; exact hc21) rfl wd_193 (pc := 83) d_CX_connect_83 ?_
      obtain ⟨hc23, h⟩ := h
      refine z_if_ne (tgt := 96) C (pc := 86) d_CX_connect_86 (by decide) hc23 h (fun h => ?_) (fun h => ?_)
      · refine z_sub [1, 2, 0] rfl ?_
        exact wk_CX_connect_96 C R S ih _ _ _ _ h
      · refine z_aloadZ_n C (pc := 89) d_CX_connect_89 0 rfl ?_
        refine x_callVi (As := []) (st := [zr ad 4 y22]) C S fy_ND_root (4, y22.toNat) (zids_node (by rw [ey22]; exact hc20) (by rw [ey22]; exact hc21)) rfl rfl wd_552 (pc := 90) d_CX_connect_90 ⟨rfl, rfl, Nat.le_of_ble_eq_true rfl, Nat.le_of_ble_eq_true rfl⟩ rfl (by rw [zr_s ad 4 (by rw [ey22]; exact hc20)]; rfl) (by simp [zr_cat, kv_cat, cat_i, cat_l, cat_r]) h (c_ND_root (zln E) D g ad _ _ _) (fun r60 σ59 h => ?_)
        obtain ⟨hc61, h⟩ := h
        refine z_if_eq (tgt := 100) C (pc := 93) d_CX_connect_93 (by decide) hc61 h (fun h => ?_) (fun h => ?_)
        · refine z_iconst C (pc := 100) d_CX_connect_100 ?_
          refine z_sub [1, 2, 0] rfl ?_
          exact wk_CX_connect_101 C R S ih _ _ _ _ _ h
        · refine z_sub [1, 2, 0] rfl ?_
          exact wk_CX_connect_96 C R S ih _ _ _ _ h
set_option maxHeartbeats 4000000 in
set_option maxRecDepth 100000 in
theorem wk_CX_connect_12 {E : zE} {D : va_G} {g : zG} {A : Nat → Prop} {ad : zA} {Q : zS → Prop} (C : zX E b_CX_connect R_CX D g { frames := 25, cells := 0, slots := 0, locals := 824 } 4) (R : zRt E none (zQv D g ad Q A) 0 0 A) (S : zSt g A (zst E) (zst E).heap) : ∀ (n : Nat) (v1 : Int) (σ : zS), lp_CX_connect_12 Q n v1 σ → zW E (zOK D A (zst E) g ad) 0 0 12 [(0, .ref (ad (0, 0))), (1, .int (zi v1))] [] σ := by
  intro n
  induction n with
  | zero =>
    intro v1 σ h
    exact h.elim
  | succ n ih =>
    intro v1 σ h
    refine z_iload_n C (pc := 12) d_CX_connect_12 1 rfl ?_
    refine z_aload_n C (pc := 13) d_CX_connect_13 0 rfl ?_
    refine x_getX (v := .ref (ad (3, 0))) C 9 (by decide) rfl wd_94 (pc := 14) d_CX_connect_14 ?_
    refine x_alen C 0 (by decide) (pc := 17) d_CX_connect_17 ?_
    obtain ⟨hc3, h⟩ := h
    refine z_icmp_ge (tgt := 55) C (pc := 18) d_CX_connect_18 (by decide) hc3 (by decide) h (fun h => ?_) (fun h => ?_)
    · refine z_aload_n C (pc := 55) d_CX_connect_55 0 rfl ?_
      refine x_getX (v := .ref (ad (1, 0))) C 1 (by decide) rfl wd_86 (pc := 56) d_CX_connect_56 ?_
      refine x_size (P := True) C S 0 (by decide) wd_146 ⟨Nat.le_of_ble_eq_true rfl, Nat.le_of_ble_eq_true rfl⟩ (Nat.le_of_ble_eq_true rfl) (pc := 59) d_CX_connect_59 ?_
      refine z_iconst C (pc := 62) d_CX_connect_62 ?_
      refine z_isub C (pc := 63) d_CX_connect_63 ?_
      refine zNi h (fun y4 ey4 h => ?_)
      refine z_istore_n (L' := [(1, .int (zi y4)), (0, .ref (ad (0, 0)))]) C (pc := 64) d_CX_connect_64 (by decide) rfl ?_
      refine z_sub [1, 0] rfl ?_
      obtain ⟨n62, h⟩ := h
      exact wk_CX_connect_65 C R S n62 _ _ h
    · refine z_aload_n C (pc := 21) d_CX_connect_21 0 rfl ?_
      refine x_getX (v := .ref (ad (3, 0))) C 9 (by decide) rfl wd_94 (pc := 22) d_CX_connect_22 ?_
      refine z_iload_n C (pc := 25) d_CX_connect_25 1 rfl ?_
      refine z_nullZ (ad := ad) 4 C (pc := 26) d_CX_connect_26 ?_
      obtain ⟨hc64, hc65, h⟩ := h
      refine x_aast C 0 (by decide) hc64 hc65 (Or.inl rfl) (pc := 27) d_CX_connect_27 ?_
      refine zN h (fun σ63 eσ63 h => ?_)
      refine z_aload_n C (pc := 28) d_CX_connect_28 0 rfl ?_
      refine x_getX (v := .ref (ad (3, 1))) C 10 (by decide) rfl wd_95 (pc := 29) d_CX_connect_29 ?_
      refine z_iload_n C (pc := 32) d_CX_connect_32 1 rfl ?_
      refine z_nullZ (ad := ad) 4 C (pc := 33) d_CX_connect_33 ?_
      refine x_aast C 1 (by decide) hc64 hc65 (Or.inl rfl) (pc := 34) d_CX_connect_34 ?_
      refine zN h (fun σ66 eσ66 h => ?_)
      refine z_aload_n C (pc := 35) d_CX_connect_35 0 rfl ?_
      refine x_getX (v := .ref (ad (3, 2))) C 11 (by decide) rfl wd_96 (pc := 36) d_CX_connect_36 ?_
      refine z_iload_n C (pc := 39) d_CX_connect_39 1 rfl ?_
      refine z_iconst C (pc := 40) d_CX_connect_40 ?_
      refine x_iast C hc64 hc65 (pc := 41) d_CX_connect_41 ?_
      refine zN h (fun σ67 eσ67 h => ?_)
      refine z_aload_n C (pc := 42) d_CX_connect_42 0 rfl ?_
      refine x_getX (v := .ref (ad (3, 3))) C 12 (by decide) rfl wd_97 (pc := 43) d_CX_connect_43 ?_
      refine z_iload_n C (pc := 46) d_CX_connect_46 1 rfl ?_
      refine z_lconst (y := 0) C (pc := 47) d_CX_connect_47 (by decide) ?_
      refine x_last C 3 (by decide) hc64 hc65 (pc := 48) d_CX_connect_48 ?_
      refine zN h (fun σ68 eσ68 h => ?_)
      refine z_iinc (L' := [(1, .int (zi (v1 + 1))), (0, .ref (ad (0, 0)))]) C (pc := 49) d_CX_connect_49 1 rfl (by decide) rfl ?_
      refine z_goto (tgt := 12) C (pc := 52) d_CX_connect_52 (by decide) ?_
      refine z_sub [1, 0] rfl ?_
      exact ih _ _ h
set_option maxHeartbeats 4000000 in
set_option maxRecDepth 100000 in
theorem c_CX_connect (l : Launch) (D : va_G) (g : zG) (ad : zA) (Q : zS → Prop) (σ : zS) (h : wp_CX_connect Q σ) : zGv l y_CX_connect b_CX_connect 4 none { frames := 25, cells := 0, slots := 0, locals := 824 } D g ad σ [.ref (ad (0, 0))] Q := by
  unfold wp_CX_connect at h
  refine zN_of (by decide) (Nat.le_of_ble_eq_true rfl) (fun E C R S => ?_)
  have C : zX E b_CX_connect R_CX D g { frames := 25, cells := 0, slots := 0, locals := 824 } 4 := C
  refine z_sub (L' := [(0, .ref (ad (0, 0)))]) [0] rfl ?_
  refine z_aload_n C (pc := 0) d_CX_connect_0 0 rfl ?_
  refine z_iconst C (pc := 1) d_CX_connect_1 ?_
  refine x_putX C 14 57 rfl (by decide) ⟨rfl, rfl⟩ rfl wd_99 (pc := 2) d_CX_connect_2 ?_
  refine zN h (fun σ1 eσ1 h => ?_)
  refine z_aload_n C (pc := 5) d_CX_connect_5 0 rfl ?_
  refine z_iconst C (pc := 6) d_CX_connect_6 ?_
  refine x_putX C 15 58 rfl (by decide) ⟨rfl, rfl⟩ rfl wd_100 (pc := 7) d_CX_connect_7 ?_
  refine zN h (fun σ2 eσ2 h => ?_)
  refine z_iconst C (pc := 10) d_CX_connect_10 ?_
  refine z_istore_n (L' := [(1, .int (zi 0)), (0, .ref (ad (0, 0)))]) C (pc := 11) d_CX_connect_11 (by decide) rfl ?_
  refine z_sub [1, 0] rfl ?_
  obtain ⟨n69, h⟩ := h
  exact wk_CX_connect_12 C R S n69 _ _ h
theorem d_CX_move_0 : decode b_CX_move 0 = .ok (.iconst 0, 1) := by decide +kernel
theorem d_CX_move_1 : decode b_CX_move 1 = .ok (.istore_n 2, 1) := by decide +kernel
theorem d_CX_move_2 : decode b_CX_move 2 = .ok (.iconst 0, 1) := by decide +kernel
theorem d_CX_move_3 : decode b_CX_move 3 = .ok (.istore_n 3, 1) := by decide +kernel
theorem d_CX_move_4 : decode b_CX_move 4 = .ok (.iload_n 3, 1) := by decide +kernel
theorem d_CX_move_5 : decode b_CX_move 5 = .ok (.aload_n 1, 1) := by decide +kernel
theorem d_CX_move_6 : decode b_CX_move 6 = .ok (.getfield 199, 3) := by decide +kernel
theorem d_CX_move_9 : decode b_CX_move 9 = .ok (.getfield 251, 3) := by decide +kernel
theorem d_CX_move_12 : decode b_CX_move 12 = .ok (.if_icmp .ge 74, 3) := by decide +kernel
theorem d_CX_move_15 : decode b_CX_move 15 = .ok (.iconst 4, 1) := by decide +kernel
theorem d_CX_move_16 : decode b_CX_move 16 = .ok (.aload_n 1, 1) := by decide +kernel
theorem d_CX_move_17 : decode b_CX_move 17 = .ok (.getfield 175, 3) := by decide +kernel
theorem d_CX_move_20 : decode b_CX_move 20 = .ok (.imul, 1) := by decide +kernel
theorem d_CX_move_21 : decode b_CX_move 21 = .ok (.iload_n 3, 1) := by decide +kernel
theorem d_CX_move_22 : decode b_CX_move 22 = .ok (.iadd, 1) := by decide +kernel
theorem d_CX_move_23 : decode b_CX_move 23 = .ok (.istore 4, 2) := by decide +kernel
theorem d_CX_move_25 : decode b_CX_move 25 = .ok (.aload_n 0, 1) := by decide +kernel
theorem d_CX_move_26 : decode b_CX_move 26 = .ok (.getfield 98, 3) := by decide +kernel
theorem d_CX_move_29 : decode b_CX_move 29 = .ok (.iload 4, 2) := by decide +kernel
theorem d_CX_move_31 : decode b_CX_move 31 = .ok (.dup2, 1) := by decide +kernel
theorem d_CX_move_32 : decode b_CX_move 32 = .ok (.iaload, 1) := by decide +kernel
theorem d_CX_move_33 : decode b_CX_move 33 = .ok (.iconst 1, 1) := by decide +kernel
theorem d_CX_move_34 : decode b_CX_move 34 = .ok (.isub, 1) := by decide +kernel
theorem d_CX_move_35 : decode b_CX_move 35 = .ok (.iastore, 1) := by decide +kernel
theorem d_CX_move_36 : decode b_CX_move 36 = .ok (.iload_n 2, 1) := by decide +kernel
theorem d_CX_move_37 : decode b_CX_move 37 = .ok (.aload_n 0, 1) := by decide +kernel
theorem d_CX_move_38 : decode b_CX_move 38 = .ok (.getfield 102, 3) := by decide +kernel
theorem d_CX_move_41 : decode b_CX_move 41 = .ok (.iload 4, 2) := by decide +kernel
theorem d_CX_move_43 : decode b_CX_move 43 = .ok (.laload, 1) := by decide +kernel
theorem d_CX_move_44 : decode b_CX_move 44 = .ok (.aload_n 0, 1) := by decide +kernel
theorem d_CX_move_45 : decode b_CX_move 45 = .ok (.getfield 98, 3) := by decide +kernel
theorem d_CX_move_48 : decode b_CX_move 48 = .ok (.iload 4, 2) := by decide +kernel
theorem d_CX_move_50 : decode b_CX_move 50 = .ok (.iaload, 1) := by decide +kernel
theorem d_CX_move_51 : decode b_CX_move 51 = .ok (.lushr, 1) := by decide +kernel
theorem d_CX_move_52 : decode b_CX_move 52 = .ok (.lconst 1, 1) := by decide +kernel
theorem d_CX_move_53 : decode b_CX_move 53 = .ok (.land, 1) := by decide +kernel
theorem d_CX_move_54 : decode b_CX_move 54 = .ok (.l2i, 1) := by decide +kernel
theorem d_CX_move_55 : decode b_CX_move 55 = .ok (.iload_n 3, 1) := by decide +kernel
theorem d_CX_move_56 : decode b_CX_move 56 = .ok (.ishl, 1) := by decide +kernel
theorem d_CX_move_57 : decode b_CX_move 57 = .ok (.ior, 1) := by decide +kernel
theorem d_CX_move_58 : decode b_CX_move 58 = .ok (.istore_n 2, 1) := by decide +kernel
theorem d_CX_move_59 : decode b_CX_move 59 = .ok (.aload_n 0, 1) := by decide +kernel
theorem d_CX_move_60 : decode b_CX_move 60 = .ok (.getfield 102, 3) := by decide +kernel
theorem d_CX_move_63 : decode b_CX_move 63 = .ok (.iload 4, 2) := by decide +kernel
theorem d_CX_move_65 : decode b_CX_move 65 = .ok (.dup2, 1) := by decide +kernel
theorem d_CX_move_66 : decode b_CX_move 66 = .ok (.laload, 1) := by decide +kernel
theorem d_CX_move_67 : decode b_CX_move 67 = .ok (.lconst 1, 1) := by decide +kernel
theorem d_CX_move_68 : decode b_CX_move 68 = .ok (.aload_n 0, 1) := by decide +kernel
theorem d_CX_move_69 : decode b_CX_move 69 = .ok (.getfield 98, 3) := by decide +kernel
theorem d_CX_move_72 : decode b_CX_move 72 = .ok (.iload 4, 2) := by decide +kernel
theorem d_CX_move_74 : decode b_CX_move 74 = .ok (.iaload, 1) := by decide +kernel
theorem d_CX_move_75 : decode b_CX_move 75 = .ok (.lshl, 1) := by decide +kernel
theorem d_CX_move_76 : decode b_CX_move 76 = .ok (.lconst 1, 1) := by decide +kernel
theorem d_CX_move_77 : decode b_CX_move 77 = .ok (.lsub, 1) := by decide +kernel
theorem d_CX_move_78 : decode b_CX_move 78 = .ok (.land, 1) := by decide +kernel
theorem d_CX_move_79 : decode b_CX_move 79 = .ok (.lastore, 1) := by decide +kernel
theorem d_CX_move_80 : decode b_CX_move 80 = .ok (.iinc 3 1, 3) := by decide +kernel
theorem d_CX_move_83 : decode b_CX_move 83 = .ok (.goto (-79), 3) := by decide +kernel
theorem d_CX_move_86 : decode b_CX_move 86 = .ok (.aload_n 1, 1) := by decide +kernel
theorem d_CX_move_87 : decode b_CX_move 87 = .ok (.getfield 199, 3) := by decide +kernel
theorem d_CX_move_90 : decode b_CX_move 90 = .ok (.getfield 224, 3) := by decide +kernel
theorem d_CX_move_93 : decode b_CX_move 93 = .ok (.iload_n 2, 1) := by decide +kernel
theorem d_CX_move_94 : decode b_CX_move 94 = .ok (.invokeinterface 299 2, 5) := by decide +kernel
theorem d_CX_move_99 : decode b_CX_move 99 = .ok (.istore_n 3, 1) := by decide +kernel
theorem d_CX_move_100 : decode b_CX_move 100 = .ok (.iconst 0, 1) := by decide +kernel
theorem d_CX_move_101 : decode b_CX_move 101 = .ok (.istore 4, 2) := by decide +kernel
theorem d_CX_move_103 : decode b_CX_move 103 = .ok (.iload 4, 2) := by decide +kernel
theorem d_CX_move_105 : decode b_CX_move 105 = .ok (.aload_n 0, 1) := by decide +kernel
theorem d_CX_move_106 : decode b_CX_move 106 = .ok (.getfield 95, 3) := by decide +kernel
theorem d_CX_move_109 : decode b_CX_move 109 = .ok (.arraylength, 1) := by decide +kernel
theorem d_CX_move_110 : decode b_CX_move 110 = .ok (.if_icmp .ge 50, 3) := by decide +kernel
theorem d_CX_move_113 : decode b_CX_move 113 = .ok (.aload_n 0, 1) := by decide +kernel
theorem d_CX_move_114 : decode b_CX_move 114 = .ok (.getfield 95, 3) := by decide +kernel
theorem d_CX_move_117 : decode b_CX_move 117 = .ok (.iload 4, 2) := by decide +kernel
theorem d_CX_move_119 : decode b_CX_move 119 = .ok (.aaload, 1) := by decide +kernel
theorem d_CX_move_120 : decode b_CX_move 120 = .ok (.aload_n 1, 1) := by decide +kernel
theorem d_CX_move_121 : decode b_CX_move 121 = .ok (.if_acmp .ne 33, 3) := by decide +kernel
theorem d_CX_move_124 : decode b_CX_move 124 = .ok (.aload_n 0, 1) := by decide +kernel
theorem d_CX_move_125 : decode b_CX_move 125 = .ok (.getfield 102, 3) := by decide +kernel
theorem d_CX_move_128 : decode b_CX_move 128 = .ok (.iload 4, 2) := by decide +kernel
theorem d_CX_move_130 : decode b_CX_move 130 = .ok (.aload_n 0, 1) := by decide +kernel
theorem d_CX_move_131 : decode b_CX_move 131 = .ok (.getfield 102, 3) := by decide +kernel
theorem d_CX_move_134 : decode b_CX_move 134 = .ok (.iload 4, 2) := by decide +kernel
theorem d_CX_move_136 : decode b_CX_move 136 = .ok (.laload, 1) := by decide +kernel
theorem d_CX_move_137 : decode b_CX_move 137 = .ok (.iconst 1, 1) := by decide +kernel
theorem d_CX_move_138 : decode b_CX_move 138 = .ok (.lshl, 1) := by decide +kernel
theorem d_CX_move_139 : decode b_CX_move 139 = .ok (.iload_n 3, 1) := by decide +kernel
theorem d_CX_move_140 : decode b_CX_move 140 = .ok (.i2l, 1) := by decide +kernel
theorem d_CX_move_141 : decode b_CX_move 141 = .ok (.lor, 1) := by decide +kernel
theorem d_CX_move_142 : decode b_CX_move 142 = .ok (.lastore, 1) := by decide +kernel
theorem d_CX_move_143 : decode b_CX_move 143 = .ok (.aload_n 0, 1) := by decide +kernel
theorem d_CX_move_144 : decode b_CX_move 144 = .ok (.getfield 98, 3) := by decide +kernel
theorem d_CX_move_147 : decode b_CX_move 147 = .ok (.iload 4, 2) := by decide +kernel
theorem d_CX_move_149 : decode b_CX_move 149 = .ok (.dup2, 1) := by decide +kernel
theorem d_CX_move_150 : decode b_CX_move 150 = .ok (.iaload, 1) := by decide +kernel
theorem d_CX_move_151 : decode b_CX_move 151 = .ok (.iconst 1, 1) := by decide +kernel
theorem d_CX_move_152 : decode b_CX_move 152 = .ok (.iadd, 1) := by decide +kernel
theorem d_CX_move_153 : decode b_CX_move 153 = .ok (.iastore, 1) := by decide +kernel
theorem d_CX_move_154 : decode b_CX_move 154 = .ok (.iinc 4 1, 3) := by decide +kernel
theorem d_CX_move_157 : decode b_CX_move 157 = .ok (.goto (-54), 3) := by decide +kernel
theorem d_CX_move_160 : decode b_CX_move 160 = .ok (.aload_n 1, 1) := by decide +kernel
theorem d_CX_move_161 : decode b_CX_move 161 = .ok (.dup, 1) := by decide +kernel
theorem d_CX_move_162 : decode b_CX_move 162 = .ok (.getfield 261, 3) := by decide +kernel
theorem d_CX_move_165 : decode b_CX_move 165 = .ok (.iconst 1, 1) := by decide +kernel
theorem d_CX_move_166 : decode b_CX_move 166 = .ok (.iadd, 1) := by decide +kernel
theorem d_CX_move_167 : decode b_CX_move 167 = .ok (.putfield 261, 3) := by decide +kernel
theorem d_CX_move_170 : decode b_CX_move 170 = .ok (.return_, 1) := by decide +kernel
def lp_CX_move_103 (Q : zS → Prop) : Nat → Int → Int → Int → zS → Prop
  | 0 => fun _ _ _ _ => False
  | n + 1 => fun v1 v3 v4 σ =>
    zc v4 ∧ ((196 ≤ v4 →
      0 ≤ v1 ∧ v1 < σ 70 0 ∧ 
      ∀ σ12, σ12 = zup σ 15 v1 ((σ 15 v1) + 1) →
      Q σ12) ∧
     (¬ 196 ≤ v4 →
      0 ≤ v4 ∧ v4 < 196 ∧ 
      zvn σ (σ 51 v4) ∧ zvn σ v1 ∧ ((σ 51 v4 = v1 →
        zc v3 ∧ 
        ∀ σ18, σ18 = zup σ 53 v4 (zlor (zlshl (σ 53 v4) 1) v3) →
        ∀ σ19, σ19 = zup σ18 52 v4 ((σ18 52 v4) + 1) →
        lp_CX_move_103 Q n v1 v3 (v4 + 1) σ19) ∧
       (¬ σ 51 v4 = v1 →
        lp_CX_move_103 Q n v1 v3 (v4 + 1) σ))))
def lp_CX_move_4 (Q : zS → Prop) : Nat → Int → Int → Int → zS → Prop
  | 0 => fun _ _ _ _ => False
  | n + 1 => fun v1 v2 v3 σ =>
    0 ≤ v1 ∧ v1 < σ 70 0 ∧ 
    0 ≤ σ 14 v1 ∧ σ 14 v1 < σ 71 0 ∧ 
    zc v3 ∧ zc (σ 24 (σ 14 v1)) ∧ ((σ 24 (σ 14 v1) ≤ v3 →
      wp_value 8 (fun r8 σ7 =>
        ∃ u103, lp_CX_move_103 Q u103 v1 r8 0 σ7) (σ 25 (σ 14 v1)) v2 σ) ∧
     (¬ σ 24 (σ 14 v1) ≤ v3 →
      ∀ y21, y21 = (4 * (σ 0 v1)) + v3 →
      0 ≤ y21 ∧ y21 < 196 ∧ 
      ∀ σ24, σ24 = zup σ 52 y21 ((σ 52 y21) - 1) →
      ∀ y25, y25 = zor v2 (zshl (zland (zlushr (σ24 53 y21) (σ24 52 y21)) 1) v3) →
      ∀ σ26, σ26 = zup σ24 53 y21 (zland (σ24 53 y21) ((zlshl 1 (σ24 52 y21)) - 1)) →
      lp_CX_move_4 Q n v1 y25 (v3 + 1) σ26))
def wp_CX_move (Q : zS → Prop) (v1 : Int) (σ : zS) : Prop :=
  ∃ u4, lp_CX_move_4 Q u4 v1 0 0 σ
set_option maxHeartbeats 4000000 in
set_option maxRecDepth 100000 in
theorem wk_CX_move_103 {E : zE} {D : va_G} {g : zG} {A : Nat → Prop} {ad : zA} {Q : zS → Prop} (C : zX E b_CX_move R_CX D g { frames := 25, cells := 0, slots := 0, locals := 824 } 5) (R : zRt E none (zQv D g ad Q A) 0 0 A) (S : zSt g A (zst E) (zst E).heap) : ∀ (n : Nat) (v1 : Int) (v3 : Int) (v4 : Int) (σ : zS), lp_CX_move_103 Q n v1 v3 v4 σ → zW E (zOK D A (zst E) g ad) 0 0 103 [(0, .ref (ad (0, 0))), (1, zr ad 4 v1), (3, .int (zi v3)), (4, .int (zi v4))] [] σ := by
  intro n
  induction n with
  | zero =>
    intro v1 v3 v4 σ h
    exact h.elim
  | succ n ih =>
    intro v1 v3 v4 σ h
    refine z_iload C (pc := 103) d_CX_move_103 3 rfl ?_
    refine z_aload_n C (pc := 105) d_CX_move_105 0 rfl ?_
    refine x_getX (v := .ref (ad (3, 1))) C 10 (by decide) rfl wd_95 (pc := 106) d_CX_move_106 ?_
    refine x_alen C 1 (by decide) (pc := 109) d_CX_move_109 ?_
    obtain ⟨hc9, h⟩ := h
    refine z_icmp_ge (tgt := 160) C (pc := 110) d_CX_move_110 (by decide) hc9 (by decide) h (fun h => ?_) (fun h => ?_)
    · refine z_aloadZ_n C (pc := 160) d_CX_move_160 1 rfl ?_
      refine z_dup C (pc := 161) d_CX_move_161 (zr_cat _ _ _) ?_
      obtain ⟨hc10, hc11, h⟩ := h
      refine x_getN (v := .int (zi (σ 15 v1))) C 15 (by decide) hc10 hc11 rfl wd_199 (pc := 162) d_CX_move_162 ?_
      refine z_iconst C (pc := 165) d_CX_move_165 ?_
      refine z_iadd C (pc := 166) d_CX_move_166 ?_
      refine x_putN (v := (σ 15 v1) + 1) C 15 (by decide) hc10 hc11 rfl ⟨rfl, rfl⟩ rfl wd_199 (pc := 167) d_CX_move_167 ?_
      refine zN h (fun σ12 eσ12 h => ?_)
      exact z_vret C R (pc := 170) d_CX_move_170 h
    · refine z_aload_n C (pc := 113) d_CX_move_113 0 rfl ?_
      refine x_getX (v := .ref (ad (3, 1))) C 10 (by decide) rfl wd_95 (pc := 114) d_CX_move_114 ?_
      refine z_iload C (pc := 117) d_CX_move_117 3 rfl ?_
      obtain ⟨hc13, hc14, h⟩ := h
      refine x_aald C 1 (by decide) hc13 hc14 (pc := 119) d_CX_move_119 ?_
      refine z_aloadZ_n C (pc := 120) d_CX_move_120 1 rfl ?_
      obtain ⟨hc15, hc16, h⟩ := h
      refine z_acmp_ne (tgt := 154) C (pc := 121) d_CX_move_121 (by decide) hc15 hc16 h (fun h => ?_) (fun h => ?_)
      · refine z_iinc (L' := [(4, .int (zi (v4 + 1))), (0, .ref (ad (0, 0))), (1, zr ad 4 v1), (3, .int (zi v3))]) C (pc := 154) d_CX_move_154 3 rfl (by decide) rfl ?_
        refine z_goto (tgt := 103) C (pc := 157) d_CX_move_157 (by decide) ?_
        refine z_sub [1, 2, 3, 0] rfl ?_
        exact ih _ _ _ _ h
      · refine z_aload_n C (pc := 124) d_CX_move_124 0 rfl ?_
        refine x_getX (v := .ref (ad (3, 3))) C 12 (by decide) rfl wd_97 (pc := 125) d_CX_move_125 ?_
        refine z_iload C (pc := 128) d_CX_move_128 3 rfl ?_
        refine z_aload_n C (pc := 130) d_CX_move_130 0 rfl ?_
        refine x_getX (v := .ref (ad (3, 3))) C 12 (by decide) rfl wd_97 (pc := 131) d_CX_move_131 ?_
        refine z_iload C (pc := 134) d_CX_move_134 3 rfl ?_
        refine x_lald C 3 (by decide) hc13 hc14 (pc := 136) d_CX_move_136 ?_
        refine z_iconst C (pc := 137) d_CX_move_137 ?_
        refine z_lshl C (pc := 138) d_CX_move_138 ?_
        refine z_iload_n C (pc := 139) d_CX_move_139 2 rfl ?_
        obtain ⟨hc17, h⟩ := h
        refine z_i2l C (pc := 140) d_CX_move_140 hc17 ?_
        refine z_lor C (pc := 141) d_CX_move_141 ?_
        refine x_last C 3 (by decide) hc13 hc14 (pc := 142) d_CX_move_142 ?_
        refine zN h (fun σ18 eσ18 h => ?_)
        refine z_aload_n C (pc := 143) d_CX_move_143 0 rfl ?_
        refine x_getX (v := .ref (ad (3, 2))) C 11 (by decide) rfl wd_96 (pc := 144) d_CX_move_144 ?_
        refine z_iload C (pc := 147) d_CX_move_147 3 rfl ?_
        refine z_dup2 C (pc := 149) d_CX_move_149 rfl rfl ?_
        refine x_iald C hc13 hc14 (pc := 150) d_CX_move_150 ?_
        refine z_iconst C (pc := 151) d_CX_move_151 ?_
        refine z_iadd C (pc := 152) d_CX_move_152 ?_
        refine x_iast C hc13 hc14 (pc := 153) d_CX_move_153 ?_
        refine zN h (fun σ19 eσ19 h => ?_)
        refine z_iinc (L' := [(4, .int (zi (v4 + 1))), (0, .ref (ad (0, 0))), (1, zr ad 4 v1), (3, .int (zi v3))]) C (pc := 154) d_CX_move_154 3 rfl (by decide) rfl ?_
        refine z_goto (tgt := 103) C (pc := 157) d_CX_move_157 (by decide) ?_
        refine z_sub [1, 2, 3, 0] rfl ?_
        exact ih _ _ _ _ h
set_option maxHeartbeats 4000000 in
set_option maxRecDepth 100000 in
theorem wk_CX_move_4 {E : zE} {D : va_G} {g : zG} {A : Nat → Prop} {ad : zA} {Q : zS → Prop} (C : zX E b_CX_move R_CX D g { frames := 25, cells := 0, slots := 0, locals := 824 } 5) (R : zRt E none (zQv D g ad Q A) 0 0 A) (S : zSt g A (zst E) (zst E).heap) : ∀ (n : Nat) (v1 : Int) (v2 : Int) (v3 : Int) (σ : zS), lp_CX_move_4 Q n v1 v2 v3 σ → zW E (zOK D A (zst E) g ad) 0 0 4 [(0, .ref (ad (0, 0))), (1, zr ad 4 v1), (2, .int (zi v2)), (3, .int (zi v3))] [] σ := by
  intro n
  induction n with
  | zero =>
    intro v1 v2 v3 σ h
    exact h.elim
  | succ n ih =>
    intro v1 v2 v3 σ h
    refine z_iload_n C (pc := 4) d_CX_move_4 3 rfl ?_
    refine z_aloadZ_n C (pc := 5) d_CX_move_5 1 rfl ?_
    obtain ⟨hc1, hc2, h⟩ := h
    refine x_getN (v := zr ad 5 (σ 14 v1)) C 14 (by decide) hc1 hc2 rfl wd_198 (pc := 6) d_CX_move_6 ?_
    obtain ⟨hc3, hc4, h⟩ := h
    refine x_getC (v := .int (zi (σ 24 (σ 14 v1)))) C 4 (by decide) hc3 hc4 rfl wd_437 (pc := 9) d_CX_move_9 ?_
    obtain ⟨hc5, hc6, h⟩ := h
    refine z_icmp_ge (tgt := 86) C (pc := 12) d_CX_move_12 (by decide) hc5 hc6 h (fun h => ?_) (fun h => ?_)
    · refine z_aloadZ_n C (pc := 86) d_CX_move_86 1 rfl ?_
      refine x_getN (v := zr ad 5 (σ 14 v1)) C 14 (by decide) hc1 hc2 rfl wd_198 (pc := 87) d_CX_move_87 ?_
      refine x_getC (v := zr ad 6 (σ 25 (σ 14 v1))) C 5 (by decide) hc3 hc4 rfl wd_439 (pc := 90) d_CX_move_90 ?_
      refine z_iload_n C (pc := 93) d_CX_move_93 2 rfl ?_
      refine x_callF_value (As := [.int (zi v2)]) C S wd_615 (pc := 94) d_CX_move_94 ⟨Nat.le_of_ble_eq_true rfl, Nat.le_of_ble_eq_true rfl⟩ rfl (Nat.le_of_ble_eq_true rfl) h (c_value 8) (fun r8 σ7 h => ?_)
      refine z_istore_n (L' := [(3, .int (zi r8)), (0, .ref (ad (0, 0))), (1, zr ad 4 v1), (2, .int (zi v2))]) C (pc := 99) d_CX_move_99 (by decide) rfl ?_
      refine z_iconst C (pc := 100) d_CX_move_100 ?_
      refine z_istore (L' := [(4, .int (zi 0)), (3, .int (zi r8)), (0, .ref (ad (0, 0))), (1, zr ad 4 v1), (2, .int (zi v2))]) C (pc := 101) d_CX_move_101 (by decide) rfl ?_
      refine z_sub [2, 3, 1, 0] rfl ?_
      obtain ⟨n20, h⟩ := h
      exact wk_CX_move_103 C R S n20 _ _ _ _ h
    · refine z_iconst C (pc := 15) d_CX_move_15 ?_
      refine z_aloadZ_n C (pc := 16) d_CX_move_16 1 rfl ?_
      refine x_getN (v := .int (zi (σ 0 v1))) C 0 (by decide) hc1 hc2 rfl wd_167 (pc := 17) d_CX_move_17 ?_
      refine z_imul C (pc := 20) d_CX_move_20 ?_
      refine z_iload_n C (pc := 21) d_CX_move_21 3 rfl ?_
      refine z_iadd C (pc := 22) d_CX_move_22 ?_
      refine zNi h (fun y21 ey21 h => ?_)
      refine z_istore (L' := [(4, .int (zi y21)), (0, .ref (ad (0, 0))), (1, zr ad 4 v1), (2, .int (zi v2)), (3, .int (zi v3))]) C (pc := 23) d_CX_move_23 (by decide) rfl ?_
      refine z_aload_n C (pc := 25) d_CX_move_25 1 rfl ?_
      refine x_getX (v := .ref (ad (3, 2))) C 11 (by decide) rfl wd_96 (pc := 26) d_CX_move_26 ?_
      refine z_iload C (pc := 29) d_CX_move_29 0 rfl ?_
      refine z_dup2 C (pc := 31) d_CX_move_31 rfl rfl ?_
      obtain ⟨hc22, hc23, h⟩ := h
      refine x_iald C hc22 hc23 (pc := 32) d_CX_move_32 ?_
      refine z_iconst C (pc := 33) d_CX_move_33 ?_
      refine z_isub C (pc := 34) d_CX_move_34 ?_
      refine x_iast C hc22 hc23 (pc := 35) d_CX_move_35 ?_
      refine zN h (fun σ24 eσ24 h => ?_)
      refine z_iload_n C (pc := 36) d_CX_move_36 3 rfl ?_
      refine z_aload_n C (pc := 37) d_CX_move_37 1 rfl ?_
      refine x_getX (v := .ref (ad (3, 3))) C 12 (by decide) rfl wd_97 (pc := 38) d_CX_move_38 ?_
      refine z_iload C (pc := 41) d_CX_move_41 0 rfl ?_
      refine x_lald C 3 (by decide) hc22 hc23 (pc := 43) d_CX_move_43 ?_
      refine z_aload_n C (pc := 44) d_CX_move_44 1 rfl ?_
      refine x_getX (v := .ref (ad (3, 2))) C 11 (by decide) rfl wd_96 (pc := 45) d_CX_move_45 ?_
      refine z_iload C (pc := 48) d_CX_move_48 0 rfl ?_
      refine x_iald C hc22 hc23 (pc := 50) d_CX_move_50 ?_
      refine z_lushr C (pc := 51) d_CX_move_51 ?_
      refine z_lconst (y := 1) C (pc := 52) d_CX_move_52 (by decide) ?_
      refine z_land C (pc := 53) d_CX_move_53 ?_
      refine z_l2i C (pc := 54) d_CX_move_54 ?_
      refine z_iload_n C (pc := 55) d_CX_move_55 4 rfl ?_
      refine z_ishl C (pc := 56) d_CX_move_56 ?_
      refine z_ior C (pc := 57) d_CX_move_57 ?_
      refine zNi h (fun y25 ey25 h => ?_)
      refine z_istore_n (L' := [(2, .int (zi y25)), (4, .int (zi y21)), (0, .ref (ad (0, 0))), (1, zr ad 4 v1), (3, .int (zi v3))]) C (pc := 58) d_CX_move_58 (by decide) (congrArg (List.cons _) (flt_eq (j := 2) rfl (List.forall_mem_singleton.mpr (zr_cat _ _ _)) rfl)) ?_
      refine z_aload_n C (pc := 59) d_CX_move_59 2 rfl ?_
      refine x_getX (v := .ref (ad (3, 3))) C 12 (by decide) rfl wd_97 (pc := 60) d_CX_move_60 ?_
      refine z_iload C (pc := 63) d_CX_move_63 1 rfl ?_
      refine z_dup2 C (pc := 65) d_CX_move_65 rfl rfl ?_
      refine x_lald C 3 (by decide) hc22 hc23 (pc := 66) d_CX_move_66 ?_
      refine z_lconst (y := 1) C (pc := 67) d_CX_move_67 (by decide) ?_
      refine z_aload_n C (pc := 68) d_CX_move_68 2 rfl ?_
      refine x_getX (v := .ref (ad (3, 2))) C 11 (by decide) rfl wd_96 (pc := 69) d_CX_move_69 ?_
      refine z_iload C (pc := 72) d_CX_move_72 1 rfl ?_
      refine x_iald C hc22 hc23 (pc := 74) d_CX_move_74 ?_
      refine z_lshl C (pc := 75) d_CX_move_75 ?_
      refine z_lconst (y := 1) C (pc := 76) d_CX_move_76 (by decide) ?_
      refine z_lsub C (pc := 77) d_CX_move_77 ?_
      refine z_land C (pc := 78) d_CX_move_78 ?_
      refine x_last C 3 (by decide) hc22 hc23 (pc := 79) d_CX_move_79 ?_
      refine zN h (fun σ26 eσ26 h => ?_)
      refine z_iinc (L' := [(3, .int (zi (v3 + 1))), (2, .int (zi y25)), (4, .int (zi y21)), (0, .ref (ad (0, 0))), (1, zr ad 4 v1)]) C (pc := 80) d_CX_move_80 4 rfl (by decide) rfl ?_
      refine z_goto (tgt := 4) C (pc := 83) d_CX_move_83 (by decide) ?_
      refine z_sub [3, 4, 1, 0] rfl ?_
      exact ih _ _ _ _ h
set_option maxHeartbeats 4000000 in
set_option maxRecDepth 100000 in
theorem c_CX_move (l : Launch) (D : va_G) (g : zG) (ad : zA) (v1 : Int) (Q : zS → Prop) (σ : zS) (h : wp_CX_move Q v1 σ) : zGv l y_CX_move b_CX_move 5 none { frames := 25, cells := 0, slots := 0, locals := 824 } D g ad σ [.ref (ad (0, 0)), zr ad 4 v1] Q := by
  unfold wp_CX_move at h
  refine zN_of (by decide) (by simp [lg_sl, zr_cat, kv_cat, cat_i, cat_l, cat_r]) (fun E C R S => ?_)
  have C : zX E b_CX_move R_CX D g { frames := 25, cells := 0, slots := 0, locals := 824 } 5 := C
  refine z_sub (L' := [(0, .ref (ad (0, 0))), (1, zr ad 4 v1)]) [0, 1] (by simp [lv_args, lv_pick, zr_cat, kv_cat, cat_i, cat_l, cat_r]) ?_
  refine z_iconst C (pc := 0) d_CX_move_0 ?_
  refine z_istore_n (L' := [(2, .int (zi 0)), (0, .ref (ad (0, 0))), (1, zr ad 4 v1)]) C (pc := 1) d_CX_move_1 (by decide) (congrArg (List.cons _) (flt_eq (j := 2) rfl (List.forall_mem_singleton.mpr (zr_cat _ _ _)) rfl)) ?_
  refine z_iconst C (pc := 2) d_CX_move_2 ?_
  refine z_istore_n (L' := [(3, .int (zi 0)), (2, .int (zi 0)), (0, .ref (ad (0, 0))), (1, zr ad 4 v1)]) C (pc := 3) d_CX_move_3 (by decide) rfl ?_
  refine z_sub [2, 3, 1, 0] rfl ?_
  obtain ⟨n27, h⟩ := h
  exact wk_CX_move_4 C R S n27 _ _ _ _ h
theorem d_CX_retime_0 : decode b_CX_retime 0 = .ok (.iconst 0, 1) := by decide +kernel
theorem d_CX_retime_1 : decode b_CX_retime 1 = .ok (.istore_n 1, 1) := by decide +kernel
theorem d_CX_retime_2 : decode b_CX_retime 2 = .ok (.iload_n 1, 1) := by decide +kernel
theorem d_CX_retime_3 : decode b_CX_retime 3 = .ok (.aload_n 0, 1) := by decide +kernel
theorem d_CX_retime_4 : decode b_CX_retime 4 = .ok (.getfield 65, 3) := by decide +kernel
theorem d_CX_retime_7 : decode b_CX_retime 7 = .ok (.invokevirtual 113, 3) := by decide +kernel
theorem d_CX_retime_10 : decode b_CX_retime 10 = .ok (.if_icmp .ge 26, 3) := by decide +kernel
theorem d_CX_retime_13 : decode b_CX_retime 13 = .ok (.aload_n 0, 1) := by decide +kernel
theorem d_CX_retime_14 : decode b_CX_retime 14 = .ok (.getfield 65, 3) := by decide +kernel
theorem d_CX_retime_17 : decode b_CX_retime 17 = .ok (.iload_n 1, 1) := by decide +kernel
theorem d_CX_retime_18 : decode b_CX_retime 18 = .ok (.invokevirtual 116, 3) := by decide +kernel
theorem d_CX_retime_21 : decode b_CX_retime 21 = .ok (.checkcast 89, 3) := by decide +kernel
theorem d_CX_retime_24 : decode b_CX_retime 24 = .ok (.astore_n 2, 1) := by decide +kernel
theorem d_CX_retime_25 : decode b_CX_retime 25 = .ok (.aload_n 2, 1) := by decide +kernel
theorem d_CX_retime_26 : decode b_CX_retime 26 = .ok (.iconst 0, 1) := by decide +kernel
theorem d_CX_retime_27 : decode b_CX_retime 27 = .ok (.putfield 261, 3) := by decide +kernel
theorem d_CX_retime_30 : decode b_CX_retime 30 = .ok (.iinc 1 1, 3) := by decide +kernel
theorem d_CX_retime_33 : decode b_CX_retime 33 = .ok (.goto (-31), 3) := by decide +kernel
theorem d_CX_retime_36 : decode b_CX_retime 36 = .ok (.aload_n 0, 1) := by decide +kernel
theorem d_CX_retime_37 : decode b_CX_retime 37 = .ok (.aload_n 0, 1) := by decide +kernel
theorem d_CX_retime_38 : decode b_CX_retime 38 = .ok (.invokevirtual 277, 3) := by decide +kernel
theorem d_CX_retime_41 : decode b_CX_retime 41 = .ok (.putfield 283, 3) := by decide +kernel
theorem d_CX_retime_44 : decode b_CX_retime 44 = .ok (.iconst 0, 1) := by decide +kernel
theorem d_CX_retime_45 : decode b_CX_retime 45 = .ok (.istore_n 1, 1) := by decide +kernel
theorem d_CX_retime_46 : decode b_CX_retime 46 = .ok (.aload_n 0, 1) := by decide +kernel
theorem d_CX_retime_47 : decode b_CX_retime 47 = .ok (.getfield 283, 3) := by decide +kernel
theorem d_CX_retime_50 : decode b_CX_retime 50 = .ok (.istore_n 2, 1) := by decide +kernel
theorem d_CX_retime_51 : decode b_CX_retime 51 = .ok (.iconst 0, 1) := by decide +kernel
theorem d_CX_retime_52 : decode b_CX_retime 52 = .ok (.istore_n 3, 1) := by decide +kernel
theorem d_CX_retime_53 : decode b_CX_retime 53 = .ok (.iload_n 3, 1) := by decide +kernel
theorem d_CX_retime_54 : decode b_CX_retime 54 = .ok (.aload_n 0, 1) := by decide +kernel
theorem d_CX_retime_55 : decode b_CX_retime 55 = .ok (.getfield 65, 3) := by decide +kernel
theorem d_CX_retime_58 : decode b_CX_retime 58 = .ok (.invokevirtual 113, 3) := by decide +kernel
theorem d_CX_retime_61 : decode b_CX_retime 61 = .ok (.if_icmp .ge 47, 3) := by decide +kernel
theorem d_CX_retime_64 : decode b_CX_retime 64 = .ok (.aload_n 0, 1) := by decide +kernel
theorem d_CX_retime_65 : decode b_CX_retime 65 = .ok (.getfield 65, 3) := by decide +kernel
theorem d_CX_retime_68 : decode b_CX_retime 68 = .ok (.iload_n 3, 1) := by decide +kernel
theorem d_CX_retime_69 : decode b_CX_retime 69 = .ok (.invokevirtual 116, 3) := by decide +kernel
theorem d_CX_retime_72 : decode b_CX_retime 72 = .ok (.checkcast 89, 3) := by decide +kernel
theorem d_CX_retime_75 : decode b_CX_retime 75 = .ok (.astore 4, 2) := by decide +kernel
theorem d_CX_retime_77 : decode b_CX_retime 77 = .ok (.aload 4, 2) := by decide +kernel
theorem d_CX_retime_79 : decode b_CX_retime 79 = .ok (.getfield 196, 3) := by decide +kernel
theorem d_CX_retime_82 : decode b_CX_retime 82 = .ok (.ifCond .eq 18, 3) := by decide +kernel
theorem d_CX_retime_85 : decode b_CX_retime 85 = .ok (.iload_n 1, 1) := by decide +kernel
theorem d_CX_retime_86 : decode b_CX_retime 86 = .ok (.aload 4, 2) := by decide +kernel
theorem d_CX_retime_88 : decode b_CX_retime 88 = .ok (.getfield 199, 3) := by decide +kernel
theorem d_CX_retime_91 : decode b_CX_retime 91 = .ok (.getfield 264, 3) := by decide +kernel
theorem d_CX_retime_94 : decode b_CX_retime 94 = .ok (.invokestatic 274, 3) := by decide +kernel
theorem d_CX_retime_97 : decode b_CX_retime 97 = .ok (.goto 4, 3) := by decide +kernel
theorem d_CX_retime_100 : decode b_CX_retime 100 = .ok (.iload_n 1, 1) := by decide +kernel
theorem d_CX_retime_101 : decode b_CX_retime 101 = .ok (.istore_n 1, 1) := by decide +kernel
theorem d_CX_retime_102 : decode b_CX_retime 102 = .ok (.iinc 3 1, 3) := by decide +kernel
theorem d_CX_retime_105 : decode b_CX_retime 105 = .ok (.goto (-52), 3) := by decide +kernel
theorem d_CX_retime_108 : decode b_CX_retime 108 = .ok (.iload_n 1, 1) := by decide +kernel
theorem d_CX_retime_109 : decode b_CX_retime 109 = .ok (.iload_n 2, 1) := by decide +kernel
theorem d_CX_retime_110 : decode b_CX_retime 110 = .ok (.if_icmp .ge 29, 3) := by decide +kernel
theorem d_CX_retime_113 : decode b_CX_retime 113 = .ok (.iload_n 1, 1) := by decide +kernel
theorem d_CX_retime_114 : decode b_CX_retime 114 = .ok (.iload_n 2, 1) := by decide +kernel
theorem d_CX_retime_115 : decode b_CX_retime 115 = .ok (.iadd, 1) := by decide +kernel
theorem d_CX_retime_116 : decode b_CX_retime 116 = .ok (.iconst 1, 1) := by decide +kernel
theorem d_CX_retime_117 : decode b_CX_retime 117 = .ok (.iushr, 1) := by decide +kernel
theorem d_CX_retime_118 : decode b_CX_retime 118 = .ok (.istore_n 3, 1) := by decide +kernel
theorem d_CX_retime_119 : decode b_CX_retime 119 = .ok (.aload_n 0, 1) := by decide +kernel
theorem d_CX_retime_120 : decode b_CX_retime 120 = .ok (.iload_n 3, 1) := by decide +kernel
theorem d_CX_retime_121 : decode b_CX_retime 121 = .ok (.invokevirtual 286, 3) := by decide +kernel
theorem d_CX_retime_124 : decode b_CX_retime 124 = .ok (.ifCond .eq 8, 3) := by decide +kernel
theorem d_CX_retime_127 : decode b_CX_retime 127 = .ok (.iload_n 3, 1) := by decide +kernel
theorem d_CX_retime_128 : decode b_CX_retime 128 = .ok (.istore_n 2, 1) := by decide +kernel
theorem d_CX_retime_129 : decode b_CX_retime 129 = .ok (.goto 7, 3) := by decide +kernel
theorem d_CX_retime_132 : decode b_CX_retime 132 = .ok (.iload_n 3, 1) := by decide +kernel
theorem d_CX_retime_133 : decode b_CX_retime 133 = .ok (.iconst 1, 1) := by decide +kernel
theorem d_CX_retime_134 : decode b_CX_retime 134 = .ok (.iadd, 1) := by decide +kernel
theorem d_CX_retime_135 : decode b_CX_retime 135 = .ok (.istore_n 1, 1) := by decide +kernel
theorem d_CX_retime_136 : decode b_CX_retime 136 = .ok (.goto (-28), 3) := by decide +kernel
theorem d_CX_retime_139 : decode b_CX_retime 139 = .ok (.aload_n 0, 1) := by decide +kernel
theorem d_CX_retime_140 : decode b_CX_retime 140 = .ok (.iload_n 1, 1) := by decide +kernel
theorem d_CX_retime_141 : decode b_CX_retime 141 = .ok (.putfield 289, 3) := by decide +kernel
theorem d_CX_retime_144 : decode b_CX_retime 144 = .ok (.aload_n 0, 1) := by decide +kernel
theorem d_CX_retime_145 : decode b_CX_retime 145 = .ok (.iload_n 1, 1) := by decide +kernel
theorem d_CX_retime_146 : decode b_CX_retime 146 = .ok (.invokevirtual 286, 3) := by decide +kernel
theorem d_CX_retime_149 : decode b_CX_retime 149 = .ok (.istore_n 3, 1) := by decide +kernel
theorem d_CX_retime_150 : decode b_CX_retime 150 = .ok (.iconst 0, 1) := by decide +kernel
theorem d_CX_retime_151 : decode b_CX_retime 151 = .ok (.istore 4, 2) := by decide +kernel
theorem d_CX_retime_153 : decode b_CX_retime 153 = .ok (.iload 4, 2) := by decide +kernel
theorem d_CX_retime_155 : decode b_CX_retime 155 = .ok (.aload_n 0, 1) := by decide +kernel
theorem d_CX_retime_156 : decode b_CX_retime 156 = .ok (.getfield 65, 3) := by decide +kernel
theorem d_CX_retime_159 : decode b_CX_retime 159 = .ok (.invokevirtual 113, 3) := by decide +kernel
theorem d_CX_retime_162 : decode b_CX_retime 162 = .ok (.if_icmp .ge 49, 3) := by decide +kernel
theorem d_CX_retime_165 : decode b_CX_retime 165 = .ok (.aload_n 0, 1) := by decide +kernel
theorem d_CX_retime_166 : decode b_CX_retime 166 = .ok (.getfield 65, 3) := by decide +kernel
theorem d_CX_retime_169 : decode b_CX_retime 169 = .ok (.iload 4, 2) := by decide +kernel
theorem d_CX_retime_171 : decode b_CX_retime 171 = .ok (.invokevirtual 116, 3) := by decide +kernel
theorem d_CX_retime_174 : decode b_CX_retime 174 = .ok (.checkcast 89, 3) := by decide +kernel
theorem d_CX_retime_177 : decode b_CX_retime 177 = .ok (.astore 5, 2) := by decide +kernel
theorem d_CX_retime_179 : decode b_CX_retime 179 = .ok (.aload 5, 2) := by decide +kernel
theorem d_CX_retime_181 : decode b_CX_retime 181 = .ok (.iload_n 3, 1) := by decide +kernel
theorem d_CX_retime_182 : decode b_CX_retime 182 = .ok (.ifCond .eq 19, 3) := by decide +kernel
theorem d_CX_retime_185 : decode b_CX_retime 185 = .ok (.aload 5, 2) := by decide +kernel
theorem d_CX_retime_187 : decode b_CX_retime 187 = .ok (.getfield 196, 3) := by decide +kernel
theorem d_CX_retime_190 : decode b_CX_retime 190 = .ok (.ifCond .eq 11, 3) := by decide +kernel
theorem d_CX_retime_193 : decode b_CX_retime 193 = .ok (.aload 5, 2) := by decide +kernel
theorem d_CX_retime_195 : decode b_CX_retime 195 = .ok (.getfield 261, 3) := by decide +kernel
theorem d_CX_retime_198 : decode b_CX_retime 198 = .ok (.goto 4, 3) := by decide +kernel
theorem d_CX_retime_201 : decode b_CX_retime 201 = .ok (.iconst 0, 1) := by decide +kernel
theorem d_CX_retime_202 : decode b_CX_retime 202 = .ok (.putfield 203, 3) := by decide +kernel
theorem d_CX_retime_205 : decode b_CX_retime 205 = .ok (.iinc 4 1, 3) := by decide +kernel
theorem d_CX_retime_208 : decode b_CX_retime 208 = .ok (.goto (-55), 3) := by decide +kernel
theorem d_CX_retime_211 : decode b_CX_retime 211 = .ok (.iconst 0, 1) := by decide +kernel
theorem d_CX_retime_212 : decode b_CX_retime 212 = .ok (.istore 4, 2) := by decide +kernel
theorem d_CX_retime_214 : decode b_CX_retime 214 = .ok (.iload 4, 2) := by decide +kernel
theorem d_CX_retime_216 : decode b_CX_retime 216 = .ok (.aload_n 0, 1) := by decide +kernel
theorem d_CX_retime_217 : decode b_CX_retime 217 = .ok (.getfield 65, 3) := by decide +kernel
theorem d_CX_retime_220 : decode b_CX_retime 220 = .ok (.invokevirtual 113, 3) := by decide +kernel
theorem d_CX_retime_223 : decode b_CX_retime 223 = .ok (.if_icmp .ge 29, 3) := by decide +kernel
theorem d_CX_retime_226 : decode b_CX_retime 226 = .ok (.aload_n 0, 1) := by decide +kernel
theorem d_CX_retime_227 : decode b_CX_retime 227 = .ok (.getfield 65, 3) := by decide +kernel
theorem d_CX_retime_230 : decode b_CX_retime 230 = .ok (.iload 4, 2) := by decide +kernel
theorem d_CX_retime_232 : decode b_CX_retime 232 = .ok (.invokevirtual 116, 3) := by decide +kernel
theorem d_CX_retime_235 : decode b_CX_retime 235 = .ok (.checkcast 89, 3) := by decide +kernel
theorem d_CX_retime_238 : decode b_CX_retime 238 = .ok (.astore 5, 2) := by decide +kernel
theorem d_CX_retime_240 : decode b_CX_retime 240 = .ok (.aload 5, 2) := by decide +kernel
theorem d_CX_retime_242 : decode b_CX_retime 242 = .ok (.iconst 0, 1) := by decide +kernel
theorem d_CX_retime_243 : decode b_CX_retime 243 = .ok (.putfield 261, 3) := by decide +kernel
theorem d_CX_retime_246 : decode b_CX_retime 246 = .ok (.iinc 4 1, 3) := by decide +kernel
theorem d_CX_retime_249 : decode b_CX_retime 249 = .ok (.goto (-35), 3) := by decide +kernel
theorem d_CX_retime_252 : decode b_CX_retime 252 = .ok (.iconst 1, 1) := by decide +kernel
theorem d_CX_retime_253 : decode b_CX_retime 253 = .ok (.istore 4, 2) := by decide +kernel
theorem d_CX_retime_255 : decode b_CX_retime 255 = .ok (.iconst 0, 1) := by decide +kernel
theorem d_CX_retime_256 : decode b_CX_retime 256 = .ok (.istore 5, 2) := by decide +kernel
theorem d_CX_retime_258 : decode b_CX_retime 258 = .ok (.iload 4, 2) := by decide +kernel
theorem d_CX_retime_260 : decode b_CX_retime 260 = .ok (.ifCond .eq 89, 3) := by decide +kernel
theorem d_CX_retime_263 : decode b_CX_retime 263 = .ok (.iload 5, 2) := by decide +kernel
theorem d_CX_retime_265 : decode b_CX_retime 265 = .ok (.sipush 2304, 3) := by decide +kernel
theorem d_CX_retime_268 : decode b_CX_retime 268 = .ok (.if_icmp .gt 81, 3) := by decide +kernel
theorem d_CX_retime_271 : decode b_CX_retime 271 = .ok (.iconst 0, 1) := by decide +kernel
theorem d_CX_retime_272 : decode b_CX_retime 272 = .ok (.istore 4, 2) := by decide +kernel
theorem d_CX_retime_274 : decode b_CX_retime 274 = .ok (.iconst 0, 1) := by decide +kernel
theorem d_CX_retime_275 : decode b_CX_retime 275 = .ok (.istore 6, 2) := by decide +kernel
theorem d_CX_retime_277 : decode b_CX_retime 277 = .ok (.iload 6, 2) := by decide +kernel
theorem d_CX_retime_279 : decode b_CX_retime 279 = .ok (.aload_n 0, 1) := by decide +kernel
theorem d_CX_retime_280 : decode b_CX_retime 280 = .ok (.getfield 65, 3) := by decide +kernel
theorem d_CX_retime_283 : decode b_CX_retime 283 = .ok (.invokevirtual 113, 3) := by decide +kernel
theorem d_CX_retime_286 : decode b_CX_retime 286 = .ok (.if_icmp .ge 57, 3) := by decide +kernel
theorem d_CX_retime_289 : decode b_CX_retime 289 = .ok (.aload_n 0, 1) := by decide +kernel
theorem d_CX_retime_290 : decode b_CX_retime 290 = .ok (.getfield 65, 3) := by decide +kernel
theorem d_CX_retime_293 : decode b_CX_retime 293 = .ok (.iload 6, 2) := by decide +kernel
theorem d_CX_retime_295 : decode b_CX_retime 295 = .ok (.invokevirtual 116, 3) := by decide +kernel
theorem d_CX_retime_298 : decode b_CX_retime 298 = .ok (.checkcast 89, 3) := by decide +kernel
theorem d_CX_retime_301 : decode b_CX_retime 301 = .ok (.astore 7, 2) := by decide +kernel
theorem d_CX_retime_303 : decode b_CX_retime 303 = .ok (.aload 7, 2) := by decide +kernel
theorem d_CX_retime_305 : decode b_CX_retime 305 = .ok (.getfield 261, 3) := by decide +kernel
theorem d_CX_retime_308 : decode b_CX_retime 308 = .ok (.aload 7, 2) := by decide +kernel
theorem d_CX_retime_310 : decode b_CX_retime 310 = .ok (.getfield 203, 3) := by decide +kernel
theorem d_CX_retime_313 : decode b_CX_retime 313 = .ok (.if_icmp .ge 24, 3) := by decide +kernel
theorem d_CX_retime_316 : decode b_CX_retime 316 = .ok (.aload_n 0, 1) := by decide +kernel
theorem d_CX_retime_317 : decode b_CX_retime 317 = .ok (.aload 7, 2) := by decide +kernel
theorem d_CX_retime_319 : decode b_CX_retime 319 = .ok (.invokevirtual 292, 3) := by decide +kernel
theorem d_CX_retime_322 : decode b_CX_retime 322 = .ok (.ifCond .eq 15, 3) := by decide +kernel
theorem d_CX_retime_325 : decode b_CX_retime 325 = .ok (.aload_n 0, 1) := by decide +kernel
theorem d_CX_retime_326 : decode b_CX_retime 326 = .ok (.aload 7, 2) := by decide +kernel
theorem d_CX_retime_328 : decode b_CX_retime 328 = .ok (.invokevirtual 296, 3) := by decide +kernel
theorem d_CX_retime_331 : decode b_CX_retime 331 = .ok (.iconst 1, 1) := by decide +kernel
theorem d_CX_retime_332 : decode b_CX_retime 332 = .ok (.istore 4, 2) := by decide +kernel
theorem d_CX_retime_334 : decode b_CX_retime 334 = .ok (.goto (-31), 3) := by decide +kernel
theorem d_CX_retime_337 : decode b_CX_retime 337 = .ok (.iinc 6 1, 3) := by decide +kernel
theorem d_CX_retime_340 : decode b_CX_retime 340 = .ok (.goto (-63), 3) := by decide +kernel
theorem d_CX_retime_343 : decode b_CX_retime 343 = .ok (.iinc 5 1, 3) := by decide +kernel
theorem d_CX_retime_346 : decode b_CX_retime 346 = .ok (.goto (-88), 3) := by decide +kernel
theorem d_CX_retime_349 : decode b_CX_retime 349 = .ok (.return_, 1) := by decide +kernel
def lp_CX_retime_303 (Q : zS → Prop) (J258 : Int → Int → zS → Prop) (J277 : Int → Int → Int → zS → Prop) : Nat → Int → Int → Int → Int → zS → Prop
  | 0 => fun _ _ _ _ _ => False
  | n + 1 => fun v4 v5 v6 v7 σ =>
    0 ≤ v7 ∧ v7 < σ 70 0 ∧ 
    zc (σ 15 v7) ∧ zc (σ 16 v7) ∧ ((σ 16 v7 ≤ σ 15 v7 →
      J277 v4 v5 (v6 + 1) σ) ∧
     (¬ σ 16 v7 ≤ σ 15 v7 →
      wp_CX_movable (fun r32 σ31 =>
        zc r32 ∧ ((r32 = 0 →
          J277 v4 v5 (v6 + 1) σ31) ∧
         (¬ r32 = 0 →
          wp_CX_move (fun σ34 =>
            lp_CX_retime_303 Q J258 J277 n 1 v5 v6 v7 σ34) v7 σ31))) v7 σ))
def lp_CX_retime_277 (Q : zS → Prop) (J258 : Int → Int → zS → Prop) : Nat → Int → Int → Int → zS → Prop
  | 0 => fun _ _ _ _ => False
  | n + 1 => fun v4 v5 v6 σ =>
    zc v6 ∧ zc (σ 40 0) ∧ ((σ 40 0 ≤ v6 →
      J258 v4 (v5 + 1) σ) ∧
     (¬ σ 40 0 ≤ v6 →
      0 ≤ v6 ∧ v6 < σ 40 0 ∧ 
      0 ≤ σ 41 v6 ∧ σ 41 v6 < σ 70 0 ∧ 
      ∀ y26, y26 = σ 41 v6 →
      ∃ u303, lp_CX_retime_303 Q J258 (lp_CX_retime_277 Q J258 n) u303 v4 v5 v6 y26 σ))
def lp_CX_retime_258 (Q : zS → Prop) : Nat → Int → Int → zS → Prop
  | 0 => fun _ _ _ => False
  | n + 1 => fun v4 v5 σ =>
    zc v4 ∧ ((v4 = 0 →
      Q σ) ∧
     (¬ v4 = 0 →
      zc v5 ∧ ((2304 < v5 →
        Q σ) ∧
       (¬ 2304 < v5 →
        ∃ u277, lp_CX_retime_277 Q (lp_CX_retime_258 Q n) u277 0 v5 0 σ))))
def lp_CX_retime_214 (Q : zS → Prop) : Nat → Int → zS → Prop
  | 0 => fun _ _ => False
  | n + 1 => fun v4 σ =>
    zc v4 ∧ zc (σ 40 0) ∧ ((σ 40 0 ≤ v4 →
      ∃ u258, lp_CX_retime_258 Q u258 1 0 σ) ∧
     (¬ σ 40 0 ≤ v4 →
      0 ≤ v4 ∧ v4 < σ 40 0 ∧ 
      0 ≤ σ 41 v4 ∧ σ 41 v4 < σ 70 0 ∧ 
      ∀ y43, y43 = σ 41 v4 →
      ∀ σ44, σ44 = zup σ 15 y43 0 →
      lp_CX_retime_214 Q n (v4 + 1) σ44))
def bk_CX_retime_202 (Q : zS → Prop) (J153 : Int → Int → zS → Prop) (v3 : Int) (v4 : Int) (z0 : Int) (z1 : Int) (σ : zS) : Prop :=
  0 ≤ z1 ∧ z1 < σ 70 0 ∧ ∀ σ52, σ52 = zup σ 16 z1 z0 →
  J153 v3 (v4 + 1) σ52
def bk_CX_retime_201 (Q : zS → Prop) (J153 : Int → Int → zS → Prop) (v3 : Int) (v4 : Int) (z0 : Int) (σ : zS) : Prop :=
  bk_CX_retime_202 Q J153 v3 v4 0 z0 σ
def lp_CX_retime_153 (Q : zS → Prop) : Nat → Int → Int → zS → Prop
  | 0 => fun _ _ _ => False
  | n + 1 => fun v3 v4 σ =>
    zc v4 ∧ zc (σ 40 0) ∧ ((σ 40 0 ≤ v4 →
      ∃ u214, lp_CX_retime_214 Q u214 0 σ) ∧
     (¬ σ 40 0 ≤ v4 →
      0 ≤ v4 ∧ v4 < σ 40 0 ∧ 
      0 ≤ σ 41 v4 ∧ σ 41 v4 < σ 70 0 ∧ 
      ∀ y50, y50 = σ 41 v4 →
      zc v3 ∧ ((v3 = 0 →
        bk_CX_retime_201 Q (lp_CX_retime_153 Q n) v3 v4 y50 σ) ∧
       (¬ v3 = 0 →
        zc (σ 11 y50) ∧ ((σ 11 y50 = 0 →
          bk_CX_retime_201 Q (lp_CX_retime_153 Q n) v3 v4 y50 σ) ∧
         (¬ σ 11 y50 = 0 →
          bk_CX_retime_202 Q (lp_CX_retime_153 Q n) v3 v4 (σ 15 y50) y50 σ))))))
def lp_CX_retime_108 (Q : zS → Prop) : Nat → Int → Int → zS → Prop
  | 0 => fun _ _ _ => False
  | n + 1 => fun v1 v2 σ =>
    zc v1 ∧ zc v2 ∧ ((v2 ≤ v1 →
      ∀ σ11, σ11 = zup σ 60 0 v1 →
      wp_CX_reachable (fun r13 σ12 =>
        ∃ u153, lp_CX_retime_153 Q u153 r13 0 σ12) v1 σ11) ∧
     (¬ v2 ≤ v1 →
      ∀ y57, y57 = zushr (v1 + v2) 1 →
      wp_CX_reachable (fun r59 σ58 =>
        zc r59 ∧ ((r59 = 0 →
          ∀ y61, y61 = y57 + 1 →
          lp_CX_retime_108 Q n y61 v2 σ58) ∧
         (¬ r59 = 0 →
          lp_CX_retime_108 Q n v1 y57 σ58))) y57 σ))
def bk_CX_retime_101 (Q : zS → Prop) (J53 : Int → Int → Int → zS → Prop) (v2 : Int) (v3 : Int) (z0 : Int) (σ : zS) : Prop :=
  J53 z0 v2 (v3 + 1) σ
def lp_CX_retime_53 (Q : zS → Prop) : Nat → Int → Int → Int → zS → Prop
  | 0 => fun _ _ _ _ => False
  | n + 1 => fun v1 v2 v3 σ =>
    zc v3 ∧ zc (σ 40 0) ∧ ((σ 40 0 ≤ v3 →
      ∃ u108, lp_CX_retime_108 Q u108 v1 v2 σ) ∧
     (¬ σ 40 0 ≤ v3 →
      0 ≤ v3 ∧ v3 < σ 40 0 ∧ 
      0 ≤ σ 41 v3 ∧ σ 41 v3 < σ 70 0 ∧ 
      ∀ y67, y67 = σ 41 v3 →
      zc (σ 11 y67) ∧ ((σ 11 y67 = 0 →
        bk_CX_retime_101 Q (lp_CX_retime_53 Q n) v2 v3 v1 σ) ∧
       (¬ σ 11 y67 = 0 →
        0 ≤ σ 14 y67 ∧ σ 14 y67 < σ 71 0 ∧ 
        zc v1 ∧ zc (σ 23 (σ 14 y67)) ∧ 
        bk_CX_retime_101 Q (lp_CX_retime_53 Q n) v2 v3 (if v1 < σ 23 (σ 14 y67) then σ 23 (σ 14 y67) else v1) σ))))
def lp_CX_retime_2 (Q : zS → Prop) : Nat → Int → zS → Prop
  | 0 => fun _ _ => False
  | n + 1 => fun v1 σ =>
    zc v1 ∧ zc (σ 40 0) ∧ ((σ 40 0 ≤ v1 →
      wp_CX_ways (fun r4 σ3 =>
        ∀ σ5, σ5 = zup σ3 59 0 r4 →
        ∀ y6, y6 = σ5 59 0 →
        ∃ u53, lp_CX_retime_53 Q u53 0 y6 0 σ5) σ) ∧
     (¬ σ 40 0 ≤ v1 →
      0 ≤ v1 ∧ v1 < σ 40 0 ∧ 
      0 ≤ σ 41 v1 ∧ σ 41 v1 < σ 70 0 ∧ 
      ∀ y78, y78 = σ 41 v1 →
      ∀ σ79, σ79 = zup σ 15 y78 0 →
      lp_CX_retime_2 Q n (v1 + 1) σ79))
def wp_CX_retime (Q : zS → Prop) (σ : zS) : Prop :=
  ∃ u2, lp_CX_retime_2 Q u2 0 σ
set_option maxHeartbeats 4000000 in
set_option maxRecDepth 100000 in
theorem wk_CX_retime_303 {E : zE} {D : va_G} {g : zG} {A : Nat → Prop} {ad : zA} {Q : zS → Prop} {J258 : Int → Int → zS → Prop} {J277 : Int → Int → Int → zS → Prop} (C : zX E b_CX_retime R_CX D g { frames := 26, cells := 0, slots := 0, locals := 848 } 8) (R : zRt E none (zQv D g ad Q A) 0 0 A) (S : zSt g A (zst E) (zst E).heap) (hJ258 : ∀ (v4 : Int) (v5 : Int) (σ : zS), J258 v4 v5 σ → zW E (zOK D A (zst E) g ad) 0 0 258 [(0, .ref (ad (0, 0))), (4, .int (zi v4)), (5, .int (zi v5))] [] σ) (hJ277 : ∀ (v4 : Int) (v5 : Int) (v6 : Int) (σ : zS), J277 v4 v5 v6 σ → zW E (zOK D A (zst E) g ad) 0 0 277 [(0, .ref (ad (0, 0))), (4, .int (zi v4)), (5, .int (zi v5)), (6, .int (zi v6))] [] σ) : ∀ (n : Nat) (v4 : Int) (v5 : Int) (v6 : Int) (v7 : Int) (σ : zS), lp_CX_retime_303 Q J258 J277 n v4 v5 v6 v7 σ → zW E (zOK D A (zst E) g ad) 0 0 303 [(0, .ref (ad (0, 0))), (4, .int (zi v4)), (5, .int (zi v5)), (6, .int (zi v6)), (7, zr ad 4 v7)] [] σ := by
  intro n
  induction n with
  | zero =>
    intro v4 v5 v6 v7 σ h
    exact h.elim
  | succ n ih =>
    intro v4 v5 v6 v7 σ h
    refine z_aloadZ C (pc := 303) d_CX_retime_303 4 rfl ?_
    obtain ⟨hc27, hc28, h⟩ := h
    refine x_getN (v := .int (zi (σ 15 v7))) C 15 (by decide) hc27 hc28 rfl wd_199 (pc := 305) d_CX_retime_305 ?_
    refine z_aloadZ C (pc := 308) d_CX_retime_308 4 rfl ?_
    refine x_getN (v := .int (zi (σ 16 v7))) C 16 (by decide) hc27 hc28 rfl wd_200 (pc := 310) d_CX_retime_310 ?_
    obtain ⟨hc29, hc30, h⟩ := h
    refine z_icmp_ge (tgt := 337) C (pc := 313) d_CX_retime_313 (by decide) hc29 hc30 h (fun h => ?_) (fun h => ?_)
    · refine z_iinc (L' := [(6, .int (zi (v6 + 1))), (0, .ref (ad (0, 0))), (4, .int (zi v4)), (5, .int (zi v5)), (7, zr ad 4 v7)]) C (pc := 337) d_CX_retime_337 3 rfl (by decide) rfl ?_
      refine z_goto (tgt := 277) C (pc := 340) d_CX_retime_340 (by decide) ?_
      refine z_sub [1, 2, 3, 0] rfl ?_
      exact hJ277 _ _ _ _ h
    · refine z_aload_n C (pc := 316) d_CX_retime_316 0 rfl ?_
      refine z_aloadZ C (pc := 317) d_CX_retime_317 4 rfl ?_
      refine x_callVi (As := [zr ad 4 v7]) (st := []) C S fy_CX_movable (0, 0) (zids_fix zfix_0) rfl rfl wd_606 (pc := 319) d_CX_retime_319 ⟨rfl, rfl, Nat.le_of_ble_eq_true rfl, Nat.le_of_ble_eq_true rfl⟩ rfl rfl (Nat.le_of_ble_eq_true rfl) h (c_CX_movable (zln E) D g ad _ _ _) (fun r32 σ31 h => ?_)
      obtain ⟨hc33, h⟩ := h
      refine z_if_eq (tgt := 337) C (pc := 322) d_CX_retime_322 (by decide) hc33 h (fun h => ?_) (fun h => ?_)
      · refine z_iinc (L' := [(6, .int (zi (v6 + 1))), (0, .ref (ad (0, 0))), (4, .int (zi v4)), (5, .int (zi v5)), (7, zr ad 4 v7)]) C (pc := 337) d_CX_retime_337 3 rfl (by decide) rfl ?_
        refine z_goto (tgt := 277) C (pc := 340) d_CX_retime_340 (by decide) ?_
        refine z_sub [1, 2, 3, 0] rfl ?_
        exact hJ277 _ _ _ _ h
      · refine z_aload_n C (pc := 325) d_CX_retime_325 0 rfl ?_
        refine z_aloadZ C (pc := 326) d_CX_retime_326 4 rfl ?_
        refine x_callVv (As := [zr ad 4 v7]) (st := []) C S fy_CX_move (0, 0) (zids_fix zfix_0) rfl rfl wd_610 (pc := 328) d_CX_retime_328 ⟨rfl, rfl, Nat.le_of_ble_eq_true rfl, Nat.le_of_ble_eq_true rfl⟩ rfl rfl (Nat.le_of_ble_eq_true rfl) h (c_CX_move (zln E) D g ad _ _ _) (fun σ34 h => ?_)
        refine z_iconst C (pc := 331) d_CX_retime_331 ?_
        refine z_istore (L' := [(4, .int (zi 1)), (0, .ref (ad (0, 0))), (5, .int (zi v5)), (6, .int (zi v6)), (7, zr ad 4 v7)]) C (pc := 332) d_CX_retime_332 (by decide) rfl ?_
        refine z_goto (tgt := 303) C (pc := 334) d_CX_retime_334 (by decide) ?_
        refine z_sub [1, 0, 2, 3, 4] rfl ?_
        exact ih _ _ _ _ _ h
set_option maxHeartbeats 4000000 in
set_option maxRecDepth 100000 in
theorem wk_CX_retime_277 {E : zE} {D : va_G} {g : zG} {A : Nat → Prop} {ad : zA} {Q : zS → Prop} {J258 : Int → Int → zS → Prop} (C : zX E b_CX_retime R_CX D g { frames := 26, cells := 0, slots := 0, locals := 848 } 8) (R : zRt E none (zQv D g ad Q A) 0 0 A) (S : zSt g A (zst E) (zst E).heap) (hJ258 : ∀ (v4 : Int) (v5 : Int) (σ : zS), J258 v4 v5 σ → zW E (zOK D A (zst E) g ad) 0 0 258 [(0, .ref (ad (0, 0))), (4, .int (zi v4)), (5, .int (zi v5))] [] σ) : ∀ (n : Nat) (v4 : Int) (v5 : Int) (v6 : Int) (σ : zS), lp_CX_retime_277 Q J258 n v4 v5 v6 σ → zW E (zOK D A (zst E) g ad) 0 0 277 [(0, .ref (ad (0, 0))), (4, .int (zi v4)), (5, .int (zi v5)), (6, .int (zi v6))] [] σ := by
  intro n
  induction n with
  | zero =>
    intro v4 v5 v6 σ h
    exact h.elim
  | succ n ih =>
    intro v4 v5 v6 σ h
    refine z_iload C (pc := 277) d_CX_retime_277 3 rfl ?_
    refine z_aload_n C (pc := 279) d_CX_retime_279 0 rfl ?_
    refine x_getX (v := .ref (ad (1, 0))) C 1 (by decide) rfl wd_86 (pc := 280) d_CX_retime_280 ?_
    refine x_size (P := True) C S 0 (by decide) wd_146 ⟨Nat.le_of_ble_eq_true rfl, Nat.le_of_ble_eq_true rfl⟩ (Nat.le_of_ble_eq_true rfl) (pc := 283) d_CX_retime_283 ?_
    obtain ⟨hc20, hc21, h⟩ := h
    refine z_icmp_ge (tgt := 343) C (pc := 286) d_CX_retime_286 (by decide) hc20 hc21 h (fun h => ?_) (fun h => ?_)
    · refine z_iinc (L' := [(5, .int (zi (v5 + 1))), (0, .ref (ad (0, 0))), (4, .int (zi v4)), (6, .int (zi v6))]) C (pc := 343) d_CX_retime_343 2 rfl (by decide) rfl ?_
      refine z_goto (tgt := 258) C (pc := 346) d_CX_retime_346 (by decide) ?_
      refine z_sub [1, 2, 0] rfl ?_
      exact hJ258 _ _ _ h
    · refine z_aload_n C (pc := 289) d_CX_retime_289 0 rfl ?_
      refine x_getX (v := .ref (ad (1, 0))) C 1 (by decide) rfl wd_86 (pc := 290) d_CX_retime_290 ?_
      refine z_iload C (pc := 293) d_CX_retime_293 3 rfl ?_
      obtain ⟨hc22, hc23, h⟩ := h
      refine x_lget C S 0 (by decide) hc22 hc23 wd_306 ⟨Nat.le_of_ble_eq_true rfl, Nat.le_of_ble_eq_true rfl⟩ (Nat.le_of_ble_eq_true rfl) (pc := 295) d_CX_retime_295 ?_
      obtain ⟨hc24, hc25, h⟩ := h
      refine x_castN C wd_83 (Or.inr ⟨hc24, hc25⟩) (pc := 298) d_CX_retime_298 ?_
      refine zNz h (fun y26 ey26 h => ?_)
      refine z_astoreZ (L' := [(7, zr ad 4 y26), (0, .ref (ad (0, 0))), (4, .int (zi v4)), (5, .int (zi v5)), (6, .int (zi v6))]) C (pc := 301) d_CX_retime_301 (by decide) rfl ?_
      refine z_sub [1, 2, 3, 4, 0] rfl ?_
      obtain ⟨n36, h⟩ := h
      exact wk_CX_retime_303 C R S hJ258 ih n36 _ _ _ _ _ h
set_option maxHeartbeats 4000000 in
set_option maxRecDepth 100000 in
theorem wk_CX_retime_258 {E : zE} {D : va_G} {g : zG} {A : Nat → Prop} {ad : zA} {Q : zS → Prop} (C : zX E b_CX_retime R_CX D g { frames := 26, cells := 0, slots := 0, locals := 848 } 8) (R : zRt E none (zQv D g ad Q A) 0 0 A) (S : zSt g A (zst E) (zst E).heap) : ∀ (n : Nat) (v4 : Int) (v5 : Int) (σ : zS), lp_CX_retime_258 Q n v4 v5 σ → zW E (zOK D A (zst E) g ad) 0 0 258 [(0, .ref (ad (0, 0))), (4, .int (zi v4)), (5, .int (zi v5))] [] σ := by
  intro n
  induction n with
  | zero =>
    intro v4 v5 σ h
    exact h.elim
  | succ n ih =>
    intro v4 v5 σ h
    refine z_iload C (pc := 258) d_CX_retime_258 1 rfl ?_
    obtain ⟨hc18, h⟩ := h
    refine z_if_eq (tgt := 349) C (pc := 260) d_CX_retime_260 (by decide) hc18 h (fun h => ?_) (fun h => ?_)
    · exact z_vret C R (pc := 349) d_CX_retime_349 h
    · refine z_iload C (pc := 263) d_CX_retime_263 2 rfl ?_
      refine z_sipush C (pc := 265) d_CX_retime_265 (by decide) ?_
      obtain ⟨hc19, h⟩ := h
      refine z_icmp_gt (tgt := 349) C (pc := 268) d_CX_retime_268 (by decide) hc19 (by decide) h (fun h => ?_) (fun h => ?_)
      · exact z_vret C R (pc := 349) d_CX_retime_349 h
      · refine z_iconst C (pc := 271) d_CX_retime_271 ?_
        refine z_istore (L' := [(4, .int (zi 0)), (0, .ref (ad (0, 0))), (5, .int (zi v5))]) C (pc := 272) d_CX_retime_272 (by decide) rfl ?_
        refine z_iconst C (pc := 274) d_CX_retime_274 ?_
        refine z_istore (L' := [(6, .int (zi 0)), (4, .int (zi 0)), (0, .ref (ad (0, 0))), (5, .int (zi v5))]) C (pc := 275) d_CX_retime_275 (by decide) rfl ?_
        refine z_sub [2, 1, 3, 0] rfl ?_
        obtain ⟨n37, h⟩ := h
        exact wk_CX_retime_277 C R S ih n37 _ _ _ _ h
set_option maxHeartbeats 4000000 in
set_option maxRecDepth 100000 in
theorem wk_CX_retime_214 {E : zE} {D : va_G} {g : zG} {A : Nat → Prop} {ad : zA} {Q : zS → Prop} (C : zX E b_CX_retime R_CX D g { frames := 26, cells := 0, slots := 0, locals := 848 } 8) (R : zRt E none (zQv D g ad Q A) 0 0 A) (S : zSt g A (zst E) (zst E).heap) : ∀ (n : Nat) (v4 : Int) (σ : zS), lp_CX_retime_214 Q n v4 σ → zW E (zOK D A (zst E) g ad) 0 0 214 [(0, .ref (ad (0, 0))), (4, .int (zi v4))] [] σ := by
  intro n
  induction n with
  | zero =>
    intro v4 σ h
    exact h.elim
  | succ n ih =>
    intro v4 σ h
    refine z_iload C (pc := 214) d_CX_retime_214 1 rfl ?_
    refine z_aload_n C (pc := 216) d_CX_retime_216 0 rfl ?_
    refine x_getX (v := .ref (ad (1, 0))) C 1 (by decide) rfl wd_86 (pc := 217) d_CX_retime_217 ?_
    refine x_size (P := True) C S 0 (by decide) wd_146 ⟨Nat.le_of_ble_eq_true rfl, Nat.le_of_ble_eq_true rfl⟩ (Nat.le_of_ble_eq_true rfl) (pc := 220) d_CX_retime_220 ?_
    obtain ⟨hc16, hc17, h⟩ := h
    refine z_icmp_ge (tgt := 252) C (pc := 223) d_CX_retime_223 (by decide) hc16 hc17 h (fun h => ?_) (fun h => ?_)
    · refine z_iconst C (pc := 252) d_CX_retime_252 ?_
      refine z_istore (L' := [(4, .int (zi 1)), (0, .ref (ad (0, 0)))]) C (pc := 253) d_CX_retime_253 (by decide) rfl ?_
      refine z_iconst C (pc := 255) d_CX_retime_255 ?_
      refine z_istore (L' := [(5, .int (zi 0)), (4, .int (zi 1)), (0, .ref (ad (0, 0)))]) C (pc := 256) d_CX_retime_256 (by decide) rfl ?_
      refine z_sub [2, 1, 0] rfl ?_
      obtain ⟨n38, h⟩ := h
      exact wk_CX_retime_258 C R S n38 _ _ _ h
    · refine z_aload_n C (pc := 226) d_CX_retime_226 0 rfl ?_
      refine x_getX (v := .ref (ad (1, 0))) C 1 (by decide) rfl wd_86 (pc := 227) d_CX_retime_227 ?_
      refine z_iload C (pc := 230) d_CX_retime_230 1 rfl ?_
      obtain ⟨hc39, hc40, h⟩ := h
      refine x_lget C S 0 (by decide) hc39 hc40 wd_306 ⟨Nat.le_of_ble_eq_true rfl, Nat.le_of_ble_eq_true rfl⟩ (Nat.le_of_ble_eq_true rfl) (pc := 232) d_CX_retime_232 ?_
      obtain ⟨hc41, hc42, h⟩ := h
      refine x_castN C wd_83 (Or.inr ⟨hc41, hc42⟩) (pc := 235) d_CX_retime_235 ?_
      refine zNz h (fun y43 ey43 h => ?_)
      refine z_astoreZ (L' := [(5, zr ad 4 y43), (0, .ref (ad (0, 0))), (4, .int (zi v4))]) C (pc := 238) d_CX_retime_238 (by decide) rfl ?_
      refine z_aloadZ C (pc := 240) d_CX_retime_240 0 rfl ?_
      refine z_iconst C (pc := 242) d_CX_retime_242 ?_
      refine x_putN (v := 0) C 15 (by decide) (by rw [ey43]; exact hc41) (by rw [ey43]; exact hc42) rfl ⟨rfl, rfl⟩ rfl wd_199 (pc := 243) d_CX_retime_243 ?_
      refine zN h (fun σ44 eσ44 h => ?_)
      refine z_iinc (L' := [(4, .int (zi (v4 + 1))), (5, zr ad 4 y43), (0, .ref (ad (0, 0)))]) C (pc := 246) d_CX_retime_246 2 rfl (by decide) rfl ?_
      refine z_goto (tgt := 214) C (pc := 249) d_CX_retime_249 (by decide) ?_
      refine z_sub [2, 0] rfl ?_
      exact ih _ _ h
set_option maxHeartbeats 4000000 in
set_option maxRecDepth 100000 in
theorem wk_CX_retime_202 {E : zE} {D : va_G} {g : zG} {A : Nat → Prop} {ad : zA} {Q : zS → Prop} {J153 : Int → Int → zS → Prop} (C : zX E b_CX_retime R_CX D g { frames := 26, cells := 0, slots := 0, locals := 848 } 8) (R : zRt E none (zQv D g ad Q A) 0 0 A) (S : zSt g A (zst E) (zst E).heap) (hJ153 : ∀ (v3 : Int) (v4 : Int) (σ : zS), J153 v3 v4 σ → zW E (zOK D A (zst E) g ad) 0 0 153 [(0, .ref (ad (0, 0))), (3, .int (zi v3)), (4, .int (zi v4))] [] σ) (v3 : Int) (v4 : Int) (z0 : Int) (z1 : Int) (σ : zS) (h : bk_CX_retime_202 Q J153 v3 v4 z0 z1 σ) : zW E (zOK D A (zst E) g ad) 0 0 202 [(0, .ref (ad (0, 0))), (3, .int (zi v3)), (4, .int (zi v4))] [.int (zi z0), zr ad 4 z1] σ := by
  unfold bk_CX_retime_202 at h
  obtain ⟨hc53, hc54, h⟩ := h
  refine x_putN (v := z0) C 16 (by decide) hc53 hc54 rfl ⟨rfl, rfl⟩ rfl wd_200 (pc := 202) d_CX_retime_202 ?_
  refine zN h (fun σ52 eσ52 h => ?_)
  refine z_iinc (L' := [(4, .int (zi (v4 + 1))), (0, .ref (ad (0, 0))), (3, .int (zi v3))]) C (pc := 205) d_CX_retime_205 2 rfl (by decide) rfl ?_
  refine z_goto (tgt := 153) C (pc := 208) d_CX_retime_208 (by decide) ?_
  refine z_sub [1, 2, 0] rfl ?_
  exact hJ153 _ _ _ h
set_option maxHeartbeats 4000000 in
set_option maxRecDepth 100000 in
theorem wk_CX_retime_201 {E : zE} {D : va_G} {g : zG} {A : Nat → Prop} {ad : zA} {Q : zS → Prop} {J153 : Int → Int → zS → Prop} (C : zX E b_CX_retime R_CX D g { frames := 26, cells := 0, slots := 0, locals := 848 } 8) (R : zRt E none (zQv D g ad Q A) 0 0 A) (S : zSt g A (zst E) (zst E).heap) (hJ153 : ∀ (v3 : Int) (v4 : Int) (σ : zS), J153 v3 v4 σ → zW E (zOK D A (zst E) g ad) 0 0 153 [(0, .ref (ad (0, 0))), (3, .int (zi v3)), (4, .int (zi v4))] [] σ) (v3 : Int) (v4 : Int) (z0 : Int) (σ : zS) (h : bk_CX_retime_201 Q J153 v3 v4 z0 σ) : zW E (zOK D A (zst E) g ad) 0 0 201 [(0, .ref (ad (0, 0))), (3, .int (zi v3)), (4, .int (zi v4))] [zr ad 4 z0] σ := by
  unfold bk_CX_retime_201 at h
  refine z_iconst C (pc := 201) d_CX_retime_201 ?_
  exact wk_CX_retime_202 C R S hJ153 _ _ _ _ _ h
set_option maxHeartbeats 4000000 in
set_option maxRecDepth 100000 in
theorem wk_CX_retime_153 {E : zE} {D : va_G} {g : zG} {A : Nat → Prop} {ad : zA} {Q : zS → Prop} (C : zX E b_CX_retime R_CX D g { frames := 26, cells := 0, slots := 0, locals := 848 } 8) (R : zRt E none (zQv D g ad Q A) 0 0 A) (S : zSt g A (zst E) (zst E).heap) : ∀ (n : Nat) (v3 : Int) (v4 : Int) (σ : zS), lp_CX_retime_153 Q n v3 v4 σ → zW E (zOK D A (zst E) g ad) 0 0 153 [(0, .ref (ad (0, 0))), (3, .int (zi v3)), (4, .int (zi v4))] [] σ := by
  intro n
  induction n with
  | zero =>
    intro v3 v4 σ h
    exact h.elim
  | succ n ih =>
    intro v3 v4 σ h
    refine z_iload C (pc := 153) d_CX_retime_153 2 rfl ?_
    refine z_aload_n C (pc := 155) d_CX_retime_155 0 rfl ?_
    refine x_getX (v := .ref (ad (1, 0))) C 1 (by decide) rfl wd_86 (pc := 156) d_CX_retime_156 ?_
    refine x_size (P := True) C S 0 (by decide) wd_146 ⟨Nat.le_of_ble_eq_true rfl, Nat.le_of_ble_eq_true rfl⟩ (Nat.le_of_ble_eq_true rfl) (pc := 159) d_CX_retime_159 ?_
    obtain ⟨hc14, hc15, h⟩ := h
    refine z_icmp_ge (tgt := 211) C (pc := 162) d_CX_retime_162 (by decide) hc14 hc15 h (fun h => ?_) (fun h => ?_)
    · refine z_iconst C (pc := 211) d_CX_retime_211 ?_
      refine z_istore (L' := [(4, .int (zi 0)), (0, .ref (ad (0, 0))), (3, .int (zi v3))]) C (pc := 212) d_CX_retime_212 (by decide) rfl ?_
      refine z_sub [1, 0] rfl ?_
      obtain ⟨n45, h⟩ := h
      exact wk_CX_retime_214 C R S n45 _ _ h
    · refine z_aload_n C (pc := 165) d_CX_retime_165 0 rfl ?_
      refine x_getX (v := .ref (ad (1, 0))) C 1 (by decide) rfl wd_86 (pc := 166) d_CX_retime_166 ?_
      refine z_iload C (pc := 169) d_CX_retime_169 2 rfl ?_
      obtain ⟨hc46, hc47, h⟩ := h
      refine x_lget C S 0 (by decide) hc46 hc47 wd_306 ⟨Nat.le_of_ble_eq_true rfl, Nat.le_of_ble_eq_true rfl⟩ (Nat.le_of_ble_eq_true rfl) (pc := 171) d_CX_retime_171 ?_
      obtain ⟨hc48, hc49, h⟩ := h
      refine x_castN C wd_83 (Or.inr ⟨hc48, hc49⟩) (pc := 174) d_CX_retime_174 ?_
      refine zNz h (fun y50 ey50 h => ?_)
      refine z_astoreZ (L' := [(5, zr ad 4 y50), (0, .ref (ad (0, 0))), (3, .int (zi v3)), (4, .int (zi v4))]) C (pc := 177) d_CX_retime_177 (by decide) rfl ?_
      refine z_aloadZ C (pc := 179) d_CX_retime_179 0 rfl ?_
      refine z_iload_n C (pc := 181) d_CX_retime_181 2 rfl ?_
      obtain ⟨hc51, h⟩ := h
      refine z_if_eq (tgt := 201) C (pc := 182) d_CX_retime_182 (by decide) hc51 h (fun h => ?_) (fun h => ?_)
      · refine z_sub [1, 2, 3] rfl ?_
        exact wk_CX_retime_201 C R S ih _ _ _ _ h
      · refine z_aloadZ C (pc := 185) d_CX_retime_185 0 rfl ?_
        refine x_getN (v := .int (zi (σ 11 y50))) C 11 (by decide) (by rw [ey50]; exact hc48) (by rw [ey50]; exact hc49) rfl wd_193 (pc := 187) d_CX_retime_187 ?_
        obtain ⟨hc55, h⟩ := h
        refine z_if_eq (tgt := 201) C (pc := 190) d_CX_retime_190 (by decide) hc55 h (fun h => ?_) (fun h => ?_)
        · refine z_sub [1, 2, 3] rfl ?_
          exact wk_CX_retime_201 C R S ih _ _ _ _ h
        · refine z_aloadZ C (pc := 193) d_CX_retime_193 0 rfl ?_
          refine x_getN (v := .int (zi (σ 15 y50))) C 15 (by decide) (by rw [ey50]; exact hc48) (by rw [ey50]; exact hc49) rfl wd_199 (pc := 195) d_CX_retime_195 ?_
          refine z_goto (tgt := 202) C (pc := 198) d_CX_retime_198 (by decide) ?_
          refine z_sub [1, 2, 3] rfl ?_
          exact wk_CX_retime_202 C R S ih _ _ _ _ _ h
set_option maxHeartbeats 4000000 in
set_option maxRecDepth 100000 in
theorem wk_CX_retime_108 {E : zE} {D : va_G} {g : zG} {A : Nat → Prop} {ad : zA} {Q : zS → Prop} (C : zX E b_CX_retime R_CX D g { frames := 26, cells := 0, slots := 0, locals := 848 } 8) (R : zRt E none (zQv D g ad Q A) 0 0 A) (S : zSt g A (zst E) (zst E).heap) : ∀ (n : Nat) (v1 : Int) (v2 : Int) (σ : zS), lp_CX_retime_108 Q n v1 v2 σ → zW E (zOK D A (zst E) g ad) 0 0 108 [(0, .ref (ad (0, 0))), (1, .int (zi v1)), (2, .int (zi v2))] [] σ := by
  intro n
  induction n with
  | zero =>
    intro v1 v2 σ h
    exact h.elim
  | succ n ih =>
    intro v1 v2 σ h
    refine z_iload_n C (pc := 108) d_CX_retime_108 1 rfl ?_
    refine z_iload_n C (pc := 109) d_CX_retime_109 2 rfl ?_
    obtain ⟨hc9, hc10, h⟩ := h
    refine z_icmp_ge (tgt := 139) C (pc := 110) d_CX_retime_110 (by decide) hc9 hc10 h (fun h => ?_) (fun h => ?_)
    · refine z_aload_n C (pc := 139) d_CX_retime_139 0 rfl ?_
      refine z_iload_n C (pc := 140) d_CX_retime_140 1 rfl ?_
      refine x_putX C 17 60 rfl (by decide) ⟨rfl, rfl⟩ rfl wd_102 (pc := 141) d_CX_retime_141 ?_
      refine zN h (fun σ11 eσ11 h => ?_)
      refine z_aload_n C (pc := 144) d_CX_retime_144 0 rfl ?_
      refine z_iload_n C (pc := 145) d_CX_retime_145 1 rfl ?_
      refine x_callVi (As := [.int (zi v1)]) (st := []) C S fy_CX_reachable (0, 0) (zids_fix zfix_0) rfl rfl wd_598 (pc := 146) d_CX_retime_146 ⟨rfl, rfl, Nat.le_of_ble_eq_true rfl, Nat.le_of_ble_eq_true rfl⟩ rfl rfl (Nat.le_of_ble_eq_true rfl) h (c_CX_reachable (zln E) D g ad _ _ _) (fun r13 σ12 h => ?_)
      refine z_istore_n (L' := [(3, .int (zi r13)), (0, .ref (ad (0, 0))), (1, .int (zi v1)), (2, .int (zi v2))]) C (pc := 149) d_CX_retime_149 (by decide) rfl ?_
      refine z_iconst C (pc := 150) d_CX_retime_150 ?_
      refine z_istore (L' := [(4, .int (zi 0)), (3, .int (zi r13)), (0, .ref (ad (0, 0))), (1, .int (zi v1)), (2, .int (zi v2))]) C (pc := 151) d_CX_retime_151 (by decide) rfl ?_
      refine z_sub [2, 1, 0] rfl ?_
      obtain ⟨n56, h⟩ := h
      exact wk_CX_retime_153 C R S n56 _ _ _ h
    · refine z_iload_n C (pc := 113) d_CX_retime_113 1 rfl ?_
      refine z_iload_n C (pc := 114) d_CX_retime_114 2 rfl ?_
      refine z_iadd C (pc := 115) d_CX_retime_115 ?_
      refine z_iconst C (pc := 116) d_CX_retime_116 ?_
      refine z_iushr C (pc := 117) d_CX_retime_117 ?_
      refine zNi h (fun y57 ey57 h => ?_)
      refine z_istore_n (L' := [(3, .int (zi y57)), (0, .ref (ad (0, 0))), (1, .int (zi v1)), (2, .int (zi v2))]) C (pc := 118) d_CX_retime_118 (by decide) rfl ?_
      refine z_aload_n C (pc := 119) d_CX_retime_119 1 rfl ?_
      refine z_iload_n C (pc := 120) d_CX_retime_120 0 rfl ?_
      refine x_callVi (As := [.int (zi y57)]) (st := []) C S fy_CX_reachable (0, 0) (zids_fix zfix_0) rfl rfl wd_598 (pc := 121) d_CX_retime_121 ⟨rfl, rfl, Nat.le_of_ble_eq_true rfl, Nat.le_of_ble_eq_true rfl⟩ rfl rfl (Nat.le_of_ble_eq_true rfl) h (c_CX_reachable (zln E) D g ad _ _ _) (fun r59 σ58 h => ?_)
      obtain ⟨hc60, h⟩ := h
      refine z_if_eq (tgt := 132) C (pc := 124) d_CX_retime_124 (by decide) hc60 h (fun h => ?_) (fun h => ?_)
      · refine z_iload_n C (pc := 132) d_CX_retime_132 0 rfl ?_
        refine z_iconst C (pc := 133) d_CX_retime_133 ?_
        refine z_iadd C (pc := 134) d_CX_retime_134 ?_
        refine zNi h (fun y61 ey61 h => ?_)
        refine z_istore_n (L' := [(1, .int (zi y61)), (3, .int (zi y57)), (0, .ref (ad (0, 0))), (2, .int (zi v2))]) C (pc := 135) d_CX_retime_135 (by decide) rfl ?_
        refine z_goto (tgt := 108) C (pc := 136) d_CX_retime_136 (by decide) ?_
        refine z_sub [2, 0, 3] rfl ?_
        exact ih _ _ _ h
      · refine z_iload_n C (pc := 127) d_CX_retime_127 0 rfl ?_
        refine z_istore_n (L' := [(2, .int (zi y57)), (3, .int (zi y57)), (0, .ref (ad (0, 0))), (1, .int (zi v1))]) C (pc := 128) d_CX_retime_128 (by decide) rfl ?_
        refine z_goto (tgt := 136) C (pc := 129) d_CX_retime_129 (by decide) ?_
        refine z_goto (tgt := 108) C (pc := 136) d_CX_retime_136 (by decide) ?_
        refine z_sub [2, 3, 0] rfl ?_
        exact ih _ _ _ h
set_option maxHeartbeats 4000000 in
set_option maxRecDepth 100000 in
theorem wk_CX_retime_101 {E : zE} {D : va_G} {g : zG} {A : Nat → Prop} {ad : zA} {Q : zS → Prop} {J53 : Int → Int → Int → zS → Prop} (C : zX E b_CX_retime R_CX D g { frames := 26, cells := 0, slots := 0, locals := 848 } 8) (R : zRt E none (zQv D g ad Q A) 0 0 A) (S : zSt g A (zst E) (zst E).heap) (hJ53 : ∀ (v1 : Int) (v2 : Int) (v3 : Int) (σ : zS), J53 v1 v2 v3 σ → zW E (zOK D A (zst E) g ad) 0 0 53 [(0, .ref (ad (0, 0))), (1, .int (zi v1)), (2, .int (zi v2)), (3, .int (zi v3))] [] σ) (v2 : Int) (v3 : Int) (z0 : Int) (σ : zS) (h : bk_CX_retime_101 Q J53 v2 v3 z0 σ) : zW E (zOK D A (zst E) g ad) 0 0 101 [(0, .ref (ad (0, 0))), (2, .int (zi v2)), (3, .int (zi v3))] [.int (zi z0)] σ := by
  unfold bk_CX_retime_101 at h
  refine z_istore_n (L' := [(1, .int (zi z0)), (0, .ref (ad (0, 0))), (2, .int (zi v2)), (3, .int (zi v3))]) C (pc := 101) d_CX_retime_101 (by decide) rfl ?_
  refine z_iinc (L' := [(3, .int (zi (v3 + 1))), (1, .int (zi z0)), (0, .ref (ad (0, 0))), (2, .int (zi v2))]) C (pc := 102) d_CX_retime_102 3 rfl (by decide) rfl ?_
  refine z_goto (tgt := 53) C (pc := 105) d_CX_retime_105 (by decide) ?_
  refine z_sub [2, 1, 3, 0] rfl ?_
  exact hJ53 _ _ _ _ h
set_option maxHeartbeats 4000000 in
set_option maxRecDepth 100000 in
theorem wk_CX_retime_53 {E : zE} {D : va_G} {g : zG} {A : Nat → Prop} {ad : zA} {Q : zS → Prop} (C : zX E b_CX_retime R_CX D g { frames := 26, cells := 0, slots := 0, locals := 848 } 8) (R : zRt E none (zQv D g ad Q A) 0 0 A) (S : zSt g A (zst E) (zst E).heap) : ∀ (n : Nat) (v1 : Int) (v2 : Int) (v3 : Int) (σ : zS), lp_CX_retime_53 Q n v1 v2 v3 σ → zW E (zOK D A (zst E) g ad) 0 0 53 [(0, .ref (ad (0, 0))), (1, .int (zi v1)), (2, .int (zi v2)), (3, .int (zi v3))] [] σ := by
  intro n
  induction n with
  | zero =>
    intro v1 v2 v3 σ h
    exact h.elim
  | succ n ih =>
    intro v1 v2 v3 σ h
    refine z_iload_n C (pc := 53) d_CX_retime_53 3 rfl ?_
    refine z_aload_n C (pc := 54) d_CX_retime_54 0 rfl ?_
    refine x_getX (v := .ref (ad (1, 0))) C 1 (by decide) rfl wd_86 (pc := 55) d_CX_retime_55 ?_
    refine x_size (P := True) C S 0 (by decide) wd_146 ⟨Nat.le_of_ble_eq_true rfl, Nat.le_of_ble_eq_true rfl⟩ (Nat.le_of_ble_eq_true rfl) (pc := 58) d_CX_retime_58 ?_
    obtain ⟨hc7, hc8, h⟩ := h
    refine z_icmp_ge (tgt := 108) C (pc := 61) d_CX_retime_61 (by decide) hc7 hc8 h (fun h => ?_) (fun h => ?_)
    · refine z_sub [0, 1, 2] rfl ?_
      obtain ⟨n62, h⟩ := h
      exact wk_CX_retime_108 C R S n62 _ _ _ h
    · refine z_aload_n C (pc := 64) d_CX_retime_64 0 rfl ?_
      refine x_getX (v := .ref (ad (1, 0))) C 1 (by decide) rfl wd_86 (pc := 65) d_CX_retime_65 ?_
      refine z_iload_n C (pc := 68) d_CX_retime_68 3 rfl ?_
      obtain ⟨hc63, hc64, h⟩ := h
      refine x_lget C S 0 (by decide) hc63 hc64 wd_306 ⟨Nat.le_of_ble_eq_true rfl, Nat.le_of_ble_eq_true rfl⟩ (Nat.le_of_ble_eq_true rfl) (pc := 69) d_CX_retime_69 ?_
      obtain ⟨hc65, hc66, h⟩ := h
      refine x_castN C wd_83 (Or.inr ⟨hc65, hc66⟩) (pc := 72) d_CX_retime_72 ?_
      refine zNz h (fun y67 ey67 h => ?_)
      refine z_astoreZ (L' := [(4, zr ad 4 y67), (0, .ref (ad (0, 0))), (1, .int (zi v1)), (2, .int (zi v2)), (3, .int (zi v3))]) C (pc := 75) d_CX_retime_75 (by decide) rfl ?_
      refine z_aloadZ C (pc := 77) d_CX_retime_77 0 rfl ?_
      refine x_getN (v := .int (zi (σ 11 y67))) C 11 (by decide) (by rw [ey67]; exact hc65) (by rw [ey67]; exact hc66) rfl wd_193 (pc := 79) d_CX_retime_79 ?_
      obtain ⟨hc68, h⟩ := h
      refine z_if_eq (tgt := 100) C (pc := 82) d_CX_retime_82 (by decide) hc68 h (fun h => ?_) (fun h => ?_)
      · refine z_iload_n C (pc := 100) d_CX_retime_100 2 rfl ?_
        refine z_sub [1, 3, 4] rfl ?_
        exact wk_CX_retime_101 C R S ih _ _ _ _ h
      · refine z_iload_n C (pc := 85) d_CX_retime_85 2 rfl ?_
        refine z_aloadZ C (pc := 86) d_CX_retime_86 0 rfl ?_
        refine x_getN (v := zr ad 5 (σ 14 y67)) C 14 (by decide) (by rw [ey67]; exact hc65) (by rw [ey67]; exact hc66) rfl wd_198 (pc := 88) d_CX_retime_88 ?_
        obtain ⟨hc69, hc70, h⟩ := h
        refine x_getC (v := .int (zi (σ 23 (σ 14 y67)))) C 3 (by decide) hc69 hc70 rfl wd_435 (pc := 91) d_CX_retime_91 ?_
        obtain ⟨hc71, hc72, h⟩ := h
        refine x_mmax C wd_597 ⟨Nat.le_of_ble_eq_true rfl, Nat.le_of_ble_eq_true rfl, Nat.zero_le _, Nat.zero_le _⟩ hc71 hc72 (Nat.le_of_ble_eq_true rfl) (pc := 94) d_CX_retime_94 ?_
        refine z_goto (tgt := 101) C (pc := 97) d_CX_retime_97 (by decide) ?_
        refine z_sub [1, 3, 4] rfl ?_
        exact wk_CX_retime_101 C R S ih _ _ _ _ h
set_option maxHeartbeats 4000000 in
set_option maxRecDepth 100000 in
theorem wk_CX_retime_2 {E : zE} {D : va_G} {g : zG} {A : Nat → Prop} {ad : zA} {Q : zS → Prop} (C : zX E b_CX_retime R_CX D g { frames := 26, cells := 0, slots := 0, locals := 848 } 8) (R : zRt E none (zQv D g ad Q A) 0 0 A) (S : zSt g A (zst E) (zst E).heap) : ∀ (n : Nat) (v1 : Int) (σ : zS), lp_CX_retime_2 Q n v1 σ → zW E (zOK D A (zst E) g ad) 0 0 2 [(0, .ref (ad (0, 0))), (1, .int (zi v1))] [] σ := by
  intro n
  induction n with
  | zero =>
    intro v1 σ h
    exact h.elim
  | succ n ih =>
    intro v1 σ h
    refine z_iload_n C (pc := 2) d_CX_retime_2 1 rfl ?_
    refine z_aload_n C (pc := 3) d_CX_retime_3 0 rfl ?_
    refine x_getX (v := .ref (ad (1, 0))) C 1 (by decide) rfl wd_86 (pc := 4) d_CX_retime_4 ?_
    refine x_size (P := True) C S 0 (by decide) wd_146 ⟨Nat.le_of_ble_eq_true rfl, Nat.le_of_ble_eq_true rfl⟩ (Nat.le_of_ble_eq_true rfl) (pc := 7) d_CX_retime_7 ?_
    obtain ⟨hc1, hc2, h⟩ := h
    refine z_icmp_ge (tgt := 36) C (pc := 10) d_CX_retime_10 (by decide) hc1 hc2 h (fun h => ?_) (fun h => ?_)
    · refine z_aload_n C (pc := 36) d_CX_retime_36 0 rfl ?_
      refine z_aload_n C (pc := 37) d_CX_retime_37 0 rfl ?_
      refine x_callVi (As := []) (st := [.ref (ad (0, 0))]) C S fy_CX_ways (0, 0) (zids_fix zfix_0) rfl rfl wd_585 (pc := 38) d_CX_retime_38 ⟨rfl, rfl, Nat.le_of_ble_eq_true rfl, Nat.le_of_ble_eq_true rfl⟩ rfl rfl (Nat.le_of_ble_eq_true rfl) h (c_CX_ways (zln E) D g ad _ _) (fun r4 σ3 h => ?_)
      refine x_putX C 16 59 rfl (by decide) ⟨rfl, rfl⟩ rfl wd_101 (pc := 41) d_CX_retime_41 ?_
      refine zN h (fun σ5 eσ5 h => ?_)
      refine z_iconst C (pc := 44) d_CX_retime_44 ?_
      refine z_istore_n (L' := [(1, .int (zi 0)), (0, .ref (ad (0, 0)))]) C (pc := 45) d_CX_retime_45 (by decide) rfl ?_
      refine z_aload_n C (pc := 46) d_CX_retime_46 1 rfl ?_
      refine x_getX (v := .int (zi (σ5 59 0))) C 16 (by decide) rfl wd_101 (pc := 47) d_CX_retime_47 ?_
      refine zNi h (fun y6 ey6 h => ?_)
      refine z_istore_n (L' := [(2, .int (zi y6)), (1, .int (zi 0)), (0, .ref (ad (0, 0)))]) C (pc := 50) d_CX_retime_50 (by decide) rfl ?_
      refine z_iconst C (pc := 51) d_CX_retime_51 ?_
      refine z_istore_n (L' := [(3, .int (zi 0)), (2, .int (zi y6)), (1, .int (zi 0)), (0, .ref (ad (0, 0)))]) C (pc := 52) d_CX_retime_52 (by decide) rfl ?_
      refine z_sub [3, 2, 1, 0] rfl ?_
      obtain ⟨n73, h⟩ := h
      exact wk_CX_retime_53 C R S n73 _ _ _ _ h
    · refine z_aload_n C (pc := 13) d_CX_retime_13 0 rfl ?_
      refine x_getX (v := .ref (ad (1, 0))) C 1 (by decide) rfl wd_86 (pc := 14) d_CX_retime_14 ?_
      refine z_iload_n C (pc := 17) d_CX_retime_17 1 rfl ?_
      obtain ⟨hc74, hc75, h⟩ := h
      refine x_lget C S 0 (by decide) hc74 hc75 wd_306 ⟨Nat.le_of_ble_eq_true rfl, Nat.le_of_ble_eq_true rfl⟩ (Nat.le_of_ble_eq_true rfl) (pc := 18) d_CX_retime_18 ?_
      obtain ⟨hc76, hc77, h⟩ := h
      refine x_castN C wd_83 (Or.inr ⟨hc76, hc77⟩) (pc := 21) d_CX_retime_21 ?_
      refine zNz h (fun y78 ey78 h => ?_)
      refine z_astoreZ_n (L' := [(2, zr ad 4 y78), (0, .ref (ad (0, 0))), (1, .int (zi v1))]) C (pc := 24) d_CX_retime_24 (by decide) rfl ?_
      refine z_aloadZ_n C (pc := 25) d_CX_retime_25 0 rfl ?_
      refine z_iconst C (pc := 26) d_CX_retime_26 ?_
      refine x_putN (v := 0) C 15 (by decide) (by rw [ey78]; exact hc76) (by rw [ey78]; exact hc77) rfl ⟨rfl, rfl⟩ rfl wd_199 (pc := 27) d_CX_retime_27 ?_
      refine zN h (fun σ79 eσ79 h => ?_)
      refine z_iinc (L' := [(1, .int (zi (v1 + 1))), (2, zr ad 4 y78), (0, .ref (ad (0, 0)))]) C (pc := 30) d_CX_retime_30 2 rfl (by decide) rfl ?_
      refine z_goto (tgt := 2) C (pc := 33) d_CX_retime_33 (by decide) ?_
      refine z_sub [2, 0] rfl ?_
      exact ih _ _ h
set_option maxHeartbeats 4000000 in
set_option maxRecDepth 100000 in
theorem c_CX_retime (l : Launch) (D : va_G) (g : zG) (ad : zA) (Q : zS → Prop) (σ : zS) (h : wp_CX_retime Q σ) : zGv l y_CX_retime b_CX_retime 8 none { frames := 26, cells := 0, slots := 0, locals := 848 } D g ad σ [.ref (ad (0, 0))] Q := by
  unfold wp_CX_retime at h
  refine zN_of (by decide) (Nat.le_of_ble_eq_true rfl) (fun E C R S => ?_)
  have C : zX E b_CX_retime R_CX D g { frames := 26, cells := 0, slots := 0, locals := 848 } 8 := C
  refine z_sub (L' := [(0, .ref (ad (0, 0)))]) [0] rfl ?_
  refine z_iconst C (pc := 0) d_CX_retime_0 ?_
  refine z_istore_n (L' := [(1, .int (zi 0)), (0, .ref (ad (0, 0)))]) C (pc := 1) d_CX_retime_1 (by decide) rfl ?_
  refine z_sub [1, 0] rfl ?_
  obtain ⟨n80, h⟩ := h
  exact wk_CX_retime_2 C R S n80 _ _ h
theorem d_CX_map_0 : decode b_CX_map 0 = .ok (.aload_n 0, 1) := by decide +kernel
theorem d_CX_map_1 : decode b_CX_map 1 = .ok (.invokevirtual 302, 3) := by decide +kernel
theorem d_CX_map_4 : decode b_CX_map 4 = .ok (.ifCond .eq 6, 3) := by decide +kernel
theorem d_CX_map_7 : decode b_CX_map 7 = .ok (.bipush (-3), 2) := by decide +kernel
theorem d_CX_map_9 : decode b_CX_map 9 = .ok (.ireturn, 1) := by decide +kernel
theorem d_CX_map_10 : decode b_CX_map 10 = .ok (.aload_n 0, 1) := by decide +kernel
theorem d_CX_map_11 : decode b_CX_map 11 = .ok (.invokevirtual 305, 3) := by decide +kernel
theorem d_CX_map_14 : decode b_CX_map 14 = .ok (.ifCond .eq 6, 3) := by decide +kernel
theorem d_CX_map_17 : decode b_CX_map 17 = .ok (.bipush (-4), 2) := by decide +kernel
theorem d_CX_map_19 : decode b_CX_map 19 = .ok (.ireturn, 1) := by decide +kernel
theorem d_CX_map_20 : decode b_CX_map 20 = .ok (.aload_n 0, 1) := by decide +kernel
theorem d_CX_map_21 : decode b_CX_map 21 = .ok (.bipush 6, 2) := by decide +kernel
theorem d_CX_map_23 : decode b_CX_map 23 = .ok (.invokevirtual 308, 3) := by decide +kernel
theorem d_CX_map_26 : decode b_CX_map 26 = .ok (.ifCond .eq 12, 3) := by decide +kernel
theorem d_CX_map_29 : decode b_CX_map 29 = .ok (.aload_n 0, 1) := by decide +kernel
theorem d_CX_map_30 : decode b_CX_map 30 = .ok (.bipush 23, 2) := by decide +kernel
theorem d_CX_map_32 : decode b_CX_map 32 = .ok (.invokevirtual 308, 3) := by decide +kernel
theorem d_CX_map_35 : decode b_CX_map 35 = .ok (.ifCond .ne 6, 3) := by decide +kernel
theorem d_CX_map_38 : decode b_CX_map 38 = .ok (.bipush (-5), 2) := by decide +kernel
theorem d_CX_map_40 : decode b_CX_map 40 = .ok (.ireturn, 1) := by decide +kernel
theorem d_CX_map_41 : decode b_CX_map 41 = .ok (.aload_n 0, 1) := by decide +kernel
theorem d_CX_map_42 : decode b_CX_map 42 = .ok (.invokevirtual 311, 3) := by decide +kernel
theorem d_CX_map_45 : decode b_CX_map 45 = .ok (.aload_n 0, 1) := by decide +kernel
theorem d_CX_map_46 : decode b_CX_map 46 = .ok (.invokevirtual 314, 3) := by decide +kernel
theorem d_CX_map_49 : decode b_CX_map 49 = .ok (.aload_n 0, 1) := by decide +kernel
theorem d_CX_map_50 : decode b_CX_map 50 = .ok (.invokevirtual 317, 3) := by decide +kernel
theorem d_CX_map_53 : decode b_CX_map 53 = .ok (.aload_n 0, 1) := by decide +kernel
theorem d_CX_map_54 : decode b_CX_map 54 = .ok (.iconst 1, 1) := by decide +kernel
theorem d_CX_map_55 : decode b_CX_map 55 = .ok (.putfield 109, 3) := by decide +kernel
theorem d_CX_map_58 : decode b_CX_map 58 = .ok (.aload_n 0, 1) := by decide +kernel
theorem d_CX_map_59 : decode b_CX_map 59 = .ok (.invokevirtual 320, 3) := by decide +kernel
theorem d_CX_map_62 : decode b_CX_map 62 = .ok (.aload_n 0, 1) := by decide +kernel
theorem d_CX_map_63 : decode b_CX_map 63 = .ok (.getfield 240, 3) := by decide +kernel
theorem d_CX_map_66 : decode b_CX_map 66 = .ok (.ireturn, 1) := by decide +kernel
def wp_CX_map (Q : Int → zS → Prop) (σ : zS) : Prop :=
  wp_CX_undriven (fun r2 σ1 =>
    zc r2 ∧ ((r2 = 0 →
      wp_CX_ring (fun r5 σ4 =>
        zc r5 ∧ ((r5 = 0 →
          wp_CX_provided (fun r8 σ7 =>
            zc r8 ∧ ((r8 = 0 →
              Q (-5) σ7) ∧
             (¬ r8 = 0 →
              wp_CX_provided (fun r11 σ10 =>
                zc r11 ∧ ((r11 = 0 →
                  Q (-5) σ10) ∧
                 (¬ r11 = 0 →
                  wp_CX_cover (fun σ13 =>
                    wp_CX_connect (fun σ15 =>
                      wp_CX_retime (fun σ17 =>
                        ∀ σ19, σ19 = zup σ17 56 0 1 →
                        wp_CX_restart (fun σ20 =>
                          Q (σ20 57 0) σ20) σ19) σ15) σ13) σ10))) 23 σ7))) 6 σ4) ∧
         (¬ r5 = 0 →
          Q (-4) σ4))) σ1) ∧
     (¬ r2 = 0 →
      Q (-3) σ1))) σ
set_option maxHeartbeats 4000000 in
set_option maxRecDepth 100000 in
theorem c_CX_map (l : Launch) (D : va_G) (g : zG) (ad : zA) (Q : Int → zS → Prop) (σ : zS) (h : wp_CX_map Q σ) : zGi l y_CX_map b_CX_map 1 (some .int) { frames := 27, cells := 0, slots := 0, locals := 875 } D g ad σ [.ref (ad (0, 0))] Q := by
  unfold wp_CX_map at h
  refine zN_of (by decide) (Nat.le_of_ble_eq_true rfl) (fun E C R S => ?_)
  have C : zX E b_CX_map R_CX D g { frames := 27, cells := 0, slots := 0, locals := 875 } 1 := C
  refine z_sub (L' := [(0, .ref (ad (0, 0)))]) [0] rfl ?_
  refine z_aload_n C (pc := 0) d_CX_map_0 0 rfl ?_
  refine x_callVi (As := []) (st := []) C S fy_CX_undriven (0, 0) (zids_fix zfix_0) rfl rfl wd_469 (pc := 1) d_CX_map_1 ⟨rfl, rfl, Nat.le_of_ble_eq_true rfl, Nat.le_of_ble_eq_true rfl⟩ rfl rfl (Nat.le_of_ble_eq_true rfl) h (c_CX_undriven (zln E) D g ad _ _) (fun r2 σ1 h => ?_)
  obtain ⟨hc3, h⟩ := h
  refine z_if_eq (tgt := 10) C (pc := 4) d_CX_map_4 (by decide) hc3 h (fun h => ?_) (fun h => ?_)
  · refine z_aload_n C (pc := 10) d_CX_map_10 0 rfl ?_
    refine x_callVi (As := []) (st := []) C S fy_CX_ring (0, 0) (zids_fix zfix_0) rfl rfl wd_473 (pc := 11) d_CX_map_11 ⟨rfl, rfl, Nat.le_of_ble_eq_true rfl, Nat.le_of_ble_eq_true rfl⟩ rfl rfl (Nat.le_of_ble_eq_true rfl) h (c_CX_ring (zln E) D g ad _ _) (fun r5 σ4 h => ?_)
    obtain ⟨hc6, h⟩ := h
    refine z_if_eq (tgt := 20) C (pc := 14) d_CX_map_14 (by decide) hc6 h (fun h => ?_) (fun h => ?_)
    · refine z_aload_n C (pc := 20) d_CX_map_20 0 rfl ?_
      refine z_bipush C (pc := 21) d_CX_map_21 (by decide) ?_
      refine x_callVi (As := [.int (zi 6)]) (st := []) C S fy_CX_provided (0, 0) (zids_fix zfix_0) rfl rfl wd_477 (pc := 23) d_CX_map_23 ⟨rfl, rfl, Nat.le_of_ble_eq_true rfl, Nat.le_of_ble_eq_true rfl⟩ rfl rfl (Nat.le_of_ble_eq_true rfl) h (c_CX_provided (zln E) D g ad _ _ _) (fun r8 σ7 h => ?_)
      obtain ⟨hc9, h⟩ := h
      refine z_if_eq (tgt := 38) C (pc := 26) d_CX_map_26 (by decide) hc9 h (fun h => ?_) (fun h => ?_)
      · refine z_bipush C (pc := 38) d_CX_map_38 (by decide) ?_
        exact z_iret C R (pc := 40) d_CX_map_40 h
      · refine z_aload_n C (pc := 29) d_CX_map_29 0 rfl ?_
        refine z_bipush C (pc := 30) d_CX_map_30 (by decide) ?_
        refine x_callVi (As := [.int (zi 23)]) (st := []) C S fy_CX_provided (0, 0) (zids_fix zfix_0) rfl rfl wd_477 (pc := 32) d_CX_map_32 ⟨rfl, rfl, Nat.le_of_ble_eq_true rfl, Nat.le_of_ble_eq_true rfl⟩ rfl rfl (Nat.le_of_ble_eq_true rfl) h (c_CX_provided (zln E) D g ad _ _ _) (fun r11 σ10 h => ?_)
        obtain ⟨hc12, h⟩ := h
        refine z_if_ne (tgt := 41) C (pc := 35) d_CX_map_35 (by decide) hc12 h (fun h => ?_) (fun h => ?_)
        · refine z_aload_n C (pc := 41) d_CX_map_41 0 rfl ?_
          refine x_callVv (As := []) (st := []) C S fy_CX_cover (0, 0) (zids_fix zfix_0) rfl rfl wd_481 (pc := 42) d_CX_map_42 ⟨rfl, rfl, Nat.le_of_ble_eq_true rfl, Nat.le_of_ble_eq_true rfl⟩ rfl rfl (Nat.le_of_ble_eq_true rfl) h (c_CX_cover (zln E) D g ad _ _) (fun σ13 h => ?_)
          refine z_aload_n C (pc := 45) d_CX_map_45 0 rfl ?_
          refine x_callVv (As := []) (st := []) C S fy_CX_connect (0, 0) (zids_fix zfix_0) rfl rfl wd_548 (pc := 46) d_CX_map_46 ⟨rfl, rfl, Nat.le_of_ble_eq_true rfl, Nat.le_of_ble_eq_true rfl⟩ rfl rfl (Nat.le_of_ble_eq_true rfl) h (c_CX_connect (zln E) D g ad _ _) (fun σ15 h => ?_)
          refine z_aload_n C (pc := 49) d_CX_map_49 0 rfl ?_
          refine x_callVv (As := []) (st := []) C S fy_CX_retime (0, 0) (zids_fix zfix_0) rfl rfl wd_581 (pc := 50) d_CX_map_50 ⟨rfl, rfl, Nat.le_of_ble_eq_true rfl, Nat.le_of_ble_eq_true rfl⟩ rfl rfl (Nat.le_of_ble_eq_true rfl) h (c_CX_retime (zln E) D g ad _ _) (fun σ17 h => ?_)
          refine z_aload_n C (pc := 53) d_CX_map_53 0 rfl ?_
          refine z_iconst C (pc := 54) d_CX_map_54 ?_
          refine x_putX C 8 56 rfl (by decide) (z_bool rfl (by decide)) rfl wd_93 (pc := 55) d_CX_map_55 ?_
          refine zN h (fun σ19 eσ19 h => ?_)
          refine z_aload_n C (pc := 58) d_CX_map_58 0 rfl ?_
          refine x_callVv (As := []) (st := []) C S fy_CX_restart (0, 0) (zids_fix zfix_0) rfl rfl wd_637 (pc := 59) d_CX_map_59 ⟨rfl, rfl, Nat.le_of_ble_eq_true rfl, Nat.le_of_ble_eq_true rfl⟩ rfl rfl (Nat.le_of_ble_eq_true rfl) h (c_CX_restart (zln E) D g ad _ _) (fun σ20 h => ?_)
          refine z_aload_n C (pc := 62) d_CX_map_62 0 rfl ?_
          refine x_getX (v := .int (zi (σ20 57 0))) C 14 (by decide) rfl wd_99 (pc := 63) d_CX_map_63 ?_
          exact z_iret C R (pc := 66) d_CX_map_66 h
        · refine z_bipush C (pc := 38) d_CX_map_38 (by decide) ?_
          exact z_iret C R (pc := 40) d_CX_map_40 h
    · refine z_bipush C (pc := 17) d_CX_map_17 (by decide) ?_
      exact z_iret C R (pc := 19) d_CX_map_19 h
  · refine z_bipush C (pc := 7) d_CX_map_7 (by decide) ?_
    exact z_iret C R (pc := 9) d_CX_map_9 h
