def wp_CX_parse9 (_ : Int → zS → Prop) (_ : Int) (_ : zS) : Prop := False
theorem c_CX_parse9 (l : Launch) (D : va_G) (g : zG) (ad : zA) (v1 : Int) (Q : Int → zS → Prop) (σ : zS) (h : wp_CX_parse9 Q v1 σ) (sz : Nat) : zHr 6 l y_CX_parse b_CX_parse 4 (some (.object "CellMapper$Pattern")) { frames := 1, cells := 0, slots := 0, locals := 1 } D g ad σ [.ref (ad (0, 2)), .int (zi v1)] Q sz 0 0 := h.elim
theorem d_CX_parse8_0 : decode b_CX_parse 0 = .ok (.iload_n 1, 1) := by decide +kernel
theorem d_CX_parse8_1 : decode b_CX_parse 1 = .ok (.bipush 7, 2) := by decide +kernel
theorem d_CX_parse8_3 : decode b_CX_parse 3 = .ok (.if_icmp .le 5, 3) := by decide +kernel
theorem d_CX_parse8_6 : decode b_CX_parse 6 = .ok (.aconst_null, 1) := by decide +kernel
theorem d_CX_parse8_7 : decode b_CX_parse 7 = .ok (.areturn, 1) := by decide +kernel
theorem d_CX_parse8_8 : decode b_CX_parse 8 = .ok (.aload_n 0, 1) := by decide +kernel
theorem d_CX_parse8_9 : decode b_CX_parse 9 = .ok (.invokevirtual 1, 3) := by decide +kernel
theorem d_CX_parse8_12 : decode b_CX_parse 12 = .ok (.tableswitch 119 1 3 #[28, 52, 77], 28) := by decide +kernel
theorem d_CX_parse8_40 : decode b_CX_parse 40 = .ok (.new 7, 3) := by decide +kernel
theorem d_CX_parse8_43 : decode b_CX_parse 43 = .ok (.dup, 1) := by decide +kernel
theorem d_CX_parse8_44 : decode b_CX_parse 44 = .ok (.aload_n 0, 1) := by decide +kernel
theorem d_CX_parse8_45 : decode b_CX_parse 45 = .ok (.getfield 9, 3) := by decide +kernel
theorem d_CX_parse8_48 : decode b_CX_parse 48 = .ok (.invokespecial 13, 3) := by decide +kernel
theorem d_CX_parse8_51 : decode b_CX_parse 51 = .ok (.astore_n 2, 1) := by decide +kernel
theorem d_CX_parse8_52 : decode b_CX_parse 52 = .ok (.aload_n 0, 1) := by decide +kernel
theorem d_CX_parse8_53 : decode b_CX_parse 53 = .ok (.dup, 1) := by decide +kernel
theorem d_CX_parse8_54 : decode b_CX_parse 54 = .ok (.getfield 9, 3) := by decide +kernel
theorem d_CX_parse8_57 : decode b_CX_parse 57 = .ok (.iconst 1, 1) := by decide +kernel
theorem d_CX_parse8_58 : decode b_CX_parse 58 = .ok (.iadd, 1) := by decide +kernel
theorem d_CX_parse8_59 : decode b_CX_parse 59 = .ok (.putfield 9, 3) := by decide +kernel
theorem d_CX_parse8_62 : decode b_CX_parse 62 = .ok (.aload_n 2, 1) := by decide +kernel
theorem d_CX_parse8_63 : decode b_CX_parse 63 = .ok (.areturn, 1) := by decide +kernel
theorem d_CX_parse8_64 : decode b_CX_parse 64 = .ok (.aload_n 0, 1) := by decide +kernel
theorem d_CX_parse8_65 : decode b_CX_parse 65 = .ok (.iload_n 1, 1) := by decide +kernel
theorem d_CX_parse8_66 : decode b_CX_parse 66 = .ok (.iconst 1, 1) := by decide +kernel
theorem d_CX_parse8_67 : decode b_CX_parse 67 = .ok (.iadd, 1) := by decide +kernel
theorem d_CX_parse8_68 : decode b_CX_parse 68 = .ok (.invokestatic 17, 3) := by decide +kernel
theorem d_CX_parse8_71 : decode b_CX_parse 71 = .ok (.astore_n 2, 1) := by decide +kernel
theorem d_CX_parse8_72 : decode b_CX_parse 72 = .ok (.aload_n 2, 1) := by decide +kernel
theorem d_CX_parse8_73 : decode b_CX_parse 73 = .ok (.ifnonnull 7, 3) := by decide +kernel
theorem d_CX_parse8_76 : decode b_CX_parse 76 = .ok (.aconst_null, 1) := by decide +kernel
theorem d_CX_parse8_77 : decode b_CX_parse 77 = .ok (.goto 11, 3) := by decide +kernel
theorem d_CX_parse8_80 : decode b_CX_parse 80 = .ok (.new 23, 3) := by decide +kernel
theorem d_CX_parse8_83 : decode b_CX_parse 83 = .ok (.dup, 1) := by decide +kernel
theorem d_CX_parse8_84 : decode b_CX_parse 84 = .ok (.aload_n 2, 1) := by decide +kernel
theorem d_CX_parse8_85 : decode b_CX_parse 85 = .ok (.invokespecial 25, 3) := by decide +kernel
theorem d_CX_parse8_88 : decode b_CX_parse 88 = .ok (.areturn, 1) := by decide +kernel
theorem d_CX_parse8_89 : decode b_CX_parse 89 = .ok (.aload_n 0, 1) := by decide +kernel
theorem d_CX_parse8_90 : decode b_CX_parse 90 = .ok (.iload_n 1, 1) := by decide +kernel
theorem d_CX_parse8_91 : decode b_CX_parse 91 = .ok (.iconst 1, 1) := by decide +kernel
theorem d_CX_parse8_92 : decode b_CX_parse 92 = .ok (.iadd, 1) := by decide +kernel
theorem d_CX_parse8_93 : decode b_CX_parse 93 = .ok (.invokestatic 17, 3) := by decide +kernel
theorem d_CX_parse8_96 : decode b_CX_parse 96 = .ok (.astore_n 2, 1) := by decide +kernel
theorem d_CX_parse8_97 : decode b_CX_parse 97 = .ok (.aload_n 2, 1) := by decide +kernel
theorem d_CX_parse8_98 : decode b_CX_parse 98 = .ok (.ifnonnull 7, 3) := by decide +kernel
theorem d_CX_parse8_101 : decode b_CX_parse 101 = .ok (.aconst_null, 1) := by decide +kernel
theorem d_CX_parse8_102 : decode b_CX_parse 102 = .ok (.goto 10, 3) := by decide +kernel
theorem d_CX_parse8_105 : decode b_CX_parse 105 = .ok (.aload_n 0, 1) := by decide +kernel
theorem d_CX_parse8_106 : decode b_CX_parse 106 = .ok (.iload_n 1, 1) := by decide +kernel
theorem d_CX_parse8_107 : decode b_CX_parse 107 = .ok (.iconst 1, 1) := by decide +kernel
theorem d_CX_parse8_108 : decode b_CX_parse 108 = .ok (.iadd, 1) := by decide +kernel
theorem d_CX_parse8_109 : decode b_CX_parse 109 = .ok (.invokestatic 17, 3) := by decide +kernel
theorem d_CX_parse8_112 : decode b_CX_parse 112 = .ok (.astore_n 3, 1) := by decide +kernel
theorem d_CX_parse8_113 : decode b_CX_parse 113 = .ok (.aload_n 3, 1) := by decide +kernel
theorem d_CX_parse8_114 : decode b_CX_parse 114 = .ok (.ifnonnull 7, 3) := by decide +kernel
theorem d_CX_parse8_117 : decode b_CX_parse 117 = .ok (.aconst_null, 1) := by decide +kernel
theorem d_CX_parse8_118 : decode b_CX_parse 118 = .ok (.goto 12, 3) := by decide +kernel
theorem d_CX_parse8_121 : decode b_CX_parse 121 = .ok (.new 28, 3) := by decide +kernel
theorem d_CX_parse8_124 : decode b_CX_parse 124 = .ok (.dup, 1) := by decide +kernel
theorem d_CX_parse8_125 : decode b_CX_parse 125 = .ok (.aload_n 2, 1) := by decide +kernel
theorem d_CX_parse8_126 : decode b_CX_parse 126 = .ok (.aload_n 3, 1) := by decide +kernel
theorem d_CX_parse8_127 : decode b_CX_parse 127 = .ok (.invokespecial 30, 3) := by decide +kernel
theorem d_CX_parse8_130 : decode b_CX_parse 130 = .ok (.areturn, 1) := by decide +kernel
theorem d_CX_parse8_131 : decode b_CX_parse 131 = .ok (.aconst_null, 1) := by decide +kernel
theorem d_CX_parse8_132 : decode b_CX_parse 132 = .ok (.areturn, 1) := by decide +kernel
def bk_CX_parse8_112 (Q : Int → zS → Prop) (v2 : Int) (z0 : Int) (σ : zS) : Prop :=
  ((z0 < 0 →
    Q (-1) σ) ∧
   (¬ z0 < 0 →
    zWf σ ∧ 0 ≤ σ 72 0 ∧ zvp σ z0 ∧ zvp σ v2 ∧ ∀ σ35, σ35 = znew6 2 σ →
    wp_NA_init (fun σ37 =>
      zle σ35 σ37 ∧
      Q (σ 72 0) σ37) (σ 72 0) v2 z0 σ35))
def wp_CX_parse8 (Q : Int → zS → Prop) (v1 : Int) (σ : zS) : Prop :=
  zc v1 ∧ ((v1 ≤ 7 →
    wp_DG_next (fun r4 σ2 =>
      zle σ σ2 ∧
      zc r4 ∧ ((r4 = 1 →
        zWf σ2 ∧ 0 ≤ σ2 72 0 ∧ ∀ σ8, σ8 = znew6 0 σ2 →
        wp_PI_init (fun σ10 =>
          zle σ8 σ10 ∧
          ∀ y12, y12 = σ2 72 0 →
          ∀ σ13, σ13 = zup σ10 62 0 ((σ10 62 0) + 1) →
          Q y12 σ13) (σ2 72 0) (σ8 62 0) σ8) ∧
       (r4 = 2 →
        wp_CX_parse9 (fun r16 σ14 =>
          ((r16 < 0 →
            Q (-1) σ14) ∧
           (¬ r16 < 0 →
            zWf σ14 ∧ 0 ≤ σ14 72 0 ∧ zvp σ14 r16 ∧ ∀ σ20, σ20 = znew6 1 σ14 →
            wp_IN_init (fun σ22 =>
              zle σ20 σ22 ∧
              Q (σ14 72 0) σ22) (σ14 72 0) r16 σ20))) (v1 + 1) σ2) ∧
       (r4 = 3 →
        wp_CX_parse9 (fun r26 σ24 =>
          ((r26 < 0 →
            bk_CX_parse8_112 Q r26 (-1) σ24) ∧
           (¬ r26 < 0 →
            zvp σ24 r26 ∧ wp_CX_parse9 (fun r29 σ27 =>
              bk_CX_parse8_112 Q r26 r29 σ27) (v1 + 1) σ24))) (v1 + 1) σ2) ∧
       (r4 < 1 ∨ 3 < r4 →
        Q (-1) σ2))) σ) ∧
   (¬ v1 ≤ 7 →
    Q (-1) σ))
set_option maxHeartbeats 4000000 in
set_option maxRecDepth 100000 in
theorem wk_CX_parse8_112 {E : zE} {D : va_G} {g : zG} {A : Nat → Prop} {ad0 : zA} {σ0 : zS} {Q : Int → zS → Prop} (C : zX E b_CX_parse R_CX D g { frames := 3, cells := 1, slots := 2, locals := 62 } 4) (R : zRt E (some (.object "CellMapper$Pattern")) (zJr D g ad0 σ0 6 Q A) 1 2 A) (S : zSt g A (zst E) (zst E).heap) (hA : ∀ q, (zst E).heap.size ≤ q → A q) (ad : zA) (v2 : Int) (z0 : Int) (σ : zS) (hX : zEx ad0 σ0 ad σ) (h : bk_CX_parse8_112 Q v2 z0 σ) : zW E (zOK D A (zst E) g ad) 0 0 112 [(2, zr ad 6 v2)] [zr ad 6 z0] σ := by
  unfold bk_CX_parse8_112 at h
  refine z_astoreZ_n (L' := [(3, zr ad 6 z0), (2, zr ad 6 v2)]) C (pc := 112) d_CX_parse8_112 (by decide) (congrArg (List.cons _) (flt_eq (j := 3) rfl (List.forall_mem_singleton.mpr (zr_cat _ _ _)) rfl)) ?_
  refine z_aloadZ_n C (pc := 113) d_CX_parse8_113 0 rfl ?_
  refine z_ifnonnull (tgt := 121) C (pc := 114) d_CX_parse8_114 (by decide) h (fun h => ?_) (fun h => ?_)
  · obtain ⟨hc31, hc32, hc33, hc34, h⟩ := h
    refine xa_new6c (fun ad => [(3, zr ad 6 z0), (2, zr ad 6 v2)]) (fun ad => []) C hA hc31 hc32 wd_409 (pc := 121) d_CX_parse8_121 ⟨Nat.le_of_ble_eq_true rfl, Nat.le_of_ble_eq_true rfl⟩ (fun ad' ha => ⟨by simp only [zr_agP (x := z0) ha hc33, zr_agP (x := v2) ha hc34], rfl⟩) (fun ad hE36 => ?_)
    refine zN h (fun σ35 eσ35 h => ?_)
    rw [← eσ35] at hE36
    have hX := hX.trans hE36
    refine z_dup C (pc := 124) d_CX_parse8_124 (zr_cat _ _ _) ?_
    refine z_aloadZ_n C (pc := 125) d_CX_parse8_125 1 rfl ?_
    refine z_aloadZ_n C (pc := 126) d_CX_parse8_126 0 rfl ?_
    refine x_callINv (hkn := ⟨Nat.le_of_ble_eq_true rfl, Nat.le_of_ble_eq_true rfl⟩) (As := [zr ad 6 v2, zr ad 6 z0]) (st := [zr ad 6 (σ 72 0)]) (a := ad (6, (σ 72 0).toNat)) C S fi_NA_init (by simp [zNs]) (pc := 127) d_CX_parse8_127 ⟨rfl, rfl, Nat.le_of_ble_eq_true rfl, Nat.le_of_ble_eq_true rfl⟩ rfl (by rw [zr_s ad 6 hc32]; rfl) (by simp [zr_cat, kv_cat, cat_i, cat_l, cat_r]) h (c_NA_init (zln E) D g ad _ _ _ _ _) (fun σ37 h => ?_)
    obtain ⟨hE38, h⟩ := h
    have hX := hX.le hE38
    exact za_aret C R hX (Or.inl ⟨_, rfl⟩) (pc := 130) d_CX_parse8_130 h
  · refine z_nullZ (ad := ad) 6 C (pc := 117) d_CX_parse8_117 ?_
    refine z_goto (tgt := 130) C (pc := 118) d_CX_parse8_118 (by decide) ?_
    refine zW.widen (k' := 1) (n' := 2) (by decide) (by decide) ?_
    exact za_aret C R hX (Or.inl ⟨_, rfl⟩) (pc := 130) d_CX_parse8_130 h
set_option maxHeartbeats 4000000 in
set_option maxRecDepth 100000 in
theorem c_CX_parse8 (l : Launch) (D : va_G) (g : zG) (ad : zA) (v1 : Int) (Q : Int → zS → Prop) (σ : zS) (h : wp_CX_parse8 Q v1 σ) (sz : Nat) : zHr 6 l y_CX_parse b_CX_parse 4 (some (.object "CellMapper$Pattern")) { frames := 3, cells := 1, slots := 2, locals := 62 } D g ad σ [.ref (ad (0, 2)), .int (zi v1)] Q sz 1 2 := by
  unfold wp_CX_parse8 at h
  refine zA_of (by decide) (Nat.le_of_ble_eq_true rfl) (fun E C R S hA => ?_)
  have C : zX E b_CX_parse R_CX D g { frames := 3, cells := 1, slots := 2, locals := 62 } 4 := C
  have hX : zEx ad σ ad σ := zEx.rf
  refine z_sub (L' := [(0, .ref (ad (0, 2))), (1, .int (zi v1))]) [0, 1] rfl ?_
  refine z_iload_n C (pc := 0) d_CX_parse8_0 1 rfl ?_
  refine z_bipush C (pc := 1) d_CX_parse8_1 (by decide) ?_
  obtain ⟨hc1, h⟩ := h
  refine z_icmp_le (tgt := 8) C (pc := 3) d_CX_parse8_3 (by decide) hc1 (by decide) h (fun h => ?_) (fun h => ?_)
  · refine z_aload_n C (pc := 8) d_CX_parse8_8 0 rfl ?_
    refine x_callVi (hkn := ⟨Nat.le_of_ble_eq_true rfl, Nat.le_of_ble_eq_true rfl⟩) (As := []) (st := []) C S fy_DG_next (0, 2) (zids_fix zfix_2) rfl rfl wd_382 (pc := 9) d_CX_parse8_9 ⟨rfl, rfl, Nat.le_of_ble_eq_true rfl, Nat.le_of_ble_eq_true rfl⟩ rfl rfl (Nat.le_of_ble_eq_true rfl) h (c_DG_next (zln E) D g ad _ _) (fun r4 σ2 h => ?_)
    obtain ⟨hE3, h⟩ := h
    have hX := hX.le hE3
    obtain ⟨hc5, h⟩ := h
    by_cases q39 : r4 = 1
    · have h := h.1 q39
      refine z_tableIn (off := 28) (tgt := 40) C (pc := 12) d_CX_parse8_12 hc5 (by omega) (by omega) (by rw [q39]; rfl) (by decide) ?_
      refine z_sub (L' := [(0, .ref (ad (0, 2)))]) [0] rfl ?_
      obtain ⟨hc6, hc7, h⟩ := h
      refine xa_new6a (fun ad => [(0, .ref (ad (0, 2)))]) (fun ad => []) C hA hc6 hc7 wd_386 (pc := 40) d_CX_parse8_40 ⟨Nat.le_of_ble_eq_true rfl, Nat.le_of_ble_eq_true rfl⟩ (fun ad' ha => ⟨by simp only [zo_ag ha zfix_2 (by decide)], rfl⟩) (fun ad hE9 => ?_)
      refine zN h (fun σ8 eσ8 h => ?_)
      rw [← eσ8] at hE9
      have hX := hX.trans hE9
      refine z_dup C (pc := 43) d_CX_parse8_43 (zr_cat _ _ _) ?_
      refine z_aload_n C (pc := 44) d_CX_parse8_44 0 rfl ?_
      refine x_getD C 1 (by decide) wd_77 (pc := 45) d_CX_parse8_45 ?_
      refine x_callINv (hkn := ⟨Nat.le_of_ble_eq_true rfl, Nat.le_of_ble_eq_true rfl⟩) (As := [.int (zi (σ8 62 0))]) (st := [zr ad 6 (σ2 72 0)]) (a := ad (6, (σ2 72 0).toNat)) C S fi_PI_init (by simp [zNs]) (pc := 48) d_CX_parse8_48 ⟨rfl, rfl, Nat.le_of_ble_eq_true rfl, Nat.le_of_ble_eq_true rfl⟩ rfl (by rw [zr_s ad 6 hc7]; rfl) (by simp [zr_cat, kv_cat, cat_i, cat_l, cat_r]) h (c_PI_init (zln E) D g ad _ _ _ _) (fun σ10 h => ?_)
      obtain ⟨hE11, h⟩ := h
      have hX := hX.le hE11
      refine zNz h (fun y12 ey12 h => ?_)
      refine z_astoreZ_n (L' := [(2, zr ad 6 y12), (0, .ref (ad (0, 2)))]) C (pc := 51) d_CX_parse8_51 (by decide) rfl ?_
      refine z_aload_n C (pc := 52) d_CX_parse8_52 1 rfl ?_
      refine z_dup C (pc := 53) d_CX_parse8_53 rfl ?_
      refine x_getD C 1 (by decide) wd_77 (pc := 54) d_CX_parse8_54 ?_
      refine z_iconst C (pc := 57) d_CX_parse8_57 ?_
      refine z_iadd C (pc := 58) d_CX_parse8_58 ?_
      refine x_putD C 1 (by decide) wd_77 (pc := 59) d_CX_parse8_59 ?_
      refine zN h (fun σ13 eσ13 h => ?_)
      have hX := hX.upE eσ13 (by decide) (by decide) (by decide)
      refine z_aloadZ_n C (pc := 62) d_CX_parse8_62 0 rfl ?_
      refine zW.widen (k' := 1) (n' := 2) (by decide) (by decide) ?_
      exact za_aret C R hX (Or.inl ⟨_, rfl⟩) (pc := 63) d_CX_parse8_63 h
    · have h := h.2
      by_cases q40 : r4 = 2
      · have h := h.1 q40
        refine z_tableIn (off := 52) (tgt := 64) C (pc := 12) d_CX_parse8_12 hc5 (by omega) (by omega) (by rw [q40]; rfl) (by decide) ?_
        refine z_aload_n C (pc := 64) d_CX_parse8_64 0 rfl ?_
        refine z_iload_n C (pc := 65) d_CX_parse8_65 1 rfl ?_
        refine z_iconst C (pc := 66) d_CX_parse8_66 ?_
        refine z_iadd C (pc := 67) d_CX_parse8_67 ?_
        refine z_sub (L' := []) [] rfl ?_
        refine xa_callSr (As := [.ref (ad (0, 2)), .int (zi (v1 + 1))]) (fun ad => []) (fun ad => []) C S hA fs_CX_parse wd_379 (pc := 68) d_CX_parse8_68 ⟨rfl, rfl, Nat.le_of_ble_eq_true rfl, Nat.le_of_ble_eq_true rfl⟩ ⟨Nat.le_of_ble_eq_true rfl, Nat.le_of_ble_eq_true rfl⟩ rfl rfl (Nat.le_of_ble_eq_true rfl) (fun ad' ha => ⟨rfl, rfl⟩) h (c_CX_parse9 (zln E) D g ad _ _ _) (fun r16 σ14 ad hE15 h => ?_)
        have hX := hX.trans hE15
        refine z_astoreZ_n (L' := [(2, zr ad 6 r16)]) C (pc := 71) d_CX_parse8_71 (by decide) rfl ?_
        refine z_aloadZ_n C (pc := 72) d_CX_parse8_72 0 rfl ?_
        refine z_ifnonnull (tgt := 80) C (pc := 73) d_CX_parse8_73 (by decide) h (fun h => ?_) (fun h => ?_)
        · obtain ⟨hc17, hc18, hc19, h⟩ := h
          refine xa_new6b (fun ad => [(2, zr ad 6 r16)]) (fun ad => []) C hA hc17 hc18 wd_399 (pc := 80) d_CX_parse8_80 ⟨Nat.le_of_ble_eq_true rfl, Nat.le_of_ble_eq_true rfl⟩ (fun ad' ha => ⟨by simp only [zr_agP (x := r16) ha hc19], rfl⟩) (fun ad hE21 => ?_)
          refine zN h (fun σ20 eσ20 h => ?_)
          rw [← eσ20] at hE21
          have hX := hX.trans hE21
          refine z_dup C (pc := 83) d_CX_parse8_83 (zr_cat _ _ _) ?_
          refine z_aloadZ_n C (pc := 84) d_CX_parse8_84 0 rfl ?_
          refine x_callINv (hkn := ⟨Nat.le_of_ble_eq_true rfl, Nat.le_of_ble_eq_true rfl⟩) (As := [zr ad 6 r16]) (st := [zr ad 6 (σ14 72 0)]) (a := ad (6, (σ14 72 0).toNat)) C S fi_IN_init (by simp [zNs]) (pc := 85) d_CX_parse8_85 ⟨rfl, rfl, Nat.le_of_ble_eq_true rfl, Nat.le_of_ble_eq_true rfl⟩ rfl (by rw [zr_s ad 6 hc18]; rfl) (by simp [zr_cat, kv_cat, cat_i, cat_l, cat_r]) h (c_IN_init (zln E) D g ad _ _ _ _) (fun σ22 h => ?_)
          obtain ⟨hE23, h⟩ := h
          have hX := hX.le hE23
          refine zW.widen (k' := 1) (n' := 2) (by decide) (by decide) ?_
          exact za_aret C R hX (Or.inl ⟨_, rfl⟩) (pc := 88) d_CX_parse8_88 h
        · refine z_nullZ (ad := ad) 6 C (pc := 76) d_CX_parse8_76 ?_
          refine z_goto (tgt := 88) C (pc := 77) d_CX_parse8_77 (by decide) ?_
          refine zW.widen (k' := 1) (n' := 2) (by decide) (by decide) ?_
          exact za_aret C R hX (Or.inl ⟨_, rfl⟩) (pc := 88) d_CX_parse8_88 h
      · have h := h.2
        by_cases q41 : r4 = 3
        · have h := h.1 q41
          refine z_tableIn (off := 77) (tgt := 89) C (pc := 12) d_CX_parse8_12 hc5 (by omega) (by omega) (by rw [q41]; rfl) (by decide) ?_
          refine z_aload_n C (pc := 89) d_CX_parse8_89 0 rfl ?_
          refine z_iload_n C (pc := 90) d_CX_parse8_90 1 rfl ?_
          refine z_iconst C (pc := 91) d_CX_parse8_91 ?_
          refine z_iadd C (pc := 92) d_CX_parse8_92 ?_
          refine xa_callSr (As := [.ref (ad (0, 2)), .int (zi (v1 + 1))]) (fun ad => [(0, .ref (ad (0, 2))), (1, .int (zi v1))]) (fun ad => []) C S hA fs_CX_parse wd_379 (pc := 93) d_CX_parse8_93 ⟨rfl, rfl, Nat.le_of_ble_eq_true rfl, Nat.le_of_ble_eq_true rfl⟩ ⟨Nat.le_of_ble_eq_true rfl, Nat.le_of_ble_eq_true rfl⟩ rfl rfl (Nat.le_of_ble_eq_true rfl) (fun ad' ha => ⟨by simp only [zo_ag ha zfix_2 (by decide)], rfl⟩) h (c_CX_parse9 (zln E) D g ad _ _ _) (fun r26 σ24 ad hE25 h => ?_)
          have hX := hX.trans hE25
          refine z_astoreZ_n (L' := [(2, zr ad 6 r26), (0, .ref (ad (0, 2))), (1, .int (zi v1))]) C (pc := 96) d_CX_parse8_96 (by decide) rfl ?_
          refine z_aloadZ_n C (pc := 97) d_CX_parse8_97 0 rfl ?_
          refine z_ifnonnull (tgt := 105) C (pc := 98) d_CX_parse8_98 (by decide) h (fun h => ?_) (fun h => ?_)
          · refine z_aload_n C (pc := 105) d_CX_parse8_105 1 rfl ?_
            refine z_iload_n C (pc := 106) d_CX_parse8_106 2 rfl ?_
            refine z_iconst C (pc := 107) d_CX_parse8_107 ?_
            refine z_iadd C (pc := 108) d_CX_parse8_108 ?_
            refine z_sub (L' := [(2, zr ad 6 r26)]) [0] rfl ?_
            obtain ⟨hc30, h⟩ := h
            refine xa_callSr (As := [.ref (ad (0, 2)), .int (zi (v1 + 1))]) (fun ad => [(2, zr ad 6 r26)]) (fun ad => []) C S hA fs_CX_parse wd_379 (pc := 109) d_CX_parse8_109 ⟨rfl, rfl, Nat.le_of_ble_eq_true rfl, Nat.le_of_ble_eq_true rfl⟩ ⟨Nat.le_of_ble_eq_true rfl, Nat.le_of_ble_eq_true rfl⟩ rfl rfl (Nat.le_of_ble_eq_true rfl) (fun ad' ha => ⟨by simp only [zr_agP (x := r26) ha hc30], rfl⟩) h (c_CX_parse9 (zln E) D g ad _ _ _) (fun r29 σ27 ad hE28 h => ?_)
            have hX := hX.trans hE28
            exact wk_CX_parse8_112 C R S hA ad _ _ _ hX h
          · refine z_nullZ (ad := ad) 6 C (pc := 101) d_CX_parse8_101 ?_
            refine z_goto (tgt := 112) C (pc := 102) d_CX_parse8_102 (by decide) ?_
            refine z_sub [0] rfl ?_
            exact wk_CX_parse8_112 C R S hA ad _ _ _ hX h
        · have h := h.2
          have h := h (show r4 < 1 ∨ 3 < r4 by omega)
          refine z_tableOut (tgt := 131) C (pc := 12) d_CX_parse8_12 hc5 (show r4 < 1 ∨ 3 < r4 by omega) (by decide) ?_
          refine z_nullZ (ad := ad) 6 C (pc := 131) d_CX_parse8_131 ?_
          refine zW.widen (k' := 1) (n' := 2) (by decide) (by decide) ?_
          exact za_aret C R hX (Or.inl ⟨_, rfl⟩) (pc := 132) d_CX_parse8_132 h
  · refine z_nullZ (ad := ad) 6 C (pc := 6) d_CX_parse8_6 ?_
    refine zW.widen (k' := 1) (n' := 2) (by decide) (by decide) ?_
    exact za_aret C R hX (Or.inl ⟨_, rfl⟩) (pc := 7) d_CX_parse8_7 h
theorem d_CX_parse7_0 : decode b_CX_parse 0 = .ok (.iload_n 1, 1) := by decide +kernel
theorem d_CX_parse7_1 : decode b_CX_parse 1 = .ok (.bipush 7, 2) := by decide +kernel
theorem d_CX_parse7_3 : decode b_CX_parse 3 = .ok (.if_icmp .le 5, 3) := by decide +kernel
theorem d_CX_parse7_6 : decode b_CX_parse 6 = .ok (.aconst_null, 1) := by decide +kernel
theorem d_CX_parse7_7 : decode b_CX_parse 7 = .ok (.areturn, 1) := by decide +kernel
theorem d_CX_parse7_8 : decode b_CX_parse 8 = .ok (.aload_n 0, 1) := by decide +kernel
theorem d_CX_parse7_9 : decode b_CX_parse 9 = .ok (.invokevirtual 1, 3) := by decide +kernel
theorem d_CX_parse7_12 : decode b_CX_parse 12 = .ok (.tableswitch 119 1 3 #[28, 52, 77], 28) := by decide +kernel
theorem d_CX_parse7_40 : decode b_CX_parse 40 = .ok (.new 7, 3) := by decide +kernel
theorem d_CX_parse7_43 : decode b_CX_parse 43 = .ok (.dup, 1) := by decide +kernel
theorem d_CX_parse7_44 : decode b_CX_parse 44 = .ok (.aload_n 0, 1) := by decide +kernel
theorem d_CX_parse7_45 : decode b_CX_parse 45 = .ok (.getfield 9, 3) := by decide +kernel
theorem d_CX_parse7_48 : decode b_CX_parse 48 = .ok (.invokespecial 13, 3) := by decide +kernel
theorem d_CX_parse7_51 : decode b_CX_parse 51 = .ok (.astore_n 2, 1) := by decide +kernel
theorem d_CX_parse7_52 : decode b_CX_parse 52 = .ok (.aload_n 0, 1) := by decide +kernel
theorem d_CX_parse7_53 : decode b_CX_parse 53 = .ok (.dup, 1) := by decide +kernel
theorem d_CX_parse7_54 : decode b_CX_parse 54 = .ok (.getfield 9, 3) := by decide +kernel
theorem d_CX_parse7_57 : decode b_CX_parse 57 = .ok (.iconst 1, 1) := by decide +kernel
theorem d_CX_parse7_58 : decode b_CX_parse 58 = .ok (.iadd, 1) := by decide +kernel
theorem d_CX_parse7_59 : decode b_CX_parse 59 = .ok (.putfield 9, 3) := by decide +kernel
theorem d_CX_parse7_62 : decode b_CX_parse 62 = .ok (.aload_n 2, 1) := by decide +kernel
theorem d_CX_parse7_63 : decode b_CX_parse 63 = .ok (.areturn, 1) := by decide +kernel
theorem d_CX_parse7_64 : decode b_CX_parse 64 = .ok (.aload_n 0, 1) := by decide +kernel
theorem d_CX_parse7_65 : decode b_CX_parse 65 = .ok (.iload_n 1, 1) := by decide +kernel
theorem d_CX_parse7_66 : decode b_CX_parse 66 = .ok (.iconst 1, 1) := by decide +kernel
theorem d_CX_parse7_67 : decode b_CX_parse 67 = .ok (.iadd, 1) := by decide +kernel
theorem d_CX_parse7_68 : decode b_CX_parse 68 = .ok (.invokestatic 17, 3) := by decide +kernel
theorem d_CX_parse7_71 : decode b_CX_parse 71 = .ok (.astore_n 2, 1) := by decide +kernel
theorem d_CX_parse7_72 : decode b_CX_parse 72 = .ok (.aload_n 2, 1) := by decide +kernel
theorem d_CX_parse7_73 : decode b_CX_parse 73 = .ok (.ifnonnull 7, 3) := by decide +kernel
theorem d_CX_parse7_76 : decode b_CX_parse 76 = .ok (.aconst_null, 1) := by decide +kernel
theorem d_CX_parse7_77 : decode b_CX_parse 77 = .ok (.goto 11, 3) := by decide +kernel
theorem d_CX_parse7_80 : decode b_CX_parse 80 = .ok (.new 23, 3) := by decide +kernel
theorem d_CX_parse7_83 : decode b_CX_parse 83 = .ok (.dup, 1) := by decide +kernel
theorem d_CX_parse7_84 : decode b_CX_parse 84 = .ok (.aload_n 2, 1) := by decide +kernel
theorem d_CX_parse7_85 : decode b_CX_parse 85 = .ok (.invokespecial 25, 3) := by decide +kernel
theorem d_CX_parse7_88 : decode b_CX_parse 88 = .ok (.areturn, 1) := by decide +kernel
theorem d_CX_parse7_89 : decode b_CX_parse 89 = .ok (.aload_n 0, 1) := by decide +kernel
theorem d_CX_parse7_90 : decode b_CX_parse 90 = .ok (.iload_n 1, 1) := by decide +kernel
theorem d_CX_parse7_91 : decode b_CX_parse 91 = .ok (.iconst 1, 1) := by decide +kernel
theorem d_CX_parse7_92 : decode b_CX_parse 92 = .ok (.iadd, 1) := by decide +kernel
theorem d_CX_parse7_93 : decode b_CX_parse 93 = .ok (.invokestatic 17, 3) := by decide +kernel
theorem d_CX_parse7_96 : decode b_CX_parse 96 = .ok (.astore_n 2, 1) := by decide +kernel
theorem d_CX_parse7_97 : decode b_CX_parse 97 = .ok (.aload_n 2, 1) := by decide +kernel
theorem d_CX_parse7_98 : decode b_CX_parse 98 = .ok (.ifnonnull 7, 3) := by decide +kernel
theorem d_CX_parse7_101 : decode b_CX_parse 101 = .ok (.aconst_null, 1) := by decide +kernel
theorem d_CX_parse7_102 : decode b_CX_parse 102 = .ok (.goto 10, 3) := by decide +kernel
theorem d_CX_parse7_105 : decode b_CX_parse 105 = .ok (.aload_n 0, 1) := by decide +kernel
theorem d_CX_parse7_106 : decode b_CX_parse 106 = .ok (.iload_n 1, 1) := by decide +kernel
theorem d_CX_parse7_107 : decode b_CX_parse 107 = .ok (.iconst 1, 1) := by decide +kernel
theorem d_CX_parse7_108 : decode b_CX_parse 108 = .ok (.iadd, 1) := by decide +kernel
theorem d_CX_parse7_109 : decode b_CX_parse 109 = .ok (.invokestatic 17, 3) := by decide +kernel
theorem d_CX_parse7_112 : decode b_CX_parse 112 = .ok (.astore_n 3, 1) := by decide +kernel
theorem d_CX_parse7_113 : decode b_CX_parse 113 = .ok (.aload_n 3, 1) := by decide +kernel
theorem d_CX_parse7_114 : decode b_CX_parse 114 = .ok (.ifnonnull 7, 3) := by decide +kernel
theorem d_CX_parse7_117 : decode b_CX_parse 117 = .ok (.aconst_null, 1) := by decide +kernel
theorem d_CX_parse7_118 : decode b_CX_parse 118 = .ok (.goto 12, 3) := by decide +kernel
theorem d_CX_parse7_121 : decode b_CX_parse 121 = .ok (.new 28, 3) := by decide +kernel
theorem d_CX_parse7_124 : decode b_CX_parse 124 = .ok (.dup, 1) := by decide +kernel
theorem d_CX_parse7_125 : decode b_CX_parse 125 = .ok (.aload_n 2, 1) := by decide +kernel
theorem d_CX_parse7_126 : decode b_CX_parse 126 = .ok (.aload_n 3, 1) := by decide +kernel
theorem d_CX_parse7_127 : decode b_CX_parse 127 = .ok (.invokespecial 30, 3) := by decide +kernel
theorem d_CX_parse7_130 : decode b_CX_parse 130 = .ok (.areturn, 1) := by decide +kernel
theorem d_CX_parse7_131 : decode b_CX_parse 131 = .ok (.aconst_null, 1) := by decide +kernel
theorem d_CX_parse7_132 : decode b_CX_parse 132 = .ok (.areturn, 1) := by decide +kernel
def bk_CX_parse7_112 (Q : Int → zS → Prop) (v2 : Int) (z0 : Int) (σ : zS) : Prop :=
  ((z0 < 0 →
    Q (-1) σ) ∧
   (¬ z0 < 0 →
    zWf σ ∧ 0 ≤ σ 72 0 ∧ zvp σ z0 ∧ zvp σ v2 ∧ ∀ σ35, σ35 = znew6 2 σ →
    wp_NA_init (fun σ37 =>
      zle σ35 σ37 ∧
      Q (σ 72 0) σ37) (σ 72 0) v2 z0 σ35))
def wp_CX_parse7 (Q : Int → zS → Prop) (v1 : Int) (σ : zS) : Prop :=
  zc v1 ∧ ((v1 ≤ 7 →
    wp_DG_next (fun r4 σ2 =>
      zle σ σ2 ∧
      zc r4 ∧ ((r4 = 1 →
        zWf σ2 ∧ 0 ≤ σ2 72 0 ∧ ∀ σ8, σ8 = znew6 0 σ2 →
        wp_PI_init (fun σ10 =>
          zle σ8 σ10 ∧
          ∀ y12, y12 = σ2 72 0 →
          ∀ σ13, σ13 = zup σ10 62 0 ((σ10 62 0) + 1) →
          Q y12 σ13) (σ2 72 0) (σ8 62 0) σ8) ∧
       (r4 = 2 →
        wp_CX_parse8 (fun r16 σ14 =>
          ((r16 < 0 →
            Q (-1) σ14) ∧
           (¬ r16 < 0 →
            zWf σ14 ∧ 0 ≤ σ14 72 0 ∧ zvp σ14 r16 ∧ ∀ σ20, σ20 = znew6 1 σ14 →
            wp_IN_init (fun σ22 =>
              zle σ20 σ22 ∧
              Q (σ14 72 0) σ22) (σ14 72 0) r16 σ20))) (v1 + 1) σ2) ∧
       (r4 = 3 →
        wp_CX_parse8 (fun r26 σ24 =>
          ((r26 < 0 →
            bk_CX_parse7_112 Q r26 (-1) σ24) ∧
           (¬ r26 < 0 →
            zvp σ24 r26 ∧ wp_CX_parse8 (fun r29 σ27 =>
              bk_CX_parse7_112 Q r26 r29 σ27) (v1 + 1) σ24))) (v1 + 1) σ2) ∧
       (r4 < 1 ∨ 3 < r4 →
        Q (-1) σ2))) σ) ∧
   (¬ v1 ≤ 7 →
    Q (-1) σ))
set_option maxHeartbeats 4000000 in
set_option maxRecDepth 100000 in
theorem wk_CX_parse7_112 {E : zE} {D : va_G} {g : zG} {A : Nat → Prop} {ad0 : zA} {σ0 : zS} {Q : Int → zS → Prop} (C : zX E b_CX_parse R_CX D g { frames := 4, cells := 3, slots := 6, locals := 85 } 4) (R : zRt E (some (.object "CellMapper$Pattern")) (zJr D g ad0 σ0 6 Q A) 3 6 A) (S : zSt g A (zst E) (zst E).heap) (hA : ∀ q, (zst E).heap.size ≤ q → A q) (ad : zA) (v2 : Int) (z0 : Int) (σ : zS) (hX : zEx ad0 σ0 ad σ) (h : bk_CX_parse7_112 Q v2 z0 σ) : zW E (zOK D A (zst E) g ad) 2 4 112 [(2, zr ad 6 v2)] [zr ad 6 z0] σ := by
  unfold bk_CX_parse7_112 at h
  refine z_astoreZ_n (L' := [(3, zr ad 6 z0), (2, zr ad 6 v2)]) C (pc := 112) d_CX_parse7_112 (by decide) (congrArg (List.cons _) (flt_eq (j := 3) rfl (List.forall_mem_singleton.mpr (zr_cat _ _ _)) rfl)) ?_
  refine z_aloadZ_n C (pc := 113) d_CX_parse7_113 0 rfl ?_
  refine z_ifnonnull (tgt := 121) C (pc := 114) d_CX_parse7_114 (by decide) h (fun h => ?_) (fun h => ?_)
  · obtain ⟨hc31, hc32, hc33, hc34, h⟩ := h
    refine xa_new6c (fun ad => [(3, zr ad 6 z0), (2, zr ad 6 v2)]) (fun ad => []) C hA hc31 hc32 wd_409 (pc := 121) d_CX_parse7_121 ⟨Nat.le_of_ble_eq_true rfl, Nat.le_of_ble_eq_true rfl⟩ (fun ad' ha => ⟨by simp only [zr_agP (x := z0) ha hc33, zr_agP (x := v2) ha hc34], rfl⟩) (fun ad hE36 => ?_)
    refine zN h (fun σ35 eσ35 h => ?_)
    rw [← eσ35] at hE36
    have hX := hX.trans hE36
    refine z_dup C (pc := 124) d_CX_parse7_124 (zr_cat _ _ _) ?_
    refine z_aloadZ_n C (pc := 125) d_CX_parse7_125 1 rfl ?_
    refine z_aloadZ_n C (pc := 126) d_CX_parse7_126 0 rfl ?_
    refine x_callINv (hkn := ⟨Nat.le_of_ble_eq_true rfl, Nat.le_of_ble_eq_true rfl⟩) (As := [zr ad 6 v2, zr ad 6 z0]) (st := [zr ad 6 (σ 72 0)]) (a := ad (6, (σ 72 0).toNat)) C S fi_NA_init (by simp [zNs]) (pc := 127) d_CX_parse7_127 ⟨rfl, rfl, Nat.le_of_ble_eq_true rfl, Nat.le_of_ble_eq_true rfl⟩ rfl (by rw [zr_s ad 6 hc32]; rfl) (by simp [zr_cat, kv_cat, cat_i, cat_l, cat_r]) h (c_NA_init (zln E) D g ad _ _ _ _ _) (fun σ37 h => ?_)
    obtain ⟨hE38, h⟩ := h
    have hX := hX.le hE38
    exact za_aret C R hX (Or.inl ⟨_, rfl⟩) (pc := 130) d_CX_parse7_130 h
  · refine z_nullZ (ad := ad) 6 C (pc := 117) d_CX_parse7_117 ?_
    refine z_goto (tgt := 130) C (pc := 118) d_CX_parse7_118 (by decide) ?_
    refine zW.widen (k' := 3) (n' := 6) (by decide) (by decide) ?_
    exact za_aret C R hX (Or.inl ⟨_, rfl⟩) (pc := 130) d_CX_parse7_130 h
set_option maxHeartbeats 4000000 in
set_option maxRecDepth 100000 in
theorem c_CX_parse7 (l : Launch) (D : va_G) (g : zG) (ad : zA) (v1 : Int) (Q : Int → zS → Prop) (σ : zS) (h : wp_CX_parse7 Q v1 σ) (sz : Nat) : zHr 6 l y_CX_parse b_CX_parse 4 (some (.object "CellMapper$Pattern")) { frames := 4, cells := 3, slots := 6, locals := 85 } D g ad σ [.ref (ad (0, 2)), .int (zi v1)] Q sz 3 6 := by
  unfold wp_CX_parse7 at h
  refine zA_of (by decide) (Nat.le_of_ble_eq_true rfl) (fun E C R S hA => ?_)
  have C : zX E b_CX_parse R_CX D g { frames := 4, cells := 3, slots := 6, locals := 85 } 4 := C
  have hX : zEx ad σ ad σ := zEx.rf
  refine z_sub (L' := [(0, .ref (ad (0, 2))), (1, .int (zi v1))]) [0, 1] rfl ?_
  refine z_iload_n C (pc := 0) d_CX_parse7_0 1 rfl ?_
  refine z_bipush C (pc := 1) d_CX_parse7_1 (by decide) ?_
  obtain ⟨hc1, h⟩ := h
  refine z_icmp_le (tgt := 8) C (pc := 3) d_CX_parse7_3 (by decide) hc1 (by decide) h (fun h => ?_) (fun h => ?_)
  · refine z_aload_n C (pc := 8) d_CX_parse7_8 0 rfl ?_
    refine x_callVi (hkn := ⟨Nat.le_of_ble_eq_true rfl, Nat.le_of_ble_eq_true rfl⟩) (As := []) (st := []) C S fy_DG_next (0, 2) (zids_fix zfix_2) rfl rfl wd_382 (pc := 9) d_CX_parse7_9 ⟨rfl, rfl, Nat.le_of_ble_eq_true rfl, Nat.le_of_ble_eq_true rfl⟩ rfl rfl (Nat.le_of_ble_eq_true rfl) h (c_DG_next (zln E) D g ad _ _) (fun r4 σ2 h => ?_)
    obtain ⟨hE3, h⟩ := h
    have hX := hX.le hE3
    obtain ⟨hc5, h⟩ := h
    by_cases q39 : r4 = 1
    · have h := h.1 q39
      refine z_tableIn (off := 28) (tgt := 40) C (pc := 12) d_CX_parse7_12 hc5 (by omega) (by omega) (by rw [q39]; rfl) (by decide) ?_
      refine z_sub (L' := [(0, .ref (ad (0, 2)))]) [0] rfl ?_
      obtain ⟨hc6, hc7, h⟩ := h
      refine xa_new6a (fun ad => [(0, .ref (ad (0, 2)))]) (fun ad => []) C hA hc6 hc7 wd_386 (pc := 40) d_CX_parse7_40 ⟨Nat.le_of_ble_eq_true rfl, Nat.le_of_ble_eq_true rfl⟩ (fun ad' ha => ⟨by simp only [zo_ag ha zfix_2 (by decide)], rfl⟩) (fun ad hE9 => ?_)
      refine zN h (fun σ8 eσ8 h => ?_)
      rw [← eσ8] at hE9
      have hX := hX.trans hE9
      refine z_dup C (pc := 43) d_CX_parse7_43 (zr_cat _ _ _) ?_
      refine z_aload_n C (pc := 44) d_CX_parse7_44 0 rfl ?_
      refine x_getD C 1 (by decide) wd_77 (pc := 45) d_CX_parse7_45 ?_
      refine x_callINv (hkn := ⟨Nat.le_of_ble_eq_true rfl, Nat.le_of_ble_eq_true rfl⟩) (As := [.int (zi (σ8 62 0))]) (st := [zr ad 6 (σ2 72 0)]) (a := ad (6, (σ2 72 0).toNat)) C S fi_PI_init (by simp [zNs]) (pc := 48) d_CX_parse7_48 ⟨rfl, rfl, Nat.le_of_ble_eq_true rfl, Nat.le_of_ble_eq_true rfl⟩ rfl (by rw [zr_s ad 6 hc7]; rfl) (by simp [zr_cat, kv_cat, cat_i, cat_l, cat_r]) h (c_PI_init (zln E) D g ad _ _ _ _) (fun σ10 h => ?_)
      obtain ⟨hE11, h⟩ := h
      have hX := hX.le hE11
      refine zNz h (fun y12 ey12 h => ?_)
      refine z_astoreZ_n (L' := [(2, zr ad 6 y12), (0, .ref (ad (0, 2)))]) C (pc := 51) d_CX_parse7_51 (by decide) rfl ?_
      refine z_aload_n C (pc := 52) d_CX_parse7_52 1 rfl ?_
      refine z_dup C (pc := 53) d_CX_parse7_53 rfl ?_
      refine x_getD C 1 (by decide) wd_77 (pc := 54) d_CX_parse7_54 ?_
      refine z_iconst C (pc := 57) d_CX_parse7_57 ?_
      refine z_iadd C (pc := 58) d_CX_parse7_58 ?_
      refine x_putD C 1 (by decide) wd_77 (pc := 59) d_CX_parse7_59 ?_
      refine zN h (fun σ13 eσ13 h => ?_)
      have hX := hX.upE eσ13 (by decide) (by decide) (by decide)
      refine z_aloadZ_n C (pc := 62) d_CX_parse7_62 0 rfl ?_
      refine zW.widen (k' := 3) (n' := 6) (by decide) (by decide) ?_
      exact za_aret C R hX (Or.inl ⟨_, rfl⟩) (pc := 63) d_CX_parse7_63 h
    · have h := h.2
      by_cases q40 : r4 = 2
      · have h := h.1 q40
        refine z_tableIn (off := 52) (tgt := 64) C (pc := 12) d_CX_parse7_12 hc5 (by omega) (by omega) (by rw [q40]; rfl) (by decide) ?_
        refine z_aload_n C (pc := 64) d_CX_parse7_64 0 rfl ?_
        refine z_iload_n C (pc := 65) d_CX_parse7_65 1 rfl ?_
        refine z_iconst C (pc := 66) d_CX_parse7_66 ?_
        refine z_iadd C (pc := 67) d_CX_parse7_67 ?_
        refine z_sub (L' := []) [] rfl ?_
        refine xa_callSr (As := [.ref (ad (0, 2)), .int (zi (v1 + 1))]) (fun ad => []) (fun ad => []) C S hA fs_CX_parse wd_379 (pc := 68) d_CX_parse7_68 ⟨rfl, rfl, Nat.le_of_ble_eq_true rfl, Nat.le_of_ble_eq_true rfl⟩ ⟨Nat.le_of_ble_eq_true rfl, Nat.le_of_ble_eq_true rfl⟩ rfl rfl (Nat.le_of_ble_eq_true rfl) (fun ad' ha => ⟨rfl, rfl⟩) h (c_CX_parse8 (zln E) D g ad _ _ _) (fun r16 σ14 ad hE15 h => ?_)
        have hX := hX.trans hE15
        refine z_astoreZ_n (L' := [(2, zr ad 6 r16)]) C (pc := 71) d_CX_parse7_71 (by decide) rfl ?_
        refine z_aloadZ_n C (pc := 72) d_CX_parse7_72 0 rfl ?_
        refine z_ifnonnull (tgt := 80) C (pc := 73) d_CX_parse7_73 (by decide) h (fun h => ?_) (fun h => ?_)
        · obtain ⟨hc17, hc18, hc19, h⟩ := h
          refine xa_new6b (fun ad => [(2, zr ad 6 r16)]) (fun ad => []) C hA hc17 hc18 wd_399 (pc := 80) d_CX_parse7_80 ⟨Nat.le_of_ble_eq_true rfl, Nat.le_of_ble_eq_true rfl⟩ (fun ad' ha => ⟨by simp only [zr_agP (x := r16) ha hc19], rfl⟩) (fun ad hE21 => ?_)
          refine zN h (fun σ20 eσ20 h => ?_)
          rw [← eσ20] at hE21
          have hX := hX.trans hE21
          refine z_dup C (pc := 83) d_CX_parse7_83 (zr_cat _ _ _) ?_
          refine z_aloadZ_n C (pc := 84) d_CX_parse7_84 0 rfl ?_
          refine x_callINv (hkn := ⟨Nat.le_of_ble_eq_true rfl, Nat.le_of_ble_eq_true rfl⟩) (As := [zr ad 6 r16]) (st := [zr ad 6 (σ14 72 0)]) (a := ad (6, (σ14 72 0).toNat)) C S fi_IN_init (by simp [zNs]) (pc := 85) d_CX_parse7_85 ⟨rfl, rfl, Nat.le_of_ble_eq_true rfl, Nat.le_of_ble_eq_true rfl⟩ rfl (by rw [zr_s ad 6 hc18]; rfl) (by simp [zr_cat, kv_cat, cat_i, cat_l, cat_r]) h (c_IN_init (zln E) D g ad _ _ _ _) (fun σ22 h => ?_)
          obtain ⟨hE23, h⟩ := h
          have hX := hX.le hE23
          refine zW.widen (k' := 3) (n' := 6) (by decide) (by decide) ?_
          exact za_aret C R hX (Or.inl ⟨_, rfl⟩) (pc := 88) d_CX_parse7_88 h
        · refine z_nullZ (ad := ad) 6 C (pc := 76) d_CX_parse7_76 ?_
          refine z_goto (tgt := 88) C (pc := 77) d_CX_parse7_77 (by decide) ?_
          refine zW.widen (k' := 3) (n' := 6) (by decide) (by decide) ?_
          exact za_aret C R hX (Or.inl ⟨_, rfl⟩) (pc := 88) d_CX_parse7_88 h
      · have h := h.2
        by_cases q41 : r4 = 3
        · have h := h.1 q41
          refine z_tableIn (off := 77) (tgt := 89) C (pc := 12) d_CX_parse7_12 hc5 (by omega) (by omega) (by rw [q41]; rfl) (by decide) ?_
          refine z_aload_n C (pc := 89) d_CX_parse7_89 0 rfl ?_
          refine z_iload_n C (pc := 90) d_CX_parse7_90 1 rfl ?_
          refine z_iconst C (pc := 91) d_CX_parse7_91 ?_
          refine z_iadd C (pc := 92) d_CX_parse7_92 ?_
          refine xa_callSr (As := [.ref (ad (0, 2)), .int (zi (v1 + 1))]) (fun ad => [(0, .ref (ad (0, 2))), (1, .int (zi v1))]) (fun ad => []) C S hA fs_CX_parse wd_379 (pc := 93) d_CX_parse7_93 ⟨rfl, rfl, Nat.le_of_ble_eq_true rfl, Nat.le_of_ble_eq_true rfl⟩ ⟨Nat.le_of_ble_eq_true rfl, Nat.le_of_ble_eq_true rfl⟩ rfl rfl (Nat.le_of_ble_eq_true rfl) (fun ad' ha => ⟨by simp only [zo_ag ha zfix_2 (by decide)], rfl⟩) h (c_CX_parse8 (zln E) D g ad _ _ _) (fun r26 σ24 ad hE25 h => ?_)
          have hX := hX.trans hE25
          refine z_astoreZ_n (L' := [(2, zr ad 6 r26), (0, .ref (ad (0, 2))), (1, .int (zi v1))]) C (pc := 96) d_CX_parse7_96 (by decide) rfl ?_
          refine z_aloadZ_n C (pc := 97) d_CX_parse7_97 0 rfl ?_
          refine z_ifnonnull (tgt := 105) C (pc := 98) d_CX_parse7_98 (by decide) h (fun h => ?_) (fun h => ?_)
          · refine z_aload_n C (pc := 105) d_CX_parse7_105 1 rfl ?_
            refine z_iload_n C (pc := 106) d_CX_parse7_106 2 rfl ?_
            refine z_iconst C (pc := 107) d_CX_parse7_107 ?_
            refine z_iadd C (pc := 108) d_CX_parse7_108 ?_
            refine z_sub (L' := [(2, zr ad 6 r26)]) [0] rfl ?_
            obtain ⟨hc30, h⟩ := h
            refine xa_callSr (As := [.ref (ad (0, 2)), .int (zi (v1 + 1))]) (fun ad => [(2, zr ad 6 r26)]) (fun ad => []) C S hA fs_CX_parse wd_379 (pc := 109) d_CX_parse7_109 ⟨rfl, rfl, Nat.le_of_ble_eq_true rfl, Nat.le_of_ble_eq_true rfl⟩ ⟨Nat.le_of_ble_eq_true rfl, Nat.le_of_ble_eq_true rfl⟩ rfl rfl (Nat.le_of_ble_eq_true rfl) (fun ad' ha => ⟨by simp only [zr_agP (x := r26) ha hc30], rfl⟩) h (c_CX_parse8 (zln E) D g ad _ _ _) (fun r29 σ27 ad hE28 h => ?_)
            have hX := hX.trans hE28
            exact wk_CX_parse7_112 C R S hA ad _ _ _ hX h
          · refine z_nullZ (ad := ad) 6 C (pc := 101) d_CX_parse7_101 ?_
            refine z_goto (tgt := 112) C (pc := 102) d_CX_parse7_102 (by decide) ?_
            refine zW.widen (k' := 2) (n' := 4) (by decide) (by decide) ?_
            refine z_sub [0] rfl ?_
            exact wk_CX_parse7_112 C R S hA ad _ _ _ hX h
        · have h := h.2
          have h := h (show r4 < 1 ∨ 3 < r4 by omega)
          refine z_tableOut (tgt := 131) C (pc := 12) d_CX_parse7_12 hc5 (show r4 < 1 ∨ 3 < r4 by omega) (by decide) ?_
          refine z_nullZ (ad := ad) 6 C (pc := 131) d_CX_parse7_131 ?_
          refine zW.widen (k' := 3) (n' := 6) (by decide) (by decide) ?_
          exact za_aret C R hX (Or.inl ⟨_, rfl⟩) (pc := 132) d_CX_parse7_132 h
  · refine z_nullZ (ad := ad) 6 C (pc := 6) d_CX_parse7_6 ?_
    refine zW.widen (k' := 3) (n' := 6) (by decide) (by decide) ?_
    exact za_aret C R hX (Or.inl ⟨_, rfl⟩) (pc := 7) d_CX_parse7_7 h
theorem d_CX_parse6_0 : decode b_CX_parse 0 = .ok (.iload_n 1, 1) := by decide +kernel
theorem d_CX_parse6_1 : decode b_CX_parse 1 = .ok (.bipush 7, 2) := by decide +kernel
theorem d_CX_parse6_3 : decode b_CX_parse 3 = .ok (.if_icmp .le 5, 3) := by decide +kernel
theorem d_CX_parse6_6 : decode b_CX_parse 6 = .ok (.aconst_null, 1) := by decide +kernel
theorem d_CX_parse6_7 : decode b_CX_parse 7 = .ok (.areturn, 1) := by decide +kernel
theorem d_CX_parse6_8 : decode b_CX_parse 8 = .ok (.aload_n 0, 1) := by decide +kernel
theorem d_CX_parse6_9 : decode b_CX_parse 9 = .ok (.invokevirtual 1, 3) := by decide +kernel
theorem d_CX_parse6_12 : decode b_CX_parse 12 = .ok (.tableswitch 119 1 3 #[28, 52, 77], 28) := by decide +kernel
theorem d_CX_parse6_40 : decode b_CX_parse 40 = .ok (.new 7, 3) := by decide +kernel
theorem d_CX_parse6_43 : decode b_CX_parse 43 = .ok (.dup, 1) := by decide +kernel
theorem d_CX_parse6_44 : decode b_CX_parse 44 = .ok (.aload_n 0, 1) := by decide +kernel
theorem d_CX_parse6_45 : decode b_CX_parse 45 = .ok (.getfield 9, 3) := by decide +kernel
theorem d_CX_parse6_48 : decode b_CX_parse 48 = .ok (.invokespecial 13, 3) := by decide +kernel
theorem d_CX_parse6_51 : decode b_CX_parse 51 = .ok (.astore_n 2, 1) := by decide +kernel
theorem d_CX_parse6_52 : decode b_CX_parse 52 = .ok (.aload_n 0, 1) := by decide +kernel
theorem d_CX_parse6_53 : decode b_CX_parse 53 = .ok (.dup, 1) := by decide +kernel
theorem d_CX_parse6_54 : decode b_CX_parse 54 = .ok (.getfield 9, 3) := by decide +kernel
theorem d_CX_parse6_57 : decode b_CX_parse 57 = .ok (.iconst 1, 1) := by decide +kernel
theorem d_CX_parse6_58 : decode b_CX_parse 58 = .ok (.iadd, 1) := by decide +kernel
theorem d_CX_parse6_59 : decode b_CX_parse 59 = .ok (.putfield 9, 3) := by decide +kernel
theorem d_CX_parse6_62 : decode b_CX_parse 62 = .ok (.aload_n 2, 1) := by decide +kernel
theorem d_CX_parse6_63 : decode b_CX_parse 63 = .ok (.areturn, 1) := by decide +kernel
theorem d_CX_parse6_64 : decode b_CX_parse 64 = .ok (.aload_n 0, 1) := by decide +kernel
theorem d_CX_parse6_65 : decode b_CX_parse 65 = .ok (.iload_n 1, 1) := by decide +kernel
theorem d_CX_parse6_66 : decode b_CX_parse 66 = .ok (.iconst 1, 1) := by decide +kernel
theorem d_CX_parse6_67 : decode b_CX_parse 67 = .ok (.iadd, 1) := by decide +kernel
theorem d_CX_parse6_68 : decode b_CX_parse 68 = .ok (.invokestatic 17, 3) := by decide +kernel
theorem d_CX_parse6_71 : decode b_CX_parse 71 = .ok (.astore_n 2, 1) := by decide +kernel
theorem d_CX_parse6_72 : decode b_CX_parse 72 = .ok (.aload_n 2, 1) := by decide +kernel
theorem d_CX_parse6_73 : decode b_CX_parse 73 = .ok (.ifnonnull 7, 3) := by decide +kernel
theorem d_CX_parse6_76 : decode b_CX_parse 76 = .ok (.aconst_null, 1) := by decide +kernel
theorem d_CX_parse6_77 : decode b_CX_parse 77 = .ok (.goto 11, 3) := by decide +kernel
theorem d_CX_parse6_80 : decode b_CX_parse 80 = .ok (.new 23, 3) := by decide +kernel
theorem d_CX_parse6_83 : decode b_CX_parse 83 = .ok (.dup, 1) := by decide +kernel
theorem d_CX_parse6_84 : decode b_CX_parse 84 = .ok (.aload_n 2, 1) := by decide +kernel
theorem d_CX_parse6_85 : decode b_CX_parse 85 = .ok (.invokespecial 25, 3) := by decide +kernel
theorem d_CX_parse6_88 : decode b_CX_parse 88 = .ok (.areturn, 1) := by decide +kernel
theorem d_CX_parse6_89 : decode b_CX_parse 89 = .ok (.aload_n 0, 1) := by decide +kernel
theorem d_CX_parse6_90 : decode b_CX_parse 90 = .ok (.iload_n 1, 1) := by decide +kernel
theorem d_CX_parse6_91 : decode b_CX_parse 91 = .ok (.iconst 1, 1) := by decide +kernel
theorem d_CX_parse6_92 : decode b_CX_parse 92 = .ok (.iadd, 1) := by decide +kernel
theorem d_CX_parse6_93 : decode b_CX_parse 93 = .ok (.invokestatic 17, 3) := by decide +kernel
theorem d_CX_parse6_96 : decode b_CX_parse 96 = .ok (.astore_n 2, 1) := by decide +kernel
theorem d_CX_parse6_97 : decode b_CX_parse 97 = .ok (.aload_n 2, 1) := by decide +kernel
theorem d_CX_parse6_98 : decode b_CX_parse 98 = .ok (.ifnonnull 7, 3) := by decide +kernel
theorem d_CX_parse6_101 : decode b_CX_parse 101 = .ok (.aconst_null, 1) := by decide +kernel
theorem d_CX_parse6_102 : decode b_CX_parse 102 = .ok (.goto 10, 3) := by decide +kernel
theorem d_CX_parse6_105 : decode b_CX_parse 105 = .ok (.aload_n 0, 1) := by decide +kernel
theorem d_CX_parse6_106 : decode b_CX_parse 106 = .ok (.iload_n 1, 1) := by decide +kernel
theorem d_CX_parse6_107 : decode b_CX_parse 107 = .ok (.iconst 1, 1) := by decide +kernel
theorem d_CX_parse6_108 : decode b_CX_parse 108 = .ok (.iadd, 1) := by decide +kernel
theorem d_CX_parse6_109 : decode b_CX_parse 109 = .ok (.invokestatic 17, 3) := by decide +kernel
theorem d_CX_parse6_112 : decode b_CX_parse 112 = .ok (.astore_n 3, 1) := by decide +kernel
theorem d_CX_parse6_113 : decode b_CX_parse 113 = .ok (.aload_n 3, 1) := by decide +kernel
theorem d_CX_parse6_114 : decode b_CX_parse 114 = .ok (.ifnonnull 7, 3) := by decide +kernel
theorem d_CX_parse6_117 : decode b_CX_parse 117 = .ok (.aconst_null, 1) := by decide +kernel
theorem d_CX_parse6_118 : decode b_CX_parse 118 = .ok (.goto 12, 3) := by decide +kernel
theorem d_CX_parse6_121 : decode b_CX_parse 121 = .ok (.new 28, 3) := by decide +kernel
theorem d_CX_parse6_124 : decode b_CX_parse 124 = .ok (.dup, 1) := by decide +kernel
theorem d_CX_parse6_125 : decode b_CX_parse 125 = .ok (.aload_n 2, 1) := by decide +kernel
theorem d_CX_parse6_126 : decode b_CX_parse 126 = .ok (.aload_n 3, 1) := by decide +kernel
theorem d_CX_parse6_127 : decode b_CX_parse 127 = .ok (.invokespecial 30, 3) := by decide +kernel
theorem d_CX_parse6_130 : decode b_CX_parse 130 = .ok (.areturn, 1) := by decide +kernel
theorem d_CX_parse6_131 : decode b_CX_parse 131 = .ok (.aconst_null, 1) := by decide +kernel
theorem d_CX_parse6_132 : decode b_CX_parse 132 = .ok (.areturn, 1) := by decide +kernel
def bk_CX_parse6_112 (Q : Int → zS → Prop) (v2 : Int) (z0 : Int) (σ : zS) : Prop :=
  ((z0 < 0 →
    Q (-1) σ) ∧
   (¬ z0 < 0 →
    zWf σ ∧ 0 ≤ σ 72 0 ∧ zvp σ z0 ∧ zvp σ v2 ∧ ∀ σ35, σ35 = znew6 2 σ →
    wp_NA_init (fun σ37 =>
      zle σ35 σ37 ∧
      Q (σ 72 0) σ37) (σ 72 0) v2 z0 σ35))
def wp_CX_parse6 (Q : Int → zS → Prop) (v1 : Int) (σ : zS) : Prop :=
  zc v1 ∧ ((v1 ≤ 7 →
    wp_DG_next (fun r4 σ2 =>
      zle σ σ2 ∧
      zc r4 ∧ ((r4 = 1 →
        zWf σ2 ∧ 0 ≤ σ2 72 0 ∧ ∀ σ8, σ8 = znew6 0 σ2 →
        wp_PI_init (fun σ10 =>
          zle σ8 σ10 ∧
          ∀ y12, y12 = σ2 72 0 →
          ∀ σ13, σ13 = zup σ10 62 0 ((σ10 62 0) + 1) →
          Q y12 σ13) (σ2 72 0) (σ8 62 0) σ8) ∧
       (r4 = 2 →
        wp_CX_parse7 (fun r16 σ14 =>
          ((r16 < 0 →
            Q (-1) σ14) ∧
           (¬ r16 < 0 →
            zWf σ14 ∧ 0 ≤ σ14 72 0 ∧ zvp σ14 r16 ∧ ∀ σ20, σ20 = znew6 1 σ14 →
            wp_IN_init (fun σ22 =>
              zle σ20 σ22 ∧
              Q (σ14 72 0) σ22) (σ14 72 0) r16 σ20))) (v1 + 1) σ2) ∧
       (r4 = 3 →
        wp_CX_parse7 (fun r26 σ24 =>
          ((r26 < 0 →
            bk_CX_parse6_112 Q r26 (-1) σ24) ∧
           (¬ r26 < 0 →
            zvp σ24 r26 ∧ wp_CX_parse7 (fun r29 σ27 =>
              bk_CX_parse6_112 Q r26 r29 σ27) (v1 + 1) σ24))) (v1 + 1) σ2) ∧
       (r4 < 1 ∨ 3 < r4 →
        Q (-1) σ2))) σ) ∧
   (¬ v1 ≤ 7 →
    Q (-1) σ))
set_option maxHeartbeats 4000000 in
set_option maxRecDepth 100000 in
theorem wk_CX_parse6_112 {E : zE} {D : va_G} {g : zG} {A : Nat → Prop} {ad0 : zA} {σ0 : zS} {Q : Int → zS → Prop} (C : zX E b_CX_parse R_CX D g { frames := 5, cells := 7, slots := 14, locals := 108 } 4) (R : zRt E (some (.object "CellMapper$Pattern")) (zJr D g ad0 σ0 6 Q A) 7 14 A) (S : zSt g A (zst E) (zst E).heap) (hA : ∀ q, (zst E).heap.size ≤ q → A q) (ad : zA) (v2 : Int) (z0 : Int) (σ : zS) (hX : zEx ad0 σ0 ad σ) (h : bk_CX_parse6_112 Q v2 z0 σ) : zW E (zOK D A (zst E) g ad) 6 12 112 [(2, zr ad 6 v2)] [zr ad 6 z0] σ := by
  unfold bk_CX_parse6_112 at h
  refine z_astoreZ_n (L' := [(3, zr ad 6 z0), (2, zr ad 6 v2)]) C (pc := 112) d_CX_parse6_112 (by decide) (congrArg (List.cons _) (flt_eq (j := 3) rfl (List.forall_mem_singleton.mpr (zr_cat _ _ _)) rfl)) ?_
  refine z_aloadZ_n C (pc := 113) d_CX_parse6_113 0 rfl ?_
  refine z_ifnonnull (tgt := 121) C (pc := 114) d_CX_parse6_114 (by decide) h (fun h => ?_) (fun h => ?_)
  · obtain ⟨hc31, hc32, hc33, hc34, h⟩ := h
    refine xa_new6c (fun ad => [(3, zr ad 6 z0), (2, zr ad 6 v2)]) (fun ad => []) C hA hc31 hc32 wd_409 (pc := 121) d_CX_parse6_121 ⟨Nat.le_of_ble_eq_true rfl, Nat.le_of_ble_eq_true rfl⟩ (fun ad' ha => ⟨by simp only [zr_agP (x := z0) ha hc33, zr_agP (x := v2) ha hc34], rfl⟩) (fun ad hE36 => ?_)
    refine zN h (fun σ35 eσ35 h => ?_)
    rw [← eσ35] at hE36
    have hX := hX.trans hE36
    refine z_dup C (pc := 124) d_CX_parse6_124 (zr_cat _ _ _) ?_
    refine z_aloadZ_n C (pc := 125) d_CX_parse6_125 1 rfl ?_
    refine z_aloadZ_n C (pc := 126) d_CX_parse6_126 0 rfl ?_
    refine x_callINv (hkn := ⟨Nat.le_of_ble_eq_true rfl, Nat.le_of_ble_eq_true rfl⟩) (As := [zr ad 6 v2, zr ad 6 z0]) (st := [zr ad 6 (σ 72 0)]) (a := ad (6, (σ 72 0).toNat)) C S fi_NA_init (by simp [zNs]) (pc := 127) d_CX_parse6_127 ⟨rfl, rfl, Nat.le_of_ble_eq_true rfl, Nat.le_of_ble_eq_true rfl⟩ rfl (by rw [zr_s ad 6 hc32]; rfl) (by simp [zr_cat, kv_cat, cat_i, cat_l, cat_r]) h (c_NA_init (zln E) D g ad _ _ _ _ _) (fun σ37 h => ?_)
    obtain ⟨hE38, h⟩ := h
    have hX := hX.le hE38
    exact za_aret C R hX (Or.inl ⟨_, rfl⟩) (pc := 130) d_CX_parse6_130 h
  · refine z_nullZ (ad := ad) 6 C (pc := 117) d_CX_parse6_117 ?_
    refine z_goto (tgt := 130) C (pc := 118) d_CX_parse6_118 (by decide) ?_
    refine zW.widen (k' := 7) (n' := 14) (by decide) (by decide) ?_
    exact za_aret C R hX (Or.inl ⟨_, rfl⟩) (pc := 130) d_CX_parse6_130 h
set_option maxHeartbeats 4000000 in
set_option maxRecDepth 100000 in
theorem c_CX_parse6 (l : Launch) (D : va_G) (g : zG) (ad : zA) (v1 : Int) (Q : Int → zS → Prop) (σ : zS) (h : wp_CX_parse6 Q v1 σ) (sz : Nat) : zHr 6 l y_CX_parse b_CX_parse 4 (some (.object "CellMapper$Pattern")) { frames := 5, cells := 7, slots := 14, locals := 108 } D g ad σ [.ref (ad (0, 2)), .int (zi v1)] Q sz 7 14 := by
  unfold wp_CX_parse6 at h
  refine zA_of (by decide) (Nat.le_of_ble_eq_true rfl) (fun E C R S hA => ?_)
  have C : zX E b_CX_parse R_CX D g { frames := 5, cells := 7, slots := 14, locals := 108 } 4 := C
  have hX : zEx ad σ ad σ := zEx.rf
  refine z_sub (L' := [(0, .ref (ad (0, 2))), (1, .int (zi v1))]) [0, 1] rfl ?_
  refine z_iload_n C (pc := 0) d_CX_parse6_0 1 rfl ?_
  refine z_bipush C (pc := 1) d_CX_parse6_1 (by decide) ?_
  obtain ⟨hc1, h⟩ := h
  refine z_icmp_le (tgt := 8) C (pc := 3) d_CX_parse6_3 (by decide) hc1 (by decide) h (fun h => ?_) (fun h => ?_)
  · refine z_aload_n C (pc := 8) d_CX_parse6_8 0 rfl ?_
    refine x_callVi (hkn := ⟨Nat.le_of_ble_eq_true rfl, Nat.le_of_ble_eq_true rfl⟩) (As := []) (st := []) C S fy_DG_next (0, 2) (zids_fix zfix_2) rfl rfl wd_382 (pc := 9) d_CX_parse6_9 ⟨rfl, rfl, Nat.le_of_ble_eq_true rfl, Nat.le_of_ble_eq_true rfl⟩ rfl rfl (Nat.le_of_ble_eq_true rfl) h (c_DG_next (zln E) D g ad _ _) (fun r4 σ2 h => ?_)
    obtain ⟨hE3, h⟩ := h
    have hX := hX.le hE3
    obtain ⟨hc5, h⟩ := h
    by_cases q39 : r4 = 1
    · have h := h.1 q39
      refine z_tableIn (off := 28) (tgt := 40) C (pc := 12) d_CX_parse6_12 hc5 (by omega) (by omega) (by rw [q39]; rfl) (by decide) ?_
      refine z_sub (L' := [(0, .ref (ad (0, 2)))]) [0] rfl ?_
      obtain ⟨hc6, hc7, h⟩ := h
      refine xa_new6a (fun ad => [(0, .ref (ad (0, 2)))]) (fun ad => []) C hA hc6 hc7 wd_386 (pc := 40) d_CX_parse6_40 ⟨Nat.le_of_ble_eq_true rfl, Nat.le_of_ble_eq_true rfl⟩ (fun ad' ha => ⟨by simp only [zo_ag ha zfix_2 (by decide)], rfl⟩) (fun ad hE9 => ?_)
      refine zN h (fun σ8 eσ8 h => ?_)
      rw [← eσ8] at hE9
      have hX := hX.trans hE9
      refine z_dup C (pc := 43) d_CX_parse6_43 (zr_cat _ _ _) ?_
      refine z_aload_n C (pc := 44) d_CX_parse6_44 0 rfl ?_
      refine x_getD C 1 (by decide) wd_77 (pc := 45) d_CX_parse6_45 ?_
      refine x_callINv (hkn := ⟨Nat.le_of_ble_eq_true rfl, Nat.le_of_ble_eq_true rfl⟩) (As := [.int (zi (σ8 62 0))]) (st := [zr ad 6 (σ2 72 0)]) (a := ad (6, (σ2 72 0).toNat)) C S fi_PI_init (by simp [zNs]) (pc := 48) d_CX_parse6_48 ⟨rfl, rfl, Nat.le_of_ble_eq_true rfl, Nat.le_of_ble_eq_true rfl⟩ rfl (by rw [zr_s ad 6 hc7]; rfl) (by simp [zr_cat, kv_cat, cat_i, cat_l, cat_r]) h (c_PI_init (zln E) D g ad _ _ _ _) (fun σ10 h => ?_)
      obtain ⟨hE11, h⟩ := h
      have hX := hX.le hE11
      refine zNz h (fun y12 ey12 h => ?_)
      refine z_astoreZ_n (L' := [(2, zr ad 6 y12), (0, .ref (ad (0, 2)))]) C (pc := 51) d_CX_parse6_51 (by decide) rfl ?_
      refine z_aload_n C (pc := 52) d_CX_parse6_52 1 rfl ?_
      refine z_dup C (pc := 53) d_CX_parse6_53 rfl ?_
      refine x_getD C 1 (by decide) wd_77 (pc := 54) d_CX_parse6_54 ?_
      refine z_iconst C (pc := 57) d_CX_parse6_57 ?_
      refine z_iadd C (pc := 58) d_CX_parse6_58 ?_
      refine x_putD C 1 (by decide) wd_77 (pc := 59) d_CX_parse6_59 ?_
      refine zN h (fun σ13 eσ13 h => ?_)
      have hX := hX.upE eσ13 (by decide) (by decide) (by decide)
      refine z_aloadZ_n C (pc := 62) d_CX_parse6_62 0 rfl ?_
      refine zW.widen (k' := 7) (n' := 14) (by decide) (by decide) ?_
      exact za_aret C R hX (Or.inl ⟨_, rfl⟩) (pc := 63) d_CX_parse6_63 h
    · have h := h.2
      by_cases q40 : r4 = 2
      · have h := h.1 q40
        refine z_tableIn (off := 52) (tgt := 64) C (pc := 12) d_CX_parse6_12 hc5 (by omega) (by omega) (by rw [q40]; rfl) (by decide) ?_
        refine z_aload_n C (pc := 64) d_CX_parse6_64 0 rfl ?_
        refine z_iload_n C (pc := 65) d_CX_parse6_65 1 rfl ?_
        refine z_iconst C (pc := 66) d_CX_parse6_66 ?_
        refine z_iadd C (pc := 67) d_CX_parse6_67 ?_
        refine z_sub (L' := []) [] rfl ?_
        refine xa_callSr (As := [.ref (ad (0, 2)), .int (zi (v1 + 1))]) (fun ad => []) (fun ad => []) C S hA fs_CX_parse wd_379 (pc := 68) d_CX_parse6_68 ⟨rfl, rfl, Nat.le_of_ble_eq_true rfl, Nat.le_of_ble_eq_true rfl⟩ ⟨Nat.le_of_ble_eq_true rfl, Nat.le_of_ble_eq_true rfl⟩ rfl rfl (Nat.le_of_ble_eq_true rfl) (fun ad' ha => ⟨rfl, rfl⟩) h (c_CX_parse7 (zln E) D g ad _ _ _) (fun r16 σ14 ad hE15 h => ?_)
        have hX := hX.trans hE15
        refine z_astoreZ_n (L' := [(2, zr ad 6 r16)]) C (pc := 71) d_CX_parse6_71 (by decide) rfl ?_
        refine z_aloadZ_n C (pc := 72) d_CX_parse6_72 0 rfl ?_
        refine z_ifnonnull (tgt := 80) C (pc := 73) d_CX_parse6_73 (by decide) h (fun h => ?_) (fun h => ?_)
        · obtain ⟨hc17, hc18, hc19, h⟩ := h
          refine xa_new6b (fun ad => [(2, zr ad 6 r16)]) (fun ad => []) C hA hc17 hc18 wd_399 (pc := 80) d_CX_parse6_80 ⟨Nat.le_of_ble_eq_true rfl, Nat.le_of_ble_eq_true rfl⟩ (fun ad' ha => ⟨by simp only [zr_agP (x := r16) ha hc19], rfl⟩) (fun ad hE21 => ?_)
          refine zN h (fun σ20 eσ20 h => ?_)
          rw [← eσ20] at hE21
          have hX := hX.trans hE21
          refine z_dup C (pc := 83) d_CX_parse6_83 (zr_cat _ _ _) ?_
          refine z_aloadZ_n C (pc := 84) d_CX_parse6_84 0 rfl ?_
          refine x_callINv (hkn := ⟨Nat.le_of_ble_eq_true rfl, Nat.le_of_ble_eq_true rfl⟩) (As := [zr ad 6 r16]) (st := [zr ad 6 (σ14 72 0)]) (a := ad (6, (σ14 72 0).toNat)) C S fi_IN_init (by simp [zNs]) (pc := 85) d_CX_parse6_85 ⟨rfl, rfl, Nat.le_of_ble_eq_true rfl, Nat.le_of_ble_eq_true rfl⟩ rfl (by rw [zr_s ad 6 hc18]; rfl) (by simp [zr_cat, kv_cat, cat_i, cat_l, cat_r]) h (c_IN_init (zln E) D g ad _ _ _ _) (fun σ22 h => ?_)
          obtain ⟨hE23, h⟩ := h
          have hX := hX.le hE23
          refine zW.widen (k' := 7) (n' := 14) (by decide) (by decide) ?_
          exact za_aret C R hX (Or.inl ⟨_, rfl⟩) (pc := 88) d_CX_parse6_88 h
        · refine z_nullZ (ad := ad) 6 C (pc := 76) d_CX_parse6_76 ?_
          refine z_goto (tgt := 88) C (pc := 77) d_CX_parse6_77 (by decide) ?_
          refine zW.widen (k' := 7) (n' := 14) (by decide) (by decide) ?_
          exact za_aret C R hX (Or.inl ⟨_, rfl⟩) (pc := 88) d_CX_parse6_88 h
      · have h := h.2
        by_cases q41 : r4 = 3
        · have h := h.1 q41
          refine z_tableIn (off := 77) (tgt := 89) C (pc := 12) d_CX_parse6_12 hc5 (by omega) (by omega) (by rw [q41]; rfl) (by decide) ?_
          refine z_aload_n C (pc := 89) d_CX_parse6_89 0 rfl ?_
          refine z_iload_n C (pc := 90) d_CX_parse6_90 1 rfl ?_
          refine z_iconst C (pc := 91) d_CX_parse6_91 ?_
          refine z_iadd C (pc := 92) d_CX_parse6_92 ?_
          refine xa_callSr (As := [.ref (ad (0, 2)), .int (zi (v1 + 1))]) (fun ad => [(0, .ref (ad (0, 2))), (1, .int (zi v1))]) (fun ad => []) C S hA fs_CX_parse wd_379 (pc := 93) d_CX_parse6_93 ⟨rfl, rfl, Nat.le_of_ble_eq_true rfl, Nat.le_of_ble_eq_true rfl⟩ ⟨Nat.le_of_ble_eq_true rfl, Nat.le_of_ble_eq_true rfl⟩ rfl rfl (Nat.le_of_ble_eq_true rfl) (fun ad' ha => ⟨by simp only [zo_ag ha zfix_2 (by decide)], rfl⟩) h (c_CX_parse7 (zln E) D g ad _ _ _) (fun r26 σ24 ad hE25 h => ?_)
          have hX := hX.trans hE25
          refine z_astoreZ_n (L' := [(2, zr ad 6 r26), (0, .ref (ad (0, 2))), (1, .int (zi v1))]) C (pc := 96) d_CX_parse6_96 (by decide) rfl ?_
          refine z_aloadZ_n C (pc := 97) d_CX_parse6_97 0 rfl ?_
          refine z_ifnonnull (tgt := 105) C (pc := 98) d_CX_parse6_98 (by decide) h (fun h => ?_) (fun h => ?_)
          · refine z_aload_n C (pc := 105) d_CX_parse6_105 1 rfl ?_
            refine z_iload_n C (pc := 106) d_CX_parse6_106 2 rfl ?_
            refine z_iconst C (pc := 107) d_CX_parse6_107 ?_
            refine z_iadd C (pc := 108) d_CX_parse6_108 ?_
            refine z_sub (L' := [(2, zr ad 6 r26)]) [0] rfl ?_
            obtain ⟨hc30, h⟩ := h
            refine xa_callSr (As := [.ref (ad (0, 2)), .int (zi (v1 + 1))]) (fun ad => [(2, zr ad 6 r26)]) (fun ad => []) C S hA fs_CX_parse wd_379 (pc := 109) d_CX_parse6_109 ⟨rfl, rfl, Nat.le_of_ble_eq_true rfl, Nat.le_of_ble_eq_true rfl⟩ ⟨Nat.le_of_ble_eq_true rfl, Nat.le_of_ble_eq_true rfl⟩ rfl rfl (Nat.le_of_ble_eq_true rfl) (fun ad' ha => ⟨by simp only [zr_agP (x := r26) ha hc30], rfl⟩) h (c_CX_parse7 (zln E) D g ad _ _ _) (fun r29 σ27 ad hE28 h => ?_)
            have hX := hX.trans hE28
            exact wk_CX_parse6_112 C R S hA ad _ _ _ hX h
          · refine z_nullZ (ad := ad) 6 C (pc := 101) d_CX_parse6_101 ?_
            refine z_goto (tgt := 112) C (pc := 102) d_CX_parse6_102 (by decide) ?_
            refine zW.widen (k' := 6) (n' := 12) (by decide) (by decide) ?_
            refine z_sub [0] rfl ?_
            exact wk_CX_parse6_112 C R S hA ad _ _ _ hX h
        · have h := h.2
          have h := h (show r4 < 1 ∨ 3 < r4 by omega)
          refine z_tableOut (tgt := 131) C (pc := 12) d_CX_parse6_12 hc5 (show r4 < 1 ∨ 3 < r4 by omega) (by decide) ?_
          refine z_nullZ (ad := ad) 6 C (pc := 131) d_CX_parse6_131 ?_
          refine zW.widen (k' := 7) (n' := 14) (by decide) (by decide) ?_
          exact za_aret C R hX (Or.inl ⟨_, rfl⟩) (pc := 132) d_CX_parse6_132 h
  · refine z_nullZ (ad := ad) 6 C (pc := 6) d_CX_parse6_6 ?_
    refine zW.widen (k' := 7) (n' := 14) (by decide) (by decide) ?_
    exact za_aret C R hX (Or.inl ⟨_, rfl⟩) (pc := 7) d_CX_parse6_7 h
theorem d_CX_parse5_0 : decode b_CX_parse 0 = .ok (.iload_n 1, 1) := by decide +kernel
theorem d_CX_parse5_1 : decode b_CX_parse 1 = .ok (.bipush 7, 2) := by decide +kernel
theorem d_CX_parse5_3 : decode b_CX_parse 3 = .ok (.if_icmp .le 5, 3) := by decide +kernel
theorem d_CX_parse5_6 : decode b_CX_parse 6 = .ok (.aconst_null, 1) := by decide +kernel
theorem d_CX_parse5_7 : decode b_CX_parse 7 = .ok (.areturn, 1) := by decide +kernel
theorem d_CX_parse5_8 : decode b_CX_parse 8 = .ok (.aload_n 0, 1) := by decide +kernel
theorem d_CX_parse5_9 : decode b_CX_parse 9 = .ok (.invokevirtual 1, 3) := by decide +kernel
theorem d_CX_parse5_12 : decode b_CX_parse 12 = .ok (.tableswitch 119 1 3 #[28, 52, 77], 28) := by decide +kernel
theorem d_CX_parse5_40 : decode b_CX_parse 40 = .ok (.new 7, 3) := by decide +kernel
theorem d_CX_parse5_43 : decode b_CX_parse 43 = .ok (.dup, 1) := by decide +kernel
theorem d_CX_parse5_44 : decode b_CX_parse 44 = .ok (.aload_n 0, 1) := by decide +kernel
theorem d_CX_parse5_45 : decode b_CX_parse 45 = .ok (.getfield 9, 3) := by decide +kernel
theorem d_CX_parse5_48 : decode b_CX_parse 48 = .ok (.invokespecial 13, 3) := by decide +kernel
theorem d_CX_parse5_51 : decode b_CX_parse 51 = .ok (.astore_n 2, 1) := by decide +kernel
theorem d_CX_parse5_52 : decode b_CX_parse 52 = .ok (.aload_n 0, 1) := by decide +kernel
theorem d_CX_parse5_53 : decode b_CX_parse 53 = .ok (.dup, 1) := by decide +kernel
theorem d_CX_parse5_54 : decode b_CX_parse 54 = .ok (.getfield 9, 3) := by decide +kernel
theorem d_CX_parse5_57 : decode b_CX_parse 57 = .ok (.iconst 1, 1) := by decide +kernel
theorem d_CX_parse5_58 : decode b_CX_parse 58 = .ok (.iadd, 1) := by decide +kernel
theorem d_CX_parse5_59 : decode b_CX_parse 59 = .ok (.putfield 9, 3) := by decide +kernel
theorem d_CX_parse5_62 : decode b_CX_parse 62 = .ok (.aload_n 2, 1) := by decide +kernel
theorem d_CX_parse5_63 : decode b_CX_parse 63 = .ok (.areturn, 1) := by decide +kernel
theorem d_CX_parse5_64 : decode b_CX_parse 64 = .ok (.aload_n 0, 1) := by decide +kernel
theorem d_CX_parse5_65 : decode b_CX_parse 65 = .ok (.iload_n 1, 1) := by decide +kernel
theorem d_CX_parse5_66 : decode b_CX_parse 66 = .ok (.iconst 1, 1) := by decide +kernel
theorem d_CX_parse5_67 : decode b_CX_parse 67 = .ok (.iadd, 1) := by decide +kernel
theorem d_CX_parse5_68 : decode b_CX_parse 68 = .ok (.invokestatic 17, 3) := by decide +kernel
theorem d_CX_parse5_71 : decode b_CX_parse 71 = .ok (.astore_n 2, 1) := by decide +kernel
theorem d_CX_parse5_72 : decode b_CX_parse 72 = .ok (.aload_n 2, 1) := by decide +kernel
theorem d_CX_parse5_73 : decode b_CX_parse 73 = .ok (.ifnonnull 7, 3) := by decide +kernel
theorem d_CX_parse5_76 : decode b_CX_parse 76 = .ok (.aconst_null, 1) := by decide +kernel
theorem d_CX_parse5_77 : decode b_CX_parse 77 = .ok (.goto 11, 3) := by decide +kernel
theorem d_CX_parse5_80 : decode b_CX_parse 80 = .ok (.new 23, 3) := by decide +kernel
theorem d_CX_parse5_83 : decode b_CX_parse 83 = .ok (.dup, 1) := by decide +kernel
theorem d_CX_parse5_84 : decode b_CX_parse 84 = .ok (.aload_n 2, 1) := by decide +kernel
theorem d_CX_parse5_85 : decode b_CX_parse 85 = .ok (.invokespecial 25, 3) := by decide +kernel
theorem d_CX_parse5_88 : decode b_CX_parse 88 = .ok (.areturn, 1) := by decide +kernel
theorem d_CX_parse5_89 : decode b_CX_parse 89 = .ok (.aload_n 0, 1) := by decide +kernel
theorem d_CX_parse5_90 : decode b_CX_parse 90 = .ok (.iload_n 1, 1) := by decide +kernel
theorem d_CX_parse5_91 : decode b_CX_parse 91 = .ok (.iconst 1, 1) := by decide +kernel
theorem d_CX_parse5_92 : decode b_CX_parse 92 = .ok (.iadd, 1) := by decide +kernel
theorem d_CX_parse5_93 : decode b_CX_parse 93 = .ok (.invokestatic 17, 3) := by decide +kernel
theorem d_CX_parse5_96 : decode b_CX_parse 96 = .ok (.astore_n 2, 1) := by decide +kernel
theorem d_CX_parse5_97 : decode b_CX_parse 97 = .ok (.aload_n 2, 1) := by decide +kernel
theorem d_CX_parse5_98 : decode b_CX_parse 98 = .ok (.ifnonnull 7, 3) := by decide +kernel
theorem d_CX_parse5_101 : decode b_CX_parse 101 = .ok (.aconst_null, 1) := by decide +kernel
theorem d_CX_parse5_102 : decode b_CX_parse 102 = .ok (.goto 10, 3) := by decide +kernel
theorem d_CX_parse5_105 : decode b_CX_parse 105 = .ok (.aload_n 0, 1) := by decide +kernel
theorem d_CX_parse5_106 : decode b_CX_parse 106 = .ok (.iload_n 1, 1) := by decide +kernel
theorem d_CX_parse5_107 : decode b_CX_parse 107 = .ok (.iconst 1, 1) := by decide +kernel
theorem d_CX_parse5_108 : decode b_CX_parse 108 = .ok (.iadd, 1) := by decide +kernel
theorem d_CX_parse5_109 : decode b_CX_parse 109 = .ok (.invokestatic 17, 3) := by decide +kernel
theorem d_CX_parse5_112 : decode b_CX_parse 112 = .ok (.astore_n 3, 1) := by decide +kernel
theorem d_CX_parse5_113 : decode b_CX_parse 113 = .ok (.aload_n 3, 1) := by decide +kernel
theorem d_CX_parse5_114 : decode b_CX_parse 114 = .ok (.ifnonnull 7, 3) := by decide +kernel
theorem d_CX_parse5_117 : decode b_CX_parse 117 = .ok (.aconst_null, 1) := by decide +kernel
theorem d_CX_parse5_118 : decode b_CX_parse 118 = .ok (.goto 12, 3) := by decide +kernel
theorem d_CX_parse5_121 : decode b_CX_parse 121 = .ok (.new 28, 3) := by decide +kernel
theorem d_CX_parse5_124 : decode b_CX_parse 124 = .ok (.dup, 1) := by decide +kernel
theorem d_CX_parse5_125 : decode b_CX_parse 125 = .ok (.aload_n 2, 1) := by decide +kernel
theorem d_CX_parse5_126 : decode b_CX_parse 126 = .ok (.aload_n 3, 1) := by decide +kernel
theorem d_CX_parse5_127 : decode b_CX_parse 127 = .ok (.invokespecial 30, 3) := by decide +kernel
theorem d_CX_parse5_130 : decode b_CX_parse 130 = .ok (.areturn, 1) := by decide +kernel
theorem d_CX_parse5_131 : decode b_CX_parse 131 = .ok (.aconst_null, 1) := by decide +kernel
theorem d_CX_parse5_132 : decode b_CX_parse 132 = .ok (.areturn, 1) := by decide +kernel
def bk_CX_parse5_112 (Q : Int → zS → Prop) (v2 : Int) (z0 : Int) (σ : zS) : Prop :=
  ((z0 < 0 →
    Q (-1) σ) ∧
   (¬ z0 < 0 →
    zWf σ ∧ 0 ≤ σ 72 0 ∧ zvp σ z0 ∧ zvp σ v2 ∧ ∀ σ35, σ35 = znew6 2 σ →
    wp_NA_init (fun σ37 =>
      zle σ35 σ37 ∧
      Q (σ 72 0) σ37) (σ 72 0) v2 z0 σ35))
def wp_CX_parse5 (Q : Int → zS → Prop) (v1 : Int) (σ : zS) : Prop :=
  zc v1 ∧ ((v1 ≤ 7 →
    wp_DG_next (fun r4 σ2 =>
      zle σ σ2 ∧
      zc r4 ∧ ((r4 = 1 →
        zWf σ2 ∧ 0 ≤ σ2 72 0 ∧ ∀ σ8, σ8 = znew6 0 σ2 →
        wp_PI_init (fun σ10 =>
          zle σ8 σ10 ∧
          ∀ y12, y12 = σ2 72 0 →
          ∀ σ13, σ13 = zup σ10 62 0 ((σ10 62 0) + 1) →
          Q y12 σ13) (σ2 72 0) (σ8 62 0) σ8) ∧
       (r4 = 2 →
        wp_CX_parse6 (fun r16 σ14 =>
          ((r16 < 0 →
            Q (-1) σ14) ∧
           (¬ r16 < 0 →
            zWf σ14 ∧ 0 ≤ σ14 72 0 ∧ zvp σ14 r16 ∧ ∀ σ20, σ20 = znew6 1 σ14 →
            wp_IN_init (fun σ22 =>
              zle σ20 σ22 ∧
              Q (σ14 72 0) σ22) (σ14 72 0) r16 σ20))) (v1 + 1) σ2) ∧
       (r4 = 3 →
        wp_CX_parse6 (fun r26 σ24 =>
          ((r26 < 0 →
            bk_CX_parse5_112 Q r26 (-1) σ24) ∧
           (¬ r26 < 0 →
            zvp σ24 r26 ∧ wp_CX_parse6 (fun r29 σ27 =>
              bk_CX_parse5_112 Q r26 r29 σ27) (v1 + 1) σ24))) (v1 + 1) σ2) ∧
       (r4 < 1 ∨ 3 < r4 →
        Q (-1) σ2))) σ) ∧
   (¬ v1 ≤ 7 →
    Q (-1) σ))
set_option maxHeartbeats 4000000 in
set_option maxRecDepth 100000 in
theorem wk_CX_parse5_112 {E : zE} {D : va_G} {g : zG} {A : Nat → Prop} {ad0 : zA} {σ0 : zS} {Q : Int → zS → Prop} (C : zX E b_CX_parse R_CX D g { frames := 6, cells := 15, slots := 30, locals := 131 } 4) (R : zRt E (some (.object "CellMapper$Pattern")) (zJr D g ad0 σ0 6 Q A) 15 30 A) (S : zSt g A (zst E) (zst E).heap) (hA : ∀ q, (zst E).heap.size ≤ q → A q) (ad : zA) (v2 : Int) (z0 : Int) (σ : zS) (hX : zEx ad0 σ0 ad σ) (h : bk_CX_parse5_112 Q v2 z0 σ) : zW E (zOK D A (zst E) g ad) 14 28 112 [(2, zr ad 6 v2)] [zr ad 6 z0] σ := by
  unfold bk_CX_parse5_112 at h
  refine z_astoreZ_n (L' := [(3, zr ad 6 z0), (2, zr ad 6 v2)]) C (pc := 112) d_CX_parse5_112 (by decide) (congrArg (List.cons _) (flt_eq (j := 3) rfl (List.forall_mem_singleton.mpr (zr_cat _ _ _)) rfl)) ?_
  refine z_aloadZ_n C (pc := 113) d_CX_parse5_113 0 rfl ?_
  refine z_ifnonnull (tgt := 121) C (pc := 114) d_CX_parse5_114 (by decide) h (fun h => ?_) (fun h => ?_)
  · obtain ⟨hc31, hc32, hc33, hc34, h⟩ := h
    refine xa_new6c (fun ad => [(3, zr ad 6 z0), (2, zr ad 6 v2)]) (fun ad => []) C hA hc31 hc32 wd_409 (pc := 121) d_CX_parse5_121 ⟨Nat.le_of_ble_eq_true rfl, Nat.le_of_ble_eq_true rfl⟩ (fun ad' ha => ⟨by simp only [zr_agP (x := z0) ha hc33, zr_agP (x := v2) ha hc34], rfl⟩) (fun ad hE36 => ?_)
    refine zN h (fun σ35 eσ35 h => ?_)
    rw [← eσ35] at hE36
    have hX := hX.trans hE36
    refine z_dup C (pc := 124) d_CX_parse5_124 (zr_cat _ _ _) ?_
    refine z_aloadZ_n C (pc := 125) d_CX_parse5_125 1 rfl ?_
    refine z_aloadZ_n C (pc := 126) d_CX_parse5_126 0 rfl ?_
    refine x_callINv (hkn := ⟨Nat.le_of_ble_eq_true rfl, Nat.le_of_ble_eq_true rfl⟩) (As := [zr ad 6 v2, zr ad 6 z0]) (st := [zr ad 6 (σ 72 0)]) (a := ad (6, (σ 72 0).toNat)) C S fi_NA_init (by simp [zNs]) (pc := 127) d_CX_parse5_127 ⟨rfl, rfl, Nat.le_of_ble_eq_true rfl, Nat.le_of_ble_eq_true rfl⟩ rfl (by rw [zr_s ad 6 hc32]; rfl) (by simp [zr_cat, kv_cat, cat_i, cat_l, cat_r]) h (c_NA_init (zln E) D g ad _ _ _ _ _) (fun σ37 h => ?_)
    obtain ⟨hE38, h⟩ := h
    have hX := hX.le hE38
    exact za_aret C R hX (Or.inl ⟨_, rfl⟩) (pc := 130) d_CX_parse5_130 h
  · refine z_nullZ (ad := ad) 6 C (pc := 117) d_CX_parse5_117 ?_
    refine z_goto (tgt := 130) C (pc := 118) d_CX_parse5_118 (by decide) ?_
    refine zW.widen (k' := 15) (n' := 30) (by decide) (by decide) ?_
    exact za_aret C R hX (Or.inl ⟨_, rfl⟩) (pc := 130) d_CX_parse5_130 h
set_option maxHeartbeats 4000000 in
set_option maxRecDepth 100000 in
theorem c_CX_parse5 (l : Launch) (D : va_G) (g : zG) (ad : zA) (v1 : Int) (Q : Int → zS → Prop) (σ : zS) (h : wp_CX_parse5 Q v1 σ) (sz : Nat) : zHr 6 l y_CX_parse b_CX_parse 4 (some (.object "CellMapper$Pattern")) { frames := 6, cells := 15, slots := 30, locals := 131 } D g ad σ [.ref (ad (0, 2)), .int (zi v1)] Q sz 15 30 := by
  unfold wp_CX_parse5 at h
  refine zA_of (by decide) (Nat.le_of_ble_eq_true rfl) (fun E C R S hA => ?_)
  have C : zX E b_CX_parse R_CX D g { frames := 6, cells := 15, slots := 30, locals := 131 } 4 := C
  have hX : zEx ad σ ad σ := zEx.rf
  refine z_sub (L' := [(0, .ref (ad (0, 2))), (1, .int (zi v1))]) [0, 1] rfl ?_
  refine z_iload_n C (pc := 0) d_CX_parse5_0 1 rfl ?_
  refine z_bipush C (pc := 1) d_CX_parse5_1 (by decide) ?_
  obtain ⟨hc1, h⟩ := h
  refine z_icmp_le (tgt := 8) C (pc := 3) d_CX_parse5_3 (by decide) hc1 (by decide) h (fun h => ?_) (fun h => ?_)
  · refine z_aload_n C (pc := 8) d_CX_parse5_8 0 rfl ?_
    refine x_callVi (hkn := ⟨Nat.le_of_ble_eq_true rfl, Nat.le_of_ble_eq_true rfl⟩) (As := []) (st := []) C S fy_DG_next (0, 2) (zids_fix zfix_2) rfl rfl wd_382 (pc := 9) d_CX_parse5_9 ⟨rfl, rfl, Nat.le_of_ble_eq_true rfl, Nat.le_of_ble_eq_true rfl⟩ rfl rfl (Nat.le_of_ble_eq_true rfl) h (c_DG_next (zln E) D g ad _ _) (fun r4 σ2 h => ?_)
    obtain ⟨hE3, h⟩ := h
    have hX := hX.le hE3
    obtain ⟨hc5, h⟩ := h
    by_cases q39 : r4 = 1
    · have h := h.1 q39
      refine z_tableIn (off := 28) (tgt := 40) C (pc := 12) d_CX_parse5_12 hc5 (by omega) (by omega) (by rw [q39]; rfl) (by decide) ?_
      refine z_sub (L' := [(0, .ref (ad (0, 2)))]) [0] rfl ?_
      obtain ⟨hc6, hc7, h⟩ := h
      refine xa_new6a (fun ad => [(0, .ref (ad (0, 2)))]) (fun ad => []) C hA hc6 hc7 wd_386 (pc := 40) d_CX_parse5_40 ⟨Nat.le_of_ble_eq_true rfl, Nat.le_of_ble_eq_true rfl⟩ (fun ad' ha => ⟨by simp only [zo_ag ha zfix_2 (by decide)], rfl⟩) (fun ad hE9 => ?_)
      refine zN h (fun σ8 eσ8 h => ?_)
      rw [← eσ8] at hE9
      have hX := hX.trans hE9
      refine z_dup C (pc := 43) d_CX_parse5_43 (zr_cat _ _ _) ?_
      refine z_aload_n C (pc := 44) d_CX_parse5_44 0 rfl ?_
      refine x_getD C 1 (by decide) wd_77 (pc := 45) d_CX_parse5_45 ?_
      refine x_callINv (hkn := ⟨Nat.le_of_ble_eq_true rfl, Nat.le_of_ble_eq_true rfl⟩) (As := [.int (zi (σ8 62 0))]) (st := [zr ad 6 (σ2 72 0)]) (a := ad (6, (σ2 72 0).toNat)) C S fi_PI_init (by simp [zNs]) (pc := 48) d_CX_parse5_48 ⟨rfl, rfl, Nat.le_of_ble_eq_true rfl, Nat.le_of_ble_eq_true rfl⟩ rfl (by rw [zr_s ad 6 hc7]; rfl) (by simp [zr_cat, kv_cat, cat_i, cat_l, cat_r]) h (c_PI_init (zln E) D g ad _ _ _ _) (fun σ10 h => ?_)
      obtain ⟨hE11, h⟩ := h
      have hX := hX.le hE11
      refine zNz h (fun y12 ey12 h => ?_)
      refine z_astoreZ_n (L' := [(2, zr ad 6 y12), (0, .ref (ad (0, 2)))]) C (pc := 51) d_CX_parse5_51 (by decide) rfl ?_
      refine z_aload_n C (pc := 52) d_CX_parse5_52 1 rfl ?_
      refine z_dup C (pc := 53) d_CX_parse5_53 rfl ?_
      refine x_getD C 1 (by decide) wd_77 (pc := 54) d_CX_parse5_54 ?_
      refine z_iconst C (pc := 57) d_CX_parse5_57 ?_
      refine z_iadd C (pc := 58) d_CX_parse5_58 ?_
      refine x_putD C 1 (by decide) wd_77 (pc := 59) d_CX_parse5_59 ?_
      refine zN h (fun σ13 eσ13 h => ?_)
      have hX := hX.upE eσ13 (by decide) (by decide) (by decide)
      refine z_aloadZ_n C (pc := 62) d_CX_parse5_62 0 rfl ?_
      refine zW.widen (k' := 15) (n' := 30) (by decide) (by decide) ?_
      exact za_aret C R hX (Or.inl ⟨_, rfl⟩) (pc := 63) d_CX_parse5_63 h
    · have h := h.2
      by_cases q40 : r4 = 2
      · have h := h.1 q40
        refine z_tableIn (off := 52) (tgt := 64) C (pc := 12) d_CX_parse5_12 hc5 (by omega) (by omega) (by rw [q40]; rfl) (by decide) ?_
        refine z_aload_n C (pc := 64) d_CX_parse5_64 0 rfl ?_
        refine z_iload_n C (pc := 65) d_CX_parse5_65 1 rfl ?_
        refine z_iconst C (pc := 66) d_CX_parse5_66 ?_
        refine z_iadd C (pc := 67) d_CX_parse5_67 ?_
        refine z_sub (L' := []) [] rfl ?_
        refine xa_callSr (As := [.ref (ad (0, 2)), .int (zi (v1 + 1))]) (fun ad => []) (fun ad => []) C S hA fs_CX_parse wd_379 (pc := 68) d_CX_parse5_68 ⟨rfl, rfl, Nat.le_of_ble_eq_true rfl, Nat.le_of_ble_eq_true rfl⟩ ⟨Nat.le_of_ble_eq_true rfl, Nat.le_of_ble_eq_true rfl⟩ rfl rfl (Nat.le_of_ble_eq_true rfl) (fun ad' ha => ⟨rfl, rfl⟩) h (c_CX_parse6 (zln E) D g ad _ _ _) (fun r16 σ14 ad hE15 h => ?_)
        have hX := hX.trans hE15
        refine z_astoreZ_n (L' := [(2, zr ad 6 r16)]) C (pc := 71) d_CX_parse5_71 (by decide) rfl ?_
        refine z_aloadZ_n C (pc := 72) d_CX_parse5_72 0 rfl ?_
        refine z_ifnonnull (tgt := 80) C (pc := 73) d_CX_parse5_73 (by decide) h (fun h => ?_) (fun h => ?_)
        · obtain ⟨hc17, hc18, hc19, h⟩ := h
          refine xa_new6b (fun ad => [(2, zr ad 6 r16)]) (fun ad => []) C hA hc17 hc18 wd_399 (pc := 80) d_CX_parse5_80 ⟨Nat.le_of_ble_eq_true rfl, Nat.le_of_ble_eq_true rfl⟩ (fun ad' ha => ⟨by simp only [zr_agP (x := r16) ha hc19], rfl⟩) (fun ad hE21 => ?_)
          refine zN h (fun σ20 eσ20 h => ?_)
          rw [← eσ20] at hE21
          have hX := hX.trans hE21
          refine z_dup C (pc := 83) d_CX_parse5_83 (zr_cat _ _ _) ?_
          refine z_aloadZ_n C (pc := 84) d_CX_parse5_84 0 rfl ?_
          refine x_callINv (hkn := ⟨Nat.le_of_ble_eq_true rfl, Nat.le_of_ble_eq_true rfl⟩) (As := [zr ad 6 r16]) (st := [zr ad 6 (σ14 72 0)]) (a := ad (6, (σ14 72 0).toNat)) C S fi_IN_init (by simp [zNs]) (pc := 85) d_CX_parse5_85 ⟨rfl, rfl, Nat.le_of_ble_eq_true rfl, Nat.le_of_ble_eq_true rfl⟩ rfl (by rw [zr_s ad 6 hc18]; rfl) (by simp [zr_cat, kv_cat, cat_i, cat_l, cat_r]) h (c_IN_init (zln E) D g ad _ _ _ _) (fun σ22 h => ?_)
          obtain ⟨hE23, h⟩ := h
          have hX := hX.le hE23
          refine zW.widen (k' := 15) (n' := 30) (by decide) (by decide) ?_
          exact za_aret C R hX (Or.inl ⟨_, rfl⟩) (pc := 88) d_CX_parse5_88 h
        · refine z_nullZ (ad := ad) 6 C (pc := 76) d_CX_parse5_76 ?_
          refine z_goto (tgt := 88) C (pc := 77) d_CX_parse5_77 (by decide) ?_
          refine zW.widen (k' := 15) (n' := 30) (by decide) (by decide) ?_
          exact za_aret C R hX (Or.inl ⟨_, rfl⟩) (pc := 88) d_CX_parse5_88 h
      · have h := h.2
        by_cases q41 : r4 = 3
        · have h := h.1 q41
          refine z_tableIn (off := 77) (tgt := 89) C (pc := 12) d_CX_parse5_12 hc5 (by omega) (by omega) (by rw [q41]; rfl) (by decide) ?_
          refine z_aload_n C (pc := 89) d_CX_parse5_89 0 rfl ?_
          refine z_iload_n C (pc := 90) d_CX_parse5_90 1 rfl ?_
          refine z_iconst C (pc := 91) d_CX_parse5_91 ?_
          refine z_iadd C (pc := 92) d_CX_parse5_92 ?_
          refine xa_callSr (As := [.ref (ad (0, 2)), .int (zi (v1 + 1))]) (fun ad => [(0, .ref (ad (0, 2))), (1, .int (zi v1))]) (fun ad => []) C S hA fs_CX_parse wd_379 (pc := 93) d_CX_parse5_93 ⟨rfl, rfl, Nat.le_of_ble_eq_true rfl, Nat.le_of_ble_eq_true rfl⟩ ⟨Nat.le_of_ble_eq_true rfl, Nat.le_of_ble_eq_true rfl⟩ rfl rfl (Nat.le_of_ble_eq_true rfl) (fun ad' ha => ⟨by simp only [zo_ag ha zfix_2 (by decide)], rfl⟩) h (c_CX_parse6 (zln E) D g ad _ _ _) (fun r26 σ24 ad hE25 h => ?_)
          have hX := hX.trans hE25
          refine z_astoreZ_n (L' := [(2, zr ad 6 r26), (0, .ref (ad (0, 2))), (1, .int (zi v1))]) C (pc := 96) d_CX_parse5_96 (by decide) rfl ?_
          refine z_aloadZ_n C (pc := 97) d_CX_parse5_97 0 rfl ?_
          refine z_ifnonnull (tgt := 105) C (pc := 98) d_CX_parse5_98 (by decide) h (fun h => ?_) (fun h => ?_)
          · refine z_aload_n C (pc := 105) d_CX_parse5_105 1 rfl ?_
            refine z_iload_n C (pc := 106) d_CX_parse5_106 2 rfl ?_
            refine z_iconst C (pc := 107) d_CX_parse5_107 ?_
            refine z_iadd C (pc := 108) d_CX_parse5_108 ?_
            refine z_sub (L' := [(2, zr ad 6 r26)]) [0] rfl ?_
            obtain ⟨hc30, h⟩ := h
            refine xa_callSr (As := [.ref (ad (0, 2)), .int (zi (v1 + 1))]) (fun ad => [(2, zr ad 6 r26)]) (fun ad => []) C S hA fs_CX_parse wd_379 (pc := 109) d_CX_parse5_109 ⟨rfl, rfl, Nat.le_of_ble_eq_true rfl, Nat.le_of_ble_eq_true rfl⟩ ⟨Nat.le_of_ble_eq_true rfl, Nat.le_of_ble_eq_true rfl⟩ rfl rfl (Nat.le_of_ble_eq_true rfl) (fun ad' ha => ⟨by simp only [zr_agP (x := r26) ha hc30], rfl⟩) h (c_CX_parse6 (zln E) D g ad _ _ _) (fun r29 σ27 ad hE28 h => ?_)
            have hX := hX.trans hE28
            exact wk_CX_parse5_112 C R S hA ad _ _ _ hX h
          · refine z_nullZ (ad := ad) 6 C (pc := 101) d_CX_parse5_101 ?_
            refine z_goto (tgt := 112) C (pc := 102) d_CX_parse5_102 (by decide) ?_
            refine zW.widen (k' := 14) (n' := 28) (by decide) (by decide) ?_
            refine z_sub [0] rfl ?_
            exact wk_CX_parse5_112 C R S hA ad _ _ _ hX h
        · have h := h.2
          have h := h (show r4 < 1 ∨ 3 < r4 by omega)
          refine z_tableOut (tgt := 131) C (pc := 12) d_CX_parse5_12 hc5 (show r4 < 1 ∨ 3 < r4 by omega) (by decide) ?_
          refine z_nullZ (ad := ad) 6 C (pc := 131) d_CX_parse5_131 ?_
          refine zW.widen (k' := 15) (n' := 30) (by decide) (by decide) ?_
          exact za_aret C R hX (Or.inl ⟨_, rfl⟩) (pc := 132) d_CX_parse5_132 h
  · refine z_nullZ (ad := ad) 6 C (pc := 6) d_CX_parse5_6 ?_
    refine zW.widen (k' := 15) (n' := 30) (by decide) (by decide) ?_
    exact za_aret C R hX (Or.inl ⟨_, rfl⟩) (pc := 7) d_CX_parse5_7 h
theorem d_CX_parse4_0 : decode b_CX_parse 0 = .ok (.iload_n 1, 1) := by decide +kernel
theorem d_CX_parse4_1 : decode b_CX_parse 1 = .ok (.bipush 7, 2) := by decide +kernel
theorem d_CX_parse4_3 : decode b_CX_parse 3 = .ok (.if_icmp .le 5, 3) := by decide +kernel
theorem d_CX_parse4_6 : decode b_CX_parse 6 = .ok (.aconst_null, 1) := by decide +kernel
theorem d_CX_parse4_7 : decode b_CX_parse 7 = .ok (.areturn, 1) := by decide +kernel
theorem d_CX_parse4_8 : decode b_CX_parse 8 = .ok (.aload_n 0, 1) := by decide +kernel
theorem d_CX_parse4_9 : decode b_CX_parse 9 = .ok (.invokevirtual 1, 3) := by decide +kernel
theorem d_CX_parse4_12 : decode b_CX_parse 12 = .ok (.tableswitch 119 1 3 #[28, 52, 77], 28) := by decide +kernel
theorem d_CX_parse4_40 : decode b_CX_parse 40 = .ok (.new 7, 3) := by decide +kernel
theorem d_CX_parse4_43 : decode b_CX_parse 43 = .ok (.dup, 1) := by decide +kernel
theorem d_CX_parse4_44 : decode b_CX_parse 44 = .ok (.aload_n 0, 1) := by decide +kernel
theorem d_CX_parse4_45 : decode b_CX_parse 45 = .ok (.getfield 9, 3) := by decide +kernel
theorem d_CX_parse4_48 : decode b_CX_parse 48 = .ok (.invokespecial 13, 3) := by decide +kernel
theorem d_CX_parse4_51 : decode b_CX_parse 51 = .ok (.astore_n 2, 1) := by decide +kernel
theorem d_CX_parse4_52 : decode b_CX_parse 52 = .ok (.aload_n 0, 1) := by decide +kernel
theorem d_CX_parse4_53 : decode b_CX_parse 53 = .ok (.dup, 1) := by decide +kernel
theorem d_CX_parse4_54 : decode b_CX_parse 54 = .ok (.getfield 9, 3) := by decide +kernel
theorem d_CX_parse4_57 : decode b_CX_parse 57 = .ok (.iconst 1, 1) := by decide +kernel
theorem d_CX_parse4_58 : decode b_CX_parse 58 = .ok (.iadd, 1) := by decide +kernel
theorem d_CX_parse4_59 : decode b_CX_parse 59 = .ok (.putfield 9, 3) := by decide +kernel
theorem d_CX_parse4_62 : decode b_CX_parse 62 = .ok (.aload_n 2, 1) := by decide +kernel
theorem d_CX_parse4_63 : decode b_CX_parse 63 = .ok (.areturn, 1) := by decide +kernel
theorem d_CX_parse4_64 : decode b_CX_parse 64 = .ok (.aload_n 0, 1) := by decide +kernel
theorem d_CX_parse4_65 : decode b_CX_parse 65 = .ok (.iload_n 1, 1) := by decide +kernel
theorem d_CX_parse4_66 : decode b_CX_parse 66 = .ok (.iconst 1, 1) := by decide +kernel
theorem d_CX_parse4_67 : decode b_CX_parse 67 = .ok (.iadd, 1) := by decide +kernel
theorem d_CX_parse4_68 : decode b_CX_parse 68 = .ok (.invokestatic 17, 3) := by decide +kernel
theorem d_CX_parse4_71 : decode b_CX_parse 71 = .ok (.astore_n 2, 1) := by decide +kernel
theorem d_CX_parse4_72 : decode b_CX_parse 72 = .ok (.aload_n 2, 1) := by decide +kernel
theorem d_CX_parse4_73 : decode b_CX_parse 73 = .ok (.ifnonnull 7, 3) := by decide +kernel
theorem d_CX_parse4_76 : decode b_CX_parse 76 = .ok (.aconst_null, 1) := by decide +kernel
theorem d_CX_parse4_77 : decode b_CX_parse 77 = .ok (.goto 11, 3) := by decide +kernel
theorem d_CX_parse4_80 : decode b_CX_parse 80 = .ok (.new 23, 3) := by decide +kernel
theorem d_CX_parse4_83 : decode b_CX_parse 83 = .ok (.dup, 1) := by decide +kernel
theorem d_CX_parse4_84 : decode b_CX_parse 84 = .ok (.aload_n 2, 1) := by decide +kernel
theorem d_CX_parse4_85 : decode b_CX_parse 85 = .ok (.invokespecial 25, 3) := by decide +kernel
theorem d_CX_parse4_88 : decode b_CX_parse 88 = .ok (.areturn, 1) := by decide +kernel
theorem d_CX_parse4_89 : decode b_CX_parse 89 = .ok (.aload_n 0, 1) := by decide +kernel
theorem d_CX_parse4_90 : decode b_CX_parse 90 = .ok (.iload_n 1, 1) := by decide +kernel
theorem d_CX_parse4_91 : decode b_CX_parse 91 = .ok (.iconst 1, 1) := by decide +kernel
theorem d_CX_parse4_92 : decode b_CX_parse 92 = .ok (.iadd, 1) := by decide +kernel
theorem d_CX_parse4_93 : decode b_CX_parse 93 = .ok (.invokestatic 17, 3) := by decide +kernel
theorem d_CX_parse4_96 : decode b_CX_parse 96 = .ok (.astore_n 2, 1) := by decide +kernel
theorem d_CX_parse4_97 : decode b_CX_parse 97 = .ok (.aload_n 2, 1) := by decide +kernel
theorem d_CX_parse4_98 : decode b_CX_parse 98 = .ok (.ifnonnull 7, 3) := by decide +kernel
theorem d_CX_parse4_101 : decode b_CX_parse 101 = .ok (.aconst_null, 1) := by decide +kernel
theorem d_CX_parse4_102 : decode b_CX_parse 102 = .ok (.goto 10, 3) := by decide +kernel
theorem d_CX_parse4_105 : decode b_CX_parse 105 = .ok (.aload_n 0, 1) := by decide +kernel
theorem d_CX_parse4_106 : decode b_CX_parse 106 = .ok (.iload_n 1, 1) := by decide +kernel
theorem d_CX_parse4_107 : decode b_CX_parse 107 = .ok (.iconst 1, 1) := by decide +kernel
theorem d_CX_parse4_108 : decode b_CX_parse 108 = .ok (.iadd, 1) := by decide +kernel
theorem d_CX_parse4_109 : decode b_CX_parse 109 = .ok (.invokestatic 17, 3) := by decide +kernel
theorem d_CX_parse4_112 : decode b_CX_parse 112 = .ok (.astore_n 3, 1) := by decide +kernel
theorem d_CX_parse4_113 : decode b_CX_parse 113 = .ok (.aload_n 3, 1) := by decide +kernel
theorem d_CX_parse4_114 : decode b_CX_parse 114 = .ok (.ifnonnull 7, 3) := by decide +kernel
theorem d_CX_parse4_117 : decode b_CX_parse 117 = .ok (.aconst_null, 1) := by decide +kernel
theorem d_CX_parse4_118 : decode b_CX_parse 118 = .ok (.goto 12, 3) := by decide +kernel
theorem d_CX_parse4_121 : decode b_CX_parse 121 = .ok (.new 28, 3) := by decide +kernel
theorem d_CX_parse4_124 : decode b_CX_parse 124 = .ok (.dup, 1) := by decide +kernel
theorem d_CX_parse4_125 : decode b_CX_parse 125 = .ok (.aload_n 2, 1) := by decide +kernel
theorem d_CX_parse4_126 : decode b_CX_parse 126 = .ok (.aload_n 3, 1) := by decide +kernel
theorem d_CX_parse4_127 : decode b_CX_parse 127 = .ok (.invokespecial 30, 3) := by decide +kernel
theorem d_CX_parse4_130 : decode b_CX_parse 130 = .ok (.areturn, 1) := by decide +kernel
theorem d_CX_parse4_131 : decode b_CX_parse 131 = .ok (.aconst_null, 1) := by decide +kernel
theorem d_CX_parse4_132 : decode b_CX_parse 132 = .ok (.areturn, 1) := by decide +kernel
def bk_CX_parse4_112 (Q : Int → zS → Prop) (v2 : Int) (z0 : Int) (σ : zS) : Prop :=
  ((z0 < 0 →
    Q (-1) σ) ∧
   (¬ z0 < 0 →
    zWf σ ∧ 0 ≤ σ 72 0 ∧ zvp σ z0 ∧ zvp σ v2 ∧ ∀ σ35, σ35 = znew6 2 σ →
    wp_NA_init (fun σ37 =>
      zle σ35 σ37 ∧
      Q (σ 72 0) σ37) (σ 72 0) v2 z0 σ35))
def wp_CX_parse4 (Q : Int → zS → Prop) (v1 : Int) (σ : zS) : Prop :=
  zc v1 ∧ ((v1 ≤ 7 →
    wp_DG_next (fun r4 σ2 =>
      zle σ σ2 ∧
      zc r4 ∧ ((r4 = 1 →
        zWf σ2 ∧ 0 ≤ σ2 72 0 ∧ ∀ σ8, σ8 = znew6 0 σ2 →
        wp_PI_init (fun σ10 =>
          zle σ8 σ10 ∧
          ∀ y12, y12 = σ2 72 0 →
          ∀ σ13, σ13 = zup σ10 62 0 ((σ10 62 0) + 1) →
          Q y12 σ13) (σ2 72 0) (σ8 62 0) σ8) ∧
       (r4 = 2 →
        wp_CX_parse5 (fun r16 σ14 =>
          ((r16 < 0 →
            Q (-1) σ14) ∧
           (¬ r16 < 0 →
            zWf σ14 ∧ 0 ≤ σ14 72 0 ∧ zvp σ14 r16 ∧ ∀ σ20, σ20 = znew6 1 σ14 →
            wp_IN_init (fun σ22 =>
              zle σ20 σ22 ∧
              Q (σ14 72 0) σ22) (σ14 72 0) r16 σ20))) (v1 + 1) σ2) ∧
       (r4 = 3 →
        wp_CX_parse5 (fun r26 σ24 =>
          ((r26 < 0 →
            bk_CX_parse4_112 Q r26 (-1) σ24) ∧
           (¬ r26 < 0 →
            zvp σ24 r26 ∧ wp_CX_parse5 (fun r29 σ27 =>
              bk_CX_parse4_112 Q r26 r29 σ27) (v1 + 1) σ24))) (v1 + 1) σ2) ∧
       (r4 < 1 ∨ 3 < r4 →
        Q (-1) σ2))) σ) ∧
   (¬ v1 ≤ 7 →
    Q (-1) σ))
set_option maxHeartbeats 4000000 in
set_option maxRecDepth 100000 in
theorem wk_CX_parse4_112 {E : zE} {D : va_G} {g : zG} {A : Nat → Prop} {ad0 : zA} {σ0 : zS} {Q : Int → zS → Prop} (C : zX E b_CX_parse R_CX D g { frames := 7, cells := 31, slots := 62, locals := 154 } 4) (R : zRt E (some (.object "CellMapper$Pattern")) (zJr D g ad0 σ0 6 Q A) 31 62 A) (S : zSt g A (zst E) (zst E).heap) (hA : ∀ q, (zst E).heap.size ≤ q → A q) (ad : zA) (v2 : Int) (z0 : Int) (σ : zS) (hX : zEx ad0 σ0 ad σ) (h : bk_CX_parse4_112 Q v2 z0 σ) : zW E (zOK D A (zst E) g ad) 30 60 112 [(2, zr ad 6 v2)] [zr ad 6 z0] σ := by
  unfold bk_CX_parse4_112 at h
  refine z_astoreZ_n (L' := [(3, zr ad 6 z0), (2, zr ad 6 v2)]) C (pc := 112) d_CX_parse4_112 (by decide) (congrArg (List.cons _) (flt_eq (j := 3) rfl (List.forall_mem_singleton.mpr (zr_cat _ _ _)) rfl)) ?_
  refine z_aloadZ_n C (pc := 113) d_CX_parse4_113 0 rfl ?_
  refine z_ifnonnull (tgt := 121) C (pc := 114) d_CX_parse4_114 (by decide) h (fun h => ?_) (fun h => ?_)
  · obtain ⟨hc31, hc32, hc33, hc34, h⟩ := h
    refine xa_new6c (fun ad => [(3, zr ad 6 z0), (2, zr ad 6 v2)]) (fun ad => []) C hA hc31 hc32 wd_409 (pc := 121) d_CX_parse4_121 ⟨Nat.le_of_ble_eq_true rfl, Nat.le_of_ble_eq_true rfl⟩ (fun ad' ha => ⟨by simp only [zr_agP (x := z0) ha hc33, zr_agP (x := v2) ha hc34], rfl⟩) (fun ad hE36 => ?_)
    refine zN h (fun σ35 eσ35 h => ?_)
    rw [← eσ35] at hE36
    have hX := hX.trans hE36
    refine z_dup C (pc := 124) d_CX_parse4_124 (zr_cat _ _ _) ?_
    refine z_aloadZ_n C (pc := 125) d_CX_parse4_125 1 rfl ?_
    refine z_aloadZ_n C (pc := 126) d_CX_parse4_126 0 rfl ?_
    refine x_callINv (hkn := ⟨Nat.le_of_ble_eq_true rfl, Nat.le_of_ble_eq_true rfl⟩) (As := [zr ad 6 v2, zr ad 6 z0]) (st := [zr ad 6 (σ 72 0)]) (a := ad (6, (σ 72 0).toNat)) C S fi_NA_init (by simp [zNs]) (pc := 127) d_CX_parse4_127 ⟨rfl, rfl, Nat.le_of_ble_eq_true rfl, Nat.le_of_ble_eq_true rfl⟩ rfl (by rw [zr_s ad 6 hc32]; rfl) (by simp [zr_cat, kv_cat, cat_i, cat_l, cat_r]) h (c_NA_init (zln E) D g ad _ _ _ _ _) (fun σ37 h => ?_)
    obtain ⟨hE38, h⟩ := h
    have hX := hX.le hE38
    exact za_aret C R hX (Or.inl ⟨_, rfl⟩) (pc := 130) d_CX_parse4_130 h
  · refine z_nullZ (ad := ad) 6 C (pc := 117) d_CX_parse4_117 ?_
    refine z_goto (tgt := 130) C (pc := 118) d_CX_parse4_118 (by decide) ?_
    refine zW.widen (k' := 31) (n' := 62) (by decide) (by decide) ?_
    exact za_aret C R hX (Or.inl ⟨_, rfl⟩) (pc := 130) d_CX_parse4_130 h
set_option maxHeartbeats 4000000 in
set_option maxRecDepth 100000 in
theorem c_CX_parse4 (l : Launch) (D : va_G) (g : zG) (ad : zA) (v1 : Int) (Q : Int → zS → Prop) (σ : zS) (h : wp_CX_parse4 Q v1 σ) (sz : Nat) : zHr 6 l y_CX_parse b_CX_parse 4 (some (.object "CellMapper$Pattern")) { frames := 7, cells := 31, slots := 62, locals := 154 } D g ad σ [.ref (ad (0, 2)), .int (zi v1)] Q sz 31 62 := by
  unfold wp_CX_parse4 at h
  refine zA_of (by decide) (Nat.le_of_ble_eq_true rfl) (fun E C R S hA => ?_)
  have C : zX E b_CX_parse R_CX D g { frames := 7, cells := 31, slots := 62, locals := 154 } 4 := C
  have hX : zEx ad σ ad σ := zEx.rf
  refine z_sub (L' := [(0, .ref (ad (0, 2))), (1, .int (zi v1))]) [0, 1] rfl ?_
  refine z_iload_n C (pc := 0) d_CX_parse4_0 1 rfl ?_
  refine z_bipush C (pc := 1) d_CX_parse4_1 (by decide) ?_
  obtain ⟨hc1, h⟩ := h
  refine z_icmp_le (tgt := 8) C (pc := 3) d_CX_parse4_3 (by decide) hc1 (by decide) h (fun h => ?_) (fun h => ?_)
  · refine z_aload_n C (pc := 8) d_CX_parse4_8 0 rfl ?_
    refine x_callVi (hkn := ⟨Nat.le_of_ble_eq_true rfl, Nat.le_of_ble_eq_true rfl⟩) (As := []) (st := []) C S fy_DG_next (0, 2) (zids_fix zfix_2) rfl rfl wd_382 (pc := 9) d_CX_parse4_9 ⟨rfl, rfl, Nat.le_of_ble_eq_true rfl, Nat.le_of_ble_eq_true rfl⟩ rfl rfl (Nat.le_of_ble_eq_true rfl) h (c_DG_next (zln E) D g ad _ _) (fun r4 σ2 h => ?_)
    obtain ⟨hE3, h⟩ := h
    have hX := hX.le hE3
    obtain ⟨hc5, h⟩ := h
    by_cases q39 : r4 = 1
    · have h := h.1 q39
      refine z_tableIn (off := 28) (tgt := 40) C (pc := 12) d_CX_parse4_12 hc5 (by omega) (by omega) (by rw [q39]; rfl) (by decide) ?_
      refine z_sub (L' := [(0, .ref (ad (0, 2)))]) [0] rfl ?_
      obtain ⟨hc6, hc7, h⟩ := h
      refine xa_new6a (fun ad => [(0, .ref (ad (0, 2)))]) (fun ad => []) C hA hc6 hc7 wd_386 (pc := 40) d_CX_parse4_40 ⟨Nat.le_of_ble_eq_true rfl, Nat.le_of_ble_eq_true rfl⟩ (fun ad' ha => ⟨by simp only [zo_ag ha zfix_2 (by decide)], rfl⟩) (fun ad hE9 => ?_)
      refine zN h (fun σ8 eσ8 h => ?_)
      rw [← eσ8] at hE9
      have hX := hX.trans hE9
      refine z_dup C (pc := 43) d_CX_parse4_43 (zr_cat _ _ _) ?_
      refine z_aload_n C (pc := 44) d_CX_parse4_44 0 rfl ?_
      refine x_getD C 1 (by decide) wd_77 (pc := 45) d_CX_parse4_45 ?_
      refine x_callINv (hkn := ⟨Nat.le_of_ble_eq_true rfl, Nat.le_of_ble_eq_true rfl⟩) (As := [.int (zi (σ8 62 0))]) (st := [zr ad 6 (σ2 72 0)]) (a := ad (6, (σ2 72 0).toNat)) C S fi_PI_init (by simp [zNs]) (pc := 48) d_CX_parse4_48 ⟨rfl, rfl, Nat.le_of_ble_eq_true rfl, Nat.le_of_ble_eq_true rfl⟩ rfl (by rw [zr_s ad 6 hc7]; rfl) (by simp [zr_cat, kv_cat, cat_i, cat_l, cat_r]) h (c_PI_init (zln E) D g ad _ _ _ _) (fun σ10 h => ?_)
      obtain ⟨hE11, h⟩ := h
      have hX := hX.le hE11
      refine zNz h (fun y12 ey12 h => ?_)
      refine z_astoreZ_n (L' := [(2, zr ad 6 y12), (0, .ref (ad (0, 2)))]) C (pc := 51) d_CX_parse4_51 (by decide) rfl ?_
      refine z_aload_n C (pc := 52) d_CX_parse4_52 1 rfl ?_
      refine z_dup C (pc := 53) d_CX_parse4_53 rfl ?_
      refine x_getD C 1 (by decide) wd_77 (pc := 54) d_CX_parse4_54 ?_
      refine z_iconst C (pc := 57) d_CX_parse4_57 ?_
      refine z_iadd C (pc := 58) d_CX_parse4_58 ?_
      refine x_putD C 1 (by decide) wd_77 (pc := 59) d_CX_parse4_59 ?_
      refine zN h (fun σ13 eσ13 h => ?_)
      have hX := hX.upE eσ13 (by decide) (by decide) (by decide)
      refine z_aloadZ_n C (pc := 62) d_CX_parse4_62 0 rfl ?_
      refine zW.widen (k' := 31) (n' := 62) (by decide) (by decide) ?_
      exact za_aret C R hX (Or.inl ⟨_, rfl⟩) (pc := 63) d_CX_parse4_63 h
    · have h := h.2
      by_cases q40 : r4 = 2
      · have h := h.1 q40
        refine z_tableIn (off := 52) (tgt := 64) C (pc := 12) d_CX_parse4_12 hc5 (by omega) (by omega) (by rw [q40]; rfl) (by decide) ?_
        refine z_aload_n C (pc := 64) d_CX_parse4_64 0 rfl ?_
        refine z_iload_n C (pc := 65) d_CX_parse4_65 1 rfl ?_
        refine z_iconst C (pc := 66) d_CX_parse4_66 ?_
        refine z_iadd C (pc := 67) d_CX_parse4_67 ?_
        refine z_sub (L' := []) [] rfl ?_
        refine xa_callSr (As := [.ref (ad (0, 2)), .int (zi (v1 + 1))]) (fun ad => []) (fun ad => []) C S hA fs_CX_parse wd_379 (pc := 68) d_CX_parse4_68 ⟨rfl, rfl, Nat.le_of_ble_eq_true rfl, Nat.le_of_ble_eq_true rfl⟩ ⟨Nat.le_of_ble_eq_true rfl, Nat.le_of_ble_eq_true rfl⟩ rfl rfl (Nat.le_of_ble_eq_true rfl) (fun ad' ha => ⟨rfl, rfl⟩) h (c_CX_parse5 (zln E) D g ad _ _ _) (fun r16 σ14 ad hE15 h => ?_)
        have hX := hX.trans hE15
        refine z_astoreZ_n (L' := [(2, zr ad 6 r16)]) C (pc := 71) d_CX_parse4_71 (by decide) rfl ?_
        refine z_aloadZ_n C (pc := 72) d_CX_parse4_72 0 rfl ?_
        refine z_ifnonnull (tgt := 80) C (pc := 73) d_CX_parse4_73 (by decide) h (fun h => ?_) (fun h => ?_)
        · obtain ⟨hc17, hc18, hc19, h⟩ := h
          refine xa_new6b (fun ad => [(2, zr ad 6 r16)]) (fun ad => []) C hA hc17 hc18 wd_399 (pc := 80) d_CX_parse4_80 ⟨Nat.le_of_ble_eq_true rfl, Nat.le_of_ble_eq_true rfl⟩ (fun ad' ha => ⟨by simp only [zr_agP (x := r16) ha hc19], rfl⟩) (fun ad hE21 => ?_)
          refine zN h (fun σ20 eσ20 h => ?_)
          rw [← eσ20] at hE21
          have hX := hX.trans hE21
          refine z_dup C (pc := 83) d_CX_parse4_83 (zr_cat _ _ _) ?_
          refine z_aloadZ_n C (pc := 84) d_CX_parse4_84 0 rfl ?_
          refine x_callINv (hkn := ⟨Nat.le_of_ble_eq_true rfl, Nat.le_of_ble_eq_true rfl⟩) (As := [zr ad 6 r16]) (st := [zr ad 6 (σ14 72 0)]) (a := ad (6, (σ14 72 0).toNat)) C S fi_IN_init (by simp [zNs]) (pc := 85) d_CX_parse4_85 ⟨rfl, rfl, Nat.le_of_ble_eq_true rfl, Nat.le_of_ble_eq_true rfl⟩ rfl (by rw [zr_s ad 6 hc18]; rfl) (by simp [zr_cat, kv_cat, cat_i, cat_l, cat_r]) h (c_IN_init (zln E) D g ad _ _ _ _) (fun σ22 h => ?_)
          obtain ⟨hE23, h⟩ := h
          have hX := hX.le hE23
          refine zW.widen (k' := 31) (n' := 62) (by decide) (by decide) ?_
          exact za_aret C R hX (Or.inl ⟨_, rfl⟩) (pc := 88) d_CX_parse4_88 h
        · refine z_nullZ (ad := ad) 6 C (pc := 76) d_CX_parse4_76 ?_
          refine z_goto (tgt := 88) C (pc := 77) d_CX_parse4_77 (by decide) ?_
          refine zW.widen (k' := 31) (n' := 62) (by decide) (by decide) ?_
          exact za_aret C R hX (Or.inl ⟨_, rfl⟩) (pc := 88) d_CX_parse4_88 h
      · have h := h.2
        by_cases q41 : r4 = 3
        · have h := h.1 q41
          refine z_tableIn (off := 77) (tgt := 89) C (pc := 12) d_CX_parse4_12 hc5 (by omega) (by omega) (by rw [q41]; rfl) (by decide) ?_
          refine z_aload_n C (pc := 89) d_CX_parse4_89 0 rfl ?_
          refine z_iload_n C (pc := 90) d_CX_parse4_90 1 rfl ?_
          refine z_iconst C (pc := 91) d_CX_parse4_91 ?_
          refine z_iadd C (pc := 92) d_CX_parse4_92 ?_
          refine xa_callSr (As := [.ref (ad (0, 2)), .int (zi (v1 + 1))]) (fun ad => [(0, .ref (ad (0, 2))), (1, .int (zi v1))]) (fun ad => []) C S hA fs_CX_parse wd_379 (pc := 93) d_CX_parse4_93 ⟨rfl, rfl, Nat.le_of_ble_eq_true rfl, Nat.le_of_ble_eq_true rfl⟩ ⟨Nat.le_of_ble_eq_true rfl, Nat.le_of_ble_eq_true rfl⟩ rfl rfl (Nat.le_of_ble_eq_true rfl) (fun ad' ha => ⟨by simp only [zo_ag ha zfix_2 (by decide)], rfl⟩) h (c_CX_parse5 (zln E) D g ad _ _ _) (fun r26 σ24 ad hE25 h => ?_)
          have hX := hX.trans hE25
          refine z_astoreZ_n (L' := [(2, zr ad 6 r26), (0, .ref (ad (0, 2))), (1, .int (zi v1))]) C (pc := 96) d_CX_parse4_96 (by decide) rfl ?_
          refine z_aloadZ_n C (pc := 97) d_CX_parse4_97 0 rfl ?_
          refine z_ifnonnull (tgt := 105) C (pc := 98) d_CX_parse4_98 (by decide) h (fun h => ?_) (fun h => ?_)
          · refine z_aload_n C (pc := 105) d_CX_parse4_105 1 rfl ?_
            refine z_iload_n C (pc := 106) d_CX_parse4_106 2 rfl ?_
            refine z_iconst C (pc := 107) d_CX_parse4_107 ?_
            refine z_iadd C (pc := 108) d_CX_parse4_108 ?_
            refine z_sub (L' := [(2, zr ad 6 r26)]) [0] rfl ?_
            obtain ⟨hc30, h⟩ := h
            refine xa_callSr (As := [.ref (ad (0, 2)), .int (zi (v1 + 1))]) (fun ad => [(2, zr ad 6 r26)]) (fun ad => []) C S hA fs_CX_parse wd_379 (pc := 109) d_CX_parse4_109 ⟨rfl, rfl, Nat.le_of_ble_eq_true rfl, Nat.le_of_ble_eq_true rfl⟩ ⟨Nat.le_of_ble_eq_true rfl, Nat.le_of_ble_eq_true rfl⟩ rfl rfl (Nat.le_of_ble_eq_true rfl) (fun ad' ha => ⟨by simp only [zr_agP (x := r26) ha hc30], rfl⟩) h (c_CX_parse5 (zln E) D g ad _ _ _) (fun r29 σ27 ad hE28 h => ?_)
            have hX := hX.trans hE28
            exact wk_CX_parse4_112 C R S hA ad _ _ _ hX h
          · refine z_nullZ (ad := ad) 6 C (pc := 101) d_CX_parse4_101 ?_
            refine z_goto (tgt := 112) C (pc := 102) d_CX_parse4_102 (by decide) ?_
            refine zW.widen (k' := 30) (n' := 60) (by decide) (by decide) ?_
            refine z_sub [0] rfl ?_
            exact wk_CX_parse4_112 C R S hA ad _ _ _ hX h
        · have h := h.2
          have h := h (show r4 < 1 ∨ 3 < r4 by omega)
          refine z_tableOut (tgt := 131) C (pc := 12) d_CX_parse4_12 hc5 (show r4 < 1 ∨ 3 < r4 by omega) (by decide) ?_
          refine z_nullZ (ad := ad) 6 C (pc := 131) d_CX_parse4_131 ?_
          refine zW.widen (k' := 31) (n' := 62) (by decide) (by decide) ?_
          exact za_aret C R hX (Or.inl ⟨_, rfl⟩) (pc := 132) d_CX_parse4_132 h
  · refine z_nullZ (ad := ad) 6 C (pc := 6) d_CX_parse4_6 ?_
    refine zW.widen (k' := 31) (n' := 62) (by decide) (by decide) ?_
    exact za_aret C R hX (Or.inl ⟨_, rfl⟩) (pc := 7) d_CX_parse4_7 h
theorem d_CX_parse3_0 : decode b_CX_parse 0 = .ok (.iload_n 1, 1) := by decide +kernel
theorem d_CX_parse3_1 : decode b_CX_parse 1 = .ok (.bipush 7, 2) := by decide +kernel
theorem d_CX_parse3_3 : decode b_CX_parse 3 = .ok (.if_icmp .le 5, 3) := by decide +kernel
theorem d_CX_parse3_6 : decode b_CX_parse 6 = .ok (.aconst_null, 1) := by decide +kernel
theorem d_CX_parse3_7 : decode b_CX_parse 7 = .ok (.areturn, 1) := by decide +kernel
theorem d_CX_parse3_8 : decode b_CX_parse 8 = .ok (.aload_n 0, 1) := by decide +kernel
theorem d_CX_parse3_9 : decode b_CX_parse 9 = .ok (.invokevirtual 1, 3) := by decide +kernel
theorem d_CX_parse3_12 : decode b_CX_parse 12 = .ok (.tableswitch 119 1 3 #[28, 52, 77], 28) := by decide +kernel
theorem d_CX_parse3_40 : decode b_CX_parse 40 = .ok (.new 7, 3) := by decide +kernel
theorem d_CX_parse3_43 : decode b_CX_parse 43 = .ok (.dup, 1) := by decide +kernel
theorem d_CX_parse3_44 : decode b_CX_parse 44 = .ok (.aload_n 0, 1) := by decide +kernel
theorem d_CX_parse3_45 : decode b_CX_parse 45 = .ok (.getfield 9, 3) := by decide +kernel
theorem d_CX_parse3_48 : decode b_CX_parse 48 = .ok (.invokespecial 13, 3) := by decide +kernel
theorem d_CX_parse3_51 : decode b_CX_parse 51 = .ok (.astore_n 2, 1) := by decide +kernel
theorem d_CX_parse3_52 : decode b_CX_parse 52 = .ok (.aload_n 0, 1) := by decide +kernel
theorem d_CX_parse3_53 : decode b_CX_parse 53 = .ok (.dup, 1) := by decide +kernel
theorem d_CX_parse3_54 : decode b_CX_parse 54 = .ok (.getfield 9, 3) := by decide +kernel
theorem d_CX_parse3_57 : decode b_CX_parse 57 = .ok (.iconst 1, 1) := by decide +kernel
theorem d_CX_parse3_58 : decode b_CX_parse 58 = .ok (.iadd, 1) := by decide +kernel
theorem d_CX_parse3_59 : decode b_CX_parse 59 = .ok (.putfield 9, 3) := by decide +kernel
theorem d_CX_parse3_62 : decode b_CX_parse 62 = .ok (.aload_n 2, 1) := by decide +kernel
theorem d_CX_parse3_63 : decode b_CX_parse 63 = .ok (.areturn, 1) := by decide +kernel
theorem d_CX_parse3_64 : decode b_CX_parse 64 = .ok (.aload_n 0, 1) := by decide +kernel
theorem d_CX_parse3_65 : decode b_CX_parse 65 = .ok (.iload_n 1, 1) := by decide +kernel
theorem d_CX_parse3_66 : decode b_CX_parse 66 = .ok (.iconst 1, 1) := by decide +kernel
theorem d_CX_parse3_67 : decode b_CX_parse 67 = .ok (.iadd, 1) := by decide +kernel
theorem d_CX_parse3_68 : decode b_CX_parse 68 = .ok (.invokestatic 17, 3) := by decide +kernel
theorem d_CX_parse3_71 : decode b_CX_parse 71 = .ok (.astore_n 2, 1) := by decide +kernel
theorem d_CX_parse3_72 : decode b_CX_parse 72 = .ok (.aload_n 2, 1) := by decide +kernel
theorem d_CX_parse3_73 : decode b_CX_parse 73 = .ok (.ifnonnull 7, 3) := by decide +kernel
theorem d_CX_parse3_76 : decode b_CX_parse 76 = .ok (.aconst_null, 1) := by decide +kernel
theorem d_CX_parse3_77 : decode b_CX_parse 77 = .ok (.goto 11, 3) := by decide +kernel
theorem d_CX_parse3_80 : decode b_CX_parse 80 = .ok (.new 23, 3) := by decide +kernel
theorem d_CX_parse3_83 : decode b_CX_parse 83 = .ok (.dup, 1) := by decide +kernel
theorem d_CX_parse3_84 : decode b_CX_parse 84 = .ok (.aload_n 2, 1) := by decide +kernel
theorem d_CX_parse3_85 : decode b_CX_parse 85 = .ok (.invokespecial 25, 3) := by decide +kernel
theorem d_CX_parse3_88 : decode b_CX_parse 88 = .ok (.areturn, 1) := by decide +kernel
theorem d_CX_parse3_89 : decode b_CX_parse 89 = .ok (.aload_n 0, 1) := by decide +kernel
theorem d_CX_parse3_90 : decode b_CX_parse 90 = .ok (.iload_n 1, 1) := by decide +kernel
theorem d_CX_parse3_91 : decode b_CX_parse 91 = .ok (.iconst 1, 1) := by decide +kernel
theorem d_CX_parse3_92 : decode b_CX_parse 92 = .ok (.iadd, 1) := by decide +kernel
theorem d_CX_parse3_93 : decode b_CX_parse 93 = .ok (.invokestatic 17, 3) := by decide +kernel
theorem d_CX_parse3_96 : decode b_CX_parse 96 = .ok (.astore_n 2, 1) := by decide +kernel
theorem d_CX_parse3_97 : decode b_CX_parse 97 = .ok (.aload_n 2, 1) := by decide +kernel
theorem d_CX_parse3_98 : decode b_CX_parse 98 = .ok (.ifnonnull 7, 3) := by decide +kernel
theorem d_CX_parse3_101 : decode b_CX_parse 101 = .ok (.aconst_null, 1) := by decide +kernel
theorem d_CX_parse3_102 : decode b_CX_parse 102 = .ok (.goto 10, 3) := by decide +kernel
theorem d_CX_parse3_105 : decode b_CX_parse 105 = .ok (.aload_n 0, 1) := by decide +kernel
theorem d_CX_parse3_106 : decode b_CX_parse 106 = .ok (.iload_n 1, 1) := by decide +kernel
theorem d_CX_parse3_107 : decode b_CX_parse 107 = .ok (.iconst 1, 1) := by decide +kernel
theorem d_CX_parse3_108 : decode b_CX_parse 108 = .ok (.iadd, 1) := by decide +kernel
theorem d_CX_parse3_109 : decode b_CX_parse 109 = .ok (.invokestatic 17, 3) := by decide +kernel
theorem d_CX_parse3_112 : decode b_CX_parse 112 = .ok (.astore_n 3, 1) := by decide +kernel
theorem d_CX_parse3_113 : decode b_CX_parse 113 = .ok (.aload_n 3, 1) := by decide +kernel
theorem d_CX_parse3_114 : decode b_CX_parse 114 = .ok (.ifnonnull 7, 3) := by decide +kernel
theorem d_CX_parse3_117 : decode b_CX_parse 117 = .ok (.aconst_null, 1) := by decide +kernel
theorem d_CX_parse3_118 : decode b_CX_parse 118 = .ok (.goto 12, 3) := by decide +kernel
theorem d_CX_parse3_121 : decode b_CX_parse 121 = .ok (.new 28, 3) := by decide +kernel
theorem d_CX_parse3_124 : decode b_CX_parse 124 = .ok (.dup, 1) := by decide +kernel
theorem d_CX_parse3_125 : decode b_CX_parse 125 = .ok (.aload_n 2, 1) := by decide +kernel
theorem d_CX_parse3_126 : decode b_CX_parse 126 = .ok (.aload_n 3, 1) := by decide +kernel
theorem d_CX_parse3_127 : decode b_CX_parse 127 = .ok (.invokespecial 30, 3) := by decide +kernel
theorem d_CX_parse3_130 : decode b_CX_parse 130 = .ok (.areturn, 1) := by decide +kernel
theorem d_CX_parse3_131 : decode b_CX_parse 131 = .ok (.aconst_null, 1) := by decide +kernel
theorem d_CX_parse3_132 : decode b_CX_parse 132 = .ok (.areturn, 1) := by decide +kernel
def bk_CX_parse3_112 (Q : Int → zS → Prop) (v2 : Int) (z0 : Int) (σ : zS) : Prop :=
  ((z0 < 0 →
    Q (-1) σ) ∧
   (¬ z0 < 0 →
    zWf σ ∧ 0 ≤ σ 72 0 ∧ zvp σ z0 ∧ zvp σ v2 ∧ ∀ σ35, σ35 = znew6 2 σ →
    wp_NA_init (fun σ37 =>
      zle σ35 σ37 ∧
      Q (σ 72 0) σ37) (σ 72 0) v2 z0 σ35))
def wp_CX_parse3 (Q : Int → zS → Prop) (v1 : Int) (σ : zS) : Prop :=
  zc v1 ∧ ((v1 ≤ 7 →
    wp_DG_next (fun r4 σ2 =>
      zle σ σ2 ∧
      zc r4 ∧ ((r4 = 1 →
        zWf σ2 ∧ 0 ≤ σ2 72 0 ∧ ∀ σ8, σ8 = znew6 0 σ2 →
        wp_PI_init (fun σ10 =>
          zle σ8 σ10 ∧
          ∀ y12, y12 = σ2 72 0 →
          ∀ σ13, σ13 = zup σ10 62 0 ((σ10 62 0) + 1) →
          Q y12 σ13) (σ2 72 0) (σ8 62 0) σ8) ∧
       (r4 = 2 →
        wp_CX_parse4 (fun r16 σ14 =>
          ((r16 < 0 →
            Q (-1) σ14) ∧
           (¬ r16 < 0 →
            zWf σ14 ∧ 0 ≤ σ14 72 0 ∧ zvp σ14 r16 ∧ ∀ σ20, σ20 = znew6 1 σ14 →
            wp_IN_init (fun σ22 =>
              zle σ20 σ22 ∧
              Q (σ14 72 0) σ22) (σ14 72 0) r16 σ20))) (v1 + 1) σ2) ∧
       (r4 = 3 →
        wp_CX_parse4 (fun r26 σ24 =>
          ((r26 < 0 →
            bk_CX_parse3_112 Q r26 (-1) σ24) ∧
           (¬ r26 < 0 →
            zvp σ24 r26 ∧ wp_CX_parse4 (fun r29 σ27 =>
              bk_CX_parse3_112 Q r26 r29 σ27) (v1 + 1) σ24))) (v1 + 1) σ2) ∧
       (r4 < 1 ∨ 3 < r4 →
        Q (-1) σ2))) σ) ∧
   (¬ v1 ≤ 7 →
    Q (-1) σ))
set_option maxHeartbeats 4000000 in
set_option maxRecDepth 100000 in
theorem wk_CX_parse3_112 {E : zE} {D : va_G} {g : zG} {A : Nat → Prop} {ad0 : zA} {σ0 : zS} {Q : Int → zS → Prop} (C : zX E b_CX_parse R_CX D g { frames := 8, cells := 63, slots := 126, locals := 177 } 4) (R : zRt E (some (.object "CellMapper$Pattern")) (zJr D g ad0 σ0 6 Q A) 63 126 A) (S : zSt g A (zst E) (zst E).heap) (hA : ∀ q, (zst E).heap.size ≤ q → A q) (ad : zA) (v2 : Int) (z0 : Int) (σ : zS) (hX : zEx ad0 σ0 ad σ) (h : bk_CX_parse3_112 Q v2 z0 σ) : zW E (zOK D A (zst E) g ad) 62 124 112 [(2, zr ad 6 v2)] [zr ad 6 z0] σ := by
  unfold bk_CX_parse3_112 at h
  refine z_astoreZ_n (L' := [(3, zr ad 6 z0), (2, zr ad 6 v2)]) C (pc := 112) d_CX_parse3_112 (by decide) (congrArg (List.cons _) (flt_eq (j := 3) rfl (List.forall_mem_singleton.mpr (zr_cat _ _ _)) rfl)) ?_
  refine z_aloadZ_n C (pc := 113) d_CX_parse3_113 0 rfl ?_
  refine z_ifnonnull (tgt := 121) C (pc := 114) d_CX_parse3_114 (by decide) h (fun h => ?_) (fun h => ?_)
  · obtain ⟨hc31, hc32, hc33, hc34, h⟩ := h
    refine xa_new6c (fun ad => [(3, zr ad 6 z0), (2, zr ad 6 v2)]) (fun ad => []) C hA hc31 hc32 wd_409 (pc := 121) d_CX_parse3_121 ⟨Nat.le_of_ble_eq_true rfl, Nat.le_of_ble_eq_true rfl⟩ (fun ad' ha => ⟨by simp only [zr_agP (x := z0) ha hc33, zr_agP (x := v2) ha hc34], rfl⟩) (fun ad hE36 => ?_)
    refine zN h (fun σ35 eσ35 h => ?_)
    rw [← eσ35] at hE36
    have hX := hX.trans hE36
    refine z_dup C (pc := 124) d_CX_parse3_124 (zr_cat _ _ _) ?_
    refine z_aloadZ_n C (pc := 125) d_CX_parse3_125 1 rfl ?_
    refine z_aloadZ_n C (pc := 126) d_CX_parse3_126 0 rfl ?_
    refine x_callINv (hkn := ⟨Nat.le_of_ble_eq_true rfl, Nat.le_of_ble_eq_true rfl⟩) (As := [zr ad 6 v2, zr ad 6 z0]) (st := [zr ad 6 (σ 72 0)]) (a := ad (6, (σ 72 0).toNat)) C S fi_NA_init (by simp [zNs]) (pc := 127) d_CX_parse3_127 ⟨rfl, rfl, Nat.le_of_ble_eq_true rfl, Nat.le_of_ble_eq_true rfl⟩ rfl (by rw [zr_s ad 6 hc32]; rfl) (by simp [zr_cat, kv_cat, cat_i, cat_l, cat_r]) h (c_NA_init (zln E) D g ad _ _ _ _ _) (fun σ37 h => ?_)
    obtain ⟨hE38, h⟩ := h
    have hX := hX.le hE38
    exact za_aret C R hX (Or.inl ⟨_, rfl⟩) (pc := 130) d_CX_parse3_130 h
  · refine z_nullZ (ad := ad) 6 C (pc := 117) d_CX_parse3_117 ?_
    refine z_goto (tgt := 130) C (pc := 118) d_CX_parse3_118 (by decide) ?_
    refine zW.widen (k' := 63) (n' := 126) (by decide) (by decide) ?_
    exact za_aret C R hX (Or.inl ⟨_, rfl⟩) (pc := 130) d_CX_parse3_130 h
set_option maxHeartbeats 4000000 in
set_option maxRecDepth 100000 in
theorem c_CX_parse3 (l : Launch) (D : va_G) (g : zG) (ad : zA) (v1 : Int) (Q : Int → zS → Prop) (σ : zS) (h : wp_CX_parse3 Q v1 σ) (sz : Nat) : zHr 6 l y_CX_parse b_CX_parse 4 (some (.object "CellMapper$Pattern")) { frames := 8, cells := 63, slots := 126, locals := 177 } D g ad σ [.ref (ad (0, 2)), .int (zi v1)] Q sz 63 126 := by
  unfold wp_CX_parse3 at h
  refine zA_of (by decide) (Nat.le_of_ble_eq_true rfl) (fun E C R S hA => ?_)
  have C : zX E b_CX_parse R_CX D g { frames := 8, cells := 63, slots := 126, locals := 177 } 4 := C
  have hX : zEx ad σ ad σ := zEx.rf
  refine z_sub (L' := [(0, .ref (ad (0, 2))), (1, .int (zi v1))]) [0, 1] rfl ?_
  refine z_iload_n C (pc := 0) d_CX_parse3_0 1 rfl ?_
  refine z_bipush C (pc := 1) d_CX_parse3_1 (by decide) ?_
  obtain ⟨hc1, h⟩ := h
  refine z_icmp_le (tgt := 8) C (pc := 3) d_CX_parse3_3 (by decide) hc1 (by decide) h (fun h => ?_) (fun h => ?_)
  · refine z_aload_n C (pc := 8) d_CX_parse3_8 0 rfl ?_
    refine x_callVi (hkn := ⟨Nat.le_of_ble_eq_true rfl, Nat.le_of_ble_eq_true rfl⟩) (As := []) (st := []) C S fy_DG_next (0, 2) (zids_fix zfix_2) rfl rfl wd_382 (pc := 9) d_CX_parse3_9 ⟨rfl, rfl, Nat.le_of_ble_eq_true rfl, Nat.le_of_ble_eq_true rfl⟩ rfl rfl (Nat.le_of_ble_eq_true rfl) h (c_DG_next (zln E) D g ad _ _) (fun r4 σ2 h => ?_)
    obtain ⟨hE3, h⟩ := h
    have hX := hX.le hE3
    obtain ⟨hc5, h⟩ := h
    by_cases q39 : r4 = 1
    · have h := h.1 q39
      refine z_tableIn (off := 28) (tgt := 40) C (pc := 12) d_CX_parse3_12 hc5 (by omega) (by omega) (by rw [q39]; rfl) (by decide) ?_
      refine z_sub (L' := [(0, .ref (ad (0, 2)))]) [0] rfl ?_
      obtain ⟨hc6, hc7, h⟩ := h
      refine xa_new6a (fun ad => [(0, .ref (ad (0, 2)))]) (fun ad => []) C hA hc6 hc7 wd_386 (pc := 40) d_CX_parse3_40 ⟨Nat.le_of_ble_eq_true rfl, Nat.le_of_ble_eq_true rfl⟩ (fun ad' ha => ⟨by simp only [zo_ag ha zfix_2 (by decide)], rfl⟩) (fun ad hE9 => ?_)
      refine zN h (fun σ8 eσ8 h => ?_)
      rw [← eσ8] at hE9
      have hX := hX.trans hE9
      refine z_dup C (pc := 43) d_CX_parse3_43 (zr_cat _ _ _) ?_
      refine z_aload_n C (pc := 44) d_CX_parse3_44 0 rfl ?_
      refine x_getD C 1 (by decide) wd_77 (pc := 45) d_CX_parse3_45 ?_
      refine x_callINv (hkn := ⟨Nat.le_of_ble_eq_true rfl, Nat.le_of_ble_eq_true rfl⟩) (As := [.int (zi (σ8 62 0))]) (st := [zr ad 6 (σ2 72 0)]) (a := ad (6, (σ2 72 0).toNat)) C S fi_PI_init (by simp [zNs]) (pc := 48) d_CX_parse3_48 ⟨rfl, rfl, Nat.le_of_ble_eq_true rfl, Nat.le_of_ble_eq_true rfl⟩ rfl (by rw [zr_s ad 6 hc7]; rfl) (by simp [zr_cat, kv_cat, cat_i, cat_l, cat_r]) h (c_PI_init (zln E) D g ad _ _ _ _) (fun σ10 h => ?_)
      obtain ⟨hE11, h⟩ := h
      have hX := hX.le hE11
      refine zNz h (fun y12 ey12 h => ?_)
      refine z_astoreZ_n (L' := [(2, zr ad 6 y12), (0, .ref (ad (0, 2)))]) C (pc := 51) d_CX_parse3_51 (by decide) rfl ?_
      refine z_aload_n C (pc := 52) d_CX_parse3_52 1 rfl ?_
      refine z_dup C (pc := 53) d_CX_parse3_53 rfl ?_
      refine x_getD C 1 (by decide) wd_77 (pc := 54) d_CX_parse3_54 ?_
      refine z_iconst C (pc := 57) d_CX_parse3_57 ?_
      refine z_iadd C (pc := 58) d_CX_parse3_58 ?_
      refine x_putD C 1 (by decide) wd_77 (pc := 59) d_CX_parse3_59 ?_
      refine zN h (fun σ13 eσ13 h => ?_)
      have hX := hX.upE eσ13 (by decide) (by decide) (by decide)
      refine z_aloadZ_n C (pc := 62) d_CX_parse3_62 0 rfl ?_
      refine zW.widen (k' := 63) (n' := 126) (by decide) (by decide) ?_
      exact za_aret C R hX (Or.inl ⟨_, rfl⟩) (pc := 63) d_CX_parse3_63 h
    · have h := h.2
      by_cases q40 : r4 = 2
      · have h := h.1 q40
        refine z_tableIn (off := 52) (tgt := 64) C (pc := 12) d_CX_parse3_12 hc5 (by omega) (by omega) (by rw [q40]; rfl) (by decide) ?_
        refine z_aload_n C (pc := 64) d_CX_parse3_64 0 rfl ?_
        refine z_iload_n C (pc := 65) d_CX_parse3_65 1 rfl ?_
        refine z_iconst C (pc := 66) d_CX_parse3_66 ?_
        refine z_iadd C (pc := 67) d_CX_parse3_67 ?_
        refine z_sub (L' := []) [] rfl ?_
        refine xa_callSr (As := [.ref (ad (0, 2)), .int (zi (v1 + 1))]) (fun ad => []) (fun ad => []) C S hA fs_CX_parse wd_379 (pc := 68) d_CX_parse3_68 ⟨rfl, rfl, Nat.le_of_ble_eq_true rfl, Nat.le_of_ble_eq_true rfl⟩ ⟨Nat.le_of_ble_eq_true rfl, Nat.le_of_ble_eq_true rfl⟩ rfl rfl (Nat.le_of_ble_eq_true rfl) (fun ad' ha => ⟨rfl, rfl⟩) h (c_CX_parse4 (zln E) D g ad _ _ _) (fun r16 σ14 ad hE15 h => ?_)
        have hX := hX.trans hE15
        refine z_astoreZ_n (L' := [(2, zr ad 6 r16)]) C (pc := 71) d_CX_parse3_71 (by decide) rfl ?_
        refine z_aloadZ_n C (pc := 72) d_CX_parse3_72 0 rfl ?_
        refine z_ifnonnull (tgt := 80) C (pc := 73) d_CX_parse3_73 (by decide) h (fun h => ?_) (fun h => ?_)
        · obtain ⟨hc17, hc18, hc19, h⟩ := h
          refine xa_new6b (fun ad => [(2, zr ad 6 r16)]) (fun ad => []) C hA hc17 hc18 wd_399 (pc := 80) d_CX_parse3_80 ⟨Nat.le_of_ble_eq_true rfl, Nat.le_of_ble_eq_true rfl⟩ (fun ad' ha => ⟨by simp only [zr_agP (x := r16) ha hc19], rfl⟩) (fun ad hE21 => ?_)
          refine zN h (fun σ20 eσ20 h => ?_)
          rw [← eσ20] at hE21
          have hX := hX.trans hE21
          refine z_dup C (pc := 83) d_CX_parse3_83 (zr_cat _ _ _) ?_
          refine z_aloadZ_n C (pc := 84) d_CX_parse3_84 0 rfl ?_
          refine x_callINv (hkn := ⟨Nat.le_of_ble_eq_true rfl, Nat.le_of_ble_eq_true rfl⟩) (As := [zr ad 6 r16]) (st := [zr ad 6 (σ14 72 0)]) (a := ad (6, (σ14 72 0).toNat)) C S fi_IN_init (by simp [zNs]) (pc := 85) d_CX_parse3_85 ⟨rfl, rfl, Nat.le_of_ble_eq_true rfl, Nat.le_of_ble_eq_true rfl⟩ rfl (by rw [zr_s ad 6 hc18]; rfl) (by simp [zr_cat, kv_cat, cat_i, cat_l, cat_r]) h (c_IN_init (zln E) D g ad _ _ _ _) (fun σ22 h => ?_)
          obtain ⟨hE23, h⟩ := h
          have hX := hX.le hE23
          refine zW.widen (k' := 63) (n' := 126) (by decide) (by decide) ?_
          exact za_aret C R hX (Or.inl ⟨_, rfl⟩) (pc := 88) d_CX_parse3_88 h
        · refine z_nullZ (ad := ad) 6 C (pc := 76) d_CX_parse3_76 ?_
          refine z_goto (tgt := 88) C (pc := 77) d_CX_parse3_77 (by decide) ?_
          refine zW.widen (k' := 63) (n' := 126) (by decide) (by decide) ?_
          exact za_aret C R hX (Or.inl ⟨_, rfl⟩) (pc := 88) d_CX_parse3_88 h
      · have h := h.2
        by_cases q41 : r4 = 3
        · have h := h.1 q41
          refine z_tableIn (off := 77) (tgt := 89) C (pc := 12) d_CX_parse3_12 hc5 (by omega) (by omega) (by rw [q41]; rfl) (by decide) ?_
          refine z_aload_n C (pc := 89) d_CX_parse3_89 0 rfl ?_
          refine z_iload_n C (pc := 90) d_CX_parse3_90 1 rfl ?_
          refine z_iconst C (pc := 91) d_CX_parse3_91 ?_
          refine z_iadd C (pc := 92) d_CX_parse3_92 ?_
          refine xa_callSr (As := [.ref (ad (0, 2)), .int (zi (v1 + 1))]) (fun ad => [(0, .ref (ad (0, 2))), (1, .int (zi v1))]) (fun ad => []) C S hA fs_CX_parse wd_379 (pc := 93) d_CX_parse3_93 ⟨rfl, rfl, Nat.le_of_ble_eq_true rfl, Nat.le_of_ble_eq_true rfl⟩ ⟨Nat.le_of_ble_eq_true rfl, Nat.le_of_ble_eq_true rfl⟩ rfl rfl (Nat.le_of_ble_eq_true rfl) (fun ad' ha => ⟨by simp only [zo_ag ha zfix_2 (by decide)], rfl⟩) h (c_CX_parse4 (zln E) D g ad _ _ _) (fun r26 σ24 ad hE25 h => ?_)
          have hX := hX.trans hE25
          refine z_astoreZ_n (L' := [(2, zr ad 6 r26), (0, .ref (ad (0, 2))), (1, .int (zi v1))]) C (pc := 96) d_CX_parse3_96 (by decide) rfl ?_
          refine z_aloadZ_n C (pc := 97) d_CX_parse3_97 0 rfl ?_
          refine z_ifnonnull (tgt := 105) C (pc := 98) d_CX_parse3_98 (by decide) h (fun h => ?_) (fun h => ?_)
          · refine z_aload_n C (pc := 105) d_CX_parse3_105 1 rfl ?_
            refine z_iload_n C (pc := 106) d_CX_parse3_106 2 rfl ?_
            refine z_iconst C (pc := 107) d_CX_parse3_107 ?_
            refine z_iadd C (pc := 108) d_CX_parse3_108 ?_
            refine z_sub (L' := [(2, zr ad 6 r26)]) [0] rfl ?_
            obtain ⟨hc30, h⟩ := h
            refine xa_callSr (As := [.ref (ad (0, 2)), .int (zi (v1 + 1))]) (fun ad => [(2, zr ad 6 r26)]) (fun ad => []) C S hA fs_CX_parse wd_379 (pc := 109) d_CX_parse3_109 ⟨rfl, rfl, Nat.le_of_ble_eq_true rfl, Nat.le_of_ble_eq_true rfl⟩ ⟨Nat.le_of_ble_eq_true rfl, Nat.le_of_ble_eq_true rfl⟩ rfl rfl (Nat.le_of_ble_eq_true rfl) (fun ad' ha => ⟨by simp only [zr_agP (x := r26) ha hc30], rfl⟩) h (c_CX_parse4 (zln E) D g ad _ _ _) (fun r29 σ27 ad hE28 h => ?_)
            have hX := hX.trans hE28
            exact wk_CX_parse3_112 C R S hA ad _ _ _ hX h
          · refine z_nullZ (ad := ad) 6 C (pc := 101) d_CX_parse3_101 ?_
            refine z_goto (tgt := 112) C (pc := 102) d_CX_parse3_102 (by decide) ?_
            refine zW.widen (k' := 62) (n' := 124) (by decide) (by decide) ?_
            refine z_sub [0] rfl ?_
            exact wk_CX_parse3_112 C R S hA ad _ _ _ hX h
        · have h := h.2
          have h := h (show r4 < 1 ∨ 3 < r4 by omega)
          refine z_tableOut (tgt := 131) C (pc := 12) d_CX_parse3_12 hc5 (show r4 < 1 ∨ 3 < r4 by omega) (by decide) ?_
          refine z_nullZ (ad := ad) 6 C (pc := 131) d_CX_parse3_131 ?_
          refine zW.widen (k' := 63) (n' := 126) (by decide) (by decide) ?_
          exact za_aret C R hX (Or.inl ⟨_, rfl⟩) (pc := 132) d_CX_parse3_132 h
  · refine z_nullZ (ad := ad) 6 C (pc := 6) d_CX_parse3_6 ?_
    refine zW.widen (k' := 63) (n' := 126) (by decide) (by decide) ?_
    exact za_aret C R hX (Or.inl ⟨_, rfl⟩) (pc := 7) d_CX_parse3_7 h
theorem d_CX_parse2_0 : decode b_CX_parse 0 = .ok (.iload_n 1, 1) := by decide +kernel
theorem d_CX_parse2_1 : decode b_CX_parse 1 = .ok (.bipush 7, 2) := by decide +kernel
theorem d_CX_parse2_3 : decode b_CX_parse 3 = .ok (.if_icmp .le 5, 3) := by decide +kernel
theorem d_CX_parse2_6 : decode b_CX_parse 6 = .ok (.aconst_null, 1) := by decide +kernel
theorem d_CX_parse2_7 : decode b_CX_parse 7 = .ok (.areturn, 1) := by decide +kernel
theorem d_CX_parse2_8 : decode b_CX_parse 8 = .ok (.aload_n 0, 1) := by decide +kernel
theorem d_CX_parse2_9 : decode b_CX_parse 9 = .ok (.invokevirtual 1, 3) := by decide +kernel
theorem d_CX_parse2_12 : decode b_CX_parse 12 = .ok (.tableswitch 119 1 3 #[28, 52, 77], 28) := by decide +kernel
theorem d_CX_parse2_40 : decode b_CX_parse 40 = .ok (.new 7, 3) := by decide +kernel
theorem d_CX_parse2_43 : decode b_CX_parse 43 = .ok (.dup, 1) := by decide +kernel
theorem d_CX_parse2_44 : decode b_CX_parse 44 = .ok (.aload_n 0, 1) := by decide +kernel
theorem d_CX_parse2_45 : decode b_CX_parse 45 = .ok (.getfield 9, 3) := by decide +kernel
theorem d_CX_parse2_48 : decode b_CX_parse 48 = .ok (.invokespecial 13, 3) := by decide +kernel
theorem d_CX_parse2_51 : decode b_CX_parse 51 = .ok (.astore_n 2, 1) := by decide +kernel
theorem d_CX_parse2_52 : decode b_CX_parse 52 = .ok (.aload_n 0, 1) := by decide +kernel
theorem d_CX_parse2_53 : decode b_CX_parse 53 = .ok (.dup, 1) := by decide +kernel
theorem d_CX_parse2_54 : decode b_CX_parse 54 = .ok (.getfield 9, 3) := by decide +kernel
theorem d_CX_parse2_57 : decode b_CX_parse 57 = .ok (.iconst 1, 1) := by decide +kernel
theorem d_CX_parse2_58 : decode b_CX_parse 58 = .ok (.iadd, 1) := by decide +kernel
theorem d_CX_parse2_59 : decode b_CX_parse 59 = .ok (.putfield 9, 3) := by decide +kernel
theorem d_CX_parse2_62 : decode b_CX_parse 62 = .ok (.aload_n 2, 1) := by decide +kernel
theorem d_CX_parse2_63 : decode b_CX_parse 63 = .ok (.areturn, 1) := by decide +kernel
theorem d_CX_parse2_64 : decode b_CX_parse 64 = .ok (.aload_n 0, 1) := by decide +kernel
theorem d_CX_parse2_65 : decode b_CX_parse 65 = .ok (.iload_n 1, 1) := by decide +kernel
theorem d_CX_parse2_66 : decode b_CX_parse 66 = .ok (.iconst 1, 1) := by decide +kernel
theorem d_CX_parse2_67 : decode b_CX_parse 67 = .ok (.iadd, 1) := by decide +kernel
theorem d_CX_parse2_68 : decode b_CX_parse 68 = .ok (.invokestatic 17, 3) := by decide +kernel
theorem d_CX_parse2_71 : decode b_CX_parse 71 = .ok (.astore_n 2, 1) := by decide +kernel
theorem d_CX_parse2_72 : decode b_CX_parse 72 = .ok (.aload_n 2, 1) := by decide +kernel
theorem d_CX_parse2_73 : decode b_CX_parse 73 = .ok (.ifnonnull 7, 3) := by decide +kernel
theorem d_CX_parse2_76 : decode b_CX_parse 76 = .ok (.aconst_null, 1) := by decide +kernel
theorem d_CX_parse2_77 : decode b_CX_parse 77 = .ok (.goto 11, 3) := by decide +kernel
theorem d_CX_parse2_80 : decode b_CX_parse 80 = .ok (.new 23, 3) := by decide +kernel
theorem d_CX_parse2_83 : decode b_CX_parse 83 = .ok (.dup, 1) := by decide +kernel
theorem d_CX_parse2_84 : decode b_CX_parse 84 = .ok (.aload_n 2, 1) := by decide +kernel
theorem d_CX_parse2_85 : decode b_CX_parse 85 = .ok (.invokespecial 25, 3) := by decide +kernel
theorem d_CX_parse2_88 : decode b_CX_parse 88 = .ok (.areturn, 1) := by decide +kernel
theorem d_CX_parse2_89 : decode b_CX_parse 89 = .ok (.aload_n 0, 1) := by decide +kernel
theorem d_CX_parse2_90 : decode b_CX_parse 90 = .ok (.iload_n 1, 1) := by decide +kernel
theorem d_CX_parse2_91 : decode b_CX_parse 91 = .ok (.iconst 1, 1) := by decide +kernel
theorem d_CX_parse2_92 : decode b_CX_parse 92 = .ok (.iadd, 1) := by decide +kernel
theorem d_CX_parse2_93 : decode b_CX_parse 93 = .ok (.invokestatic 17, 3) := by decide +kernel
theorem d_CX_parse2_96 : decode b_CX_parse 96 = .ok (.astore_n 2, 1) := by decide +kernel
theorem d_CX_parse2_97 : decode b_CX_parse 97 = .ok (.aload_n 2, 1) := by decide +kernel
theorem d_CX_parse2_98 : decode b_CX_parse 98 = .ok (.ifnonnull 7, 3) := by decide +kernel
theorem d_CX_parse2_101 : decode b_CX_parse 101 = .ok (.aconst_null, 1) := by decide +kernel
theorem d_CX_parse2_102 : decode b_CX_parse 102 = .ok (.goto 10, 3) := by decide +kernel
theorem d_CX_parse2_105 : decode b_CX_parse 105 = .ok (.aload_n 0, 1) := by decide +kernel
theorem d_CX_parse2_106 : decode b_CX_parse 106 = .ok (.iload_n 1, 1) := by decide +kernel
theorem d_CX_parse2_107 : decode b_CX_parse 107 = .ok (.iconst 1, 1) := by decide +kernel
theorem d_CX_parse2_108 : decode b_CX_parse 108 = .ok (.iadd, 1) := by decide +kernel
theorem d_CX_parse2_109 : decode b_CX_parse 109 = .ok (.invokestatic 17, 3) := by decide +kernel
theorem d_CX_parse2_112 : decode b_CX_parse 112 = .ok (.astore_n 3, 1) := by decide +kernel
theorem d_CX_parse2_113 : decode b_CX_parse 113 = .ok (.aload_n 3, 1) := by decide +kernel
theorem d_CX_parse2_114 : decode b_CX_parse 114 = .ok (.ifnonnull 7, 3) := by decide +kernel
theorem d_CX_parse2_117 : decode b_CX_parse 117 = .ok (.aconst_null, 1) := by decide +kernel
theorem d_CX_parse2_118 : decode b_CX_parse 118 = .ok (.goto 12, 3) := by decide +kernel
theorem d_CX_parse2_121 : decode b_CX_parse 121 = .ok (.new 28, 3) := by decide +kernel
theorem d_CX_parse2_124 : decode b_CX_parse 124 = .ok (.dup, 1) := by decide +kernel
theorem d_CX_parse2_125 : decode b_CX_parse 125 = .ok (.aload_n 2, 1) := by decide +kernel
theorem d_CX_parse2_126 : decode b_CX_parse 126 = .ok (.aload_n 3, 1) := by decide +kernel
theorem d_CX_parse2_127 : decode b_CX_parse 127 = .ok (.invokespecial 30, 3) := by decide +kernel
theorem d_CX_parse2_130 : decode b_CX_parse 130 = .ok (.areturn, 1) := by decide +kernel
theorem d_CX_parse2_131 : decode b_CX_parse 131 = .ok (.aconst_null, 1) := by decide +kernel
theorem d_CX_parse2_132 : decode b_CX_parse 132 = .ok (.areturn, 1) := by decide +kernel
def bk_CX_parse2_112 (Q : Int → zS → Prop) (v2 : Int) (z0 : Int) (σ : zS) : Prop :=
  ((z0 < 0 →
    Q (-1) σ) ∧
   (¬ z0 < 0 →
    zWf σ ∧ 0 ≤ σ 72 0 ∧ zvp σ z0 ∧ zvp σ v2 ∧ ∀ σ35, σ35 = znew6 2 σ →
    wp_NA_init (fun σ37 =>
      zle σ35 σ37 ∧
      Q (σ 72 0) σ37) (σ 72 0) v2 z0 σ35))
def wp_CX_parse2 (Q : Int → zS → Prop) (v1 : Int) (σ : zS) : Prop :=
  zc v1 ∧ ((v1 ≤ 7 →
    wp_DG_next (fun r4 σ2 =>
      zle σ σ2 ∧
      zc r4 ∧ ((r4 = 1 →
        zWf σ2 ∧ 0 ≤ σ2 72 0 ∧ ∀ σ8, σ8 = znew6 0 σ2 →
        wp_PI_init (fun σ10 =>
          zle σ8 σ10 ∧
          ∀ y12, y12 = σ2 72 0 →
          ∀ σ13, σ13 = zup σ10 62 0 ((σ10 62 0) + 1) →
          Q y12 σ13) (σ2 72 0) (σ8 62 0) σ8) ∧
       (r4 = 2 →
        wp_CX_parse3 (fun r16 σ14 =>
          ((r16 < 0 →
            Q (-1) σ14) ∧
           (¬ r16 < 0 →
            zWf σ14 ∧ 0 ≤ σ14 72 0 ∧ zvp σ14 r16 ∧ ∀ σ20, σ20 = znew6 1 σ14 →
            wp_IN_init (fun σ22 =>
              zle σ20 σ22 ∧
              Q (σ14 72 0) σ22) (σ14 72 0) r16 σ20))) (v1 + 1) σ2) ∧
       (r4 = 3 →
        wp_CX_parse3 (fun r26 σ24 =>
          ((r26 < 0 →
            bk_CX_parse2_112 Q r26 (-1) σ24) ∧
           (¬ r26 < 0 →
            zvp σ24 r26 ∧ wp_CX_parse3 (fun r29 σ27 =>
              bk_CX_parse2_112 Q r26 r29 σ27) (v1 + 1) σ24))) (v1 + 1) σ2) ∧
       (r4 < 1 ∨ 3 < r4 →
        Q (-1) σ2))) σ) ∧
   (¬ v1 ≤ 7 →
    Q (-1) σ))
set_option maxHeartbeats 4000000 in
set_option maxRecDepth 100000 in
theorem wk_CX_parse2_112 {E : zE} {D : va_G} {g : zG} {A : Nat → Prop} {ad0 : zA} {σ0 : zS} {Q : Int → zS → Prop} (C : zX E b_CX_parse R_CX D g { frames := 9, cells := 127, slots := 254, locals := 200 } 4) (R : zRt E (some (.object "CellMapper$Pattern")) (zJr D g ad0 σ0 6 Q A) 127 254 A) (S : zSt g A (zst E) (zst E).heap) (hA : ∀ q, (zst E).heap.size ≤ q → A q) (ad : zA) (v2 : Int) (z0 : Int) (σ : zS) (hX : zEx ad0 σ0 ad σ) (h : bk_CX_parse2_112 Q v2 z0 σ) : zW E (zOK D A (zst E) g ad) 126 252 112 [(2, zr ad 6 v2)] [zr ad 6 z0] σ := by
  unfold bk_CX_parse2_112 at h
  refine z_astoreZ_n (L' := [(3, zr ad 6 z0), (2, zr ad 6 v2)]) C (pc := 112) d_CX_parse2_112 (by decide) (congrArg (List.cons _) (flt_eq (j := 3) rfl (List.forall_mem_singleton.mpr (zr_cat _ _ _)) rfl)) ?_
  refine z_aloadZ_n C (pc := 113) d_CX_parse2_113 0 rfl ?_
  refine z_ifnonnull (tgt := 121) C (pc := 114) d_CX_parse2_114 (by decide) h (fun h => ?_) (fun h => ?_)
  · obtain ⟨hc31, hc32, hc33, hc34, h⟩ := h
    refine xa_new6c (fun ad => [(3, zr ad 6 z0), (2, zr ad 6 v2)]) (fun ad => []) C hA hc31 hc32 wd_409 (pc := 121) d_CX_parse2_121 ⟨Nat.le_of_ble_eq_true rfl, Nat.le_of_ble_eq_true rfl⟩ (fun ad' ha => ⟨by simp only [zr_agP (x := z0) ha hc33, zr_agP (x := v2) ha hc34], rfl⟩) (fun ad hE36 => ?_)
    refine zN h (fun σ35 eσ35 h => ?_)
    rw [← eσ35] at hE36
    have hX := hX.trans hE36
    refine z_dup C (pc := 124) d_CX_parse2_124 (zr_cat _ _ _) ?_
    refine z_aloadZ_n C (pc := 125) d_CX_parse2_125 1 rfl ?_
    refine z_aloadZ_n C (pc := 126) d_CX_parse2_126 0 rfl ?_
    refine x_callINv (hkn := ⟨Nat.le_of_ble_eq_true rfl, Nat.le_of_ble_eq_true rfl⟩) (As := [zr ad 6 v2, zr ad 6 z0]) (st := [zr ad 6 (σ 72 0)]) (a := ad (6, (σ 72 0).toNat)) C S fi_NA_init (by simp [zNs]) (pc := 127) d_CX_parse2_127 ⟨rfl, rfl, Nat.le_of_ble_eq_true rfl, Nat.le_of_ble_eq_true rfl⟩ rfl (by rw [zr_s ad 6 hc32]; rfl) (by simp [zr_cat, kv_cat, cat_i, cat_l, cat_r]) h (c_NA_init (zln E) D g ad _ _ _ _ _) (fun σ37 h => ?_)
    obtain ⟨hE38, h⟩ := h
    have hX := hX.le hE38
    exact za_aret C R hX (Or.inl ⟨_, rfl⟩) (pc := 130) d_CX_parse2_130 h
  · refine z_nullZ (ad := ad) 6 C (pc := 117) d_CX_parse2_117 ?_
    refine z_goto (tgt := 130) C (pc := 118) d_CX_parse2_118 (by decide) ?_
    refine zW.widen (k' := 127) (n' := 254) (by decide) (by decide) ?_
    exact za_aret C R hX (Or.inl ⟨_, rfl⟩) (pc := 130) d_CX_parse2_130 h
set_option maxHeartbeats 4000000 in
set_option maxRecDepth 100000 in
theorem c_CX_parse2 (l : Launch) (D : va_G) (g : zG) (ad : zA) (v1 : Int) (Q : Int → zS → Prop) (σ : zS) (h : wp_CX_parse2 Q v1 σ) (sz : Nat) : zHr 6 l y_CX_parse b_CX_parse 4 (some (.object "CellMapper$Pattern")) { frames := 9, cells := 127, slots := 254, locals := 200 } D g ad σ [.ref (ad (0, 2)), .int (zi v1)] Q sz 127 254 := by
  unfold wp_CX_parse2 at h
  refine zA_of (by decide) (Nat.le_of_ble_eq_true rfl) (fun E C R S hA => ?_)
  have C : zX E b_CX_parse R_CX D g { frames := 9, cells := 127, slots := 254, locals := 200 } 4 := C
  have hX : zEx ad σ ad σ := zEx.rf
  refine z_sub (L' := [(0, .ref (ad (0, 2))), (1, .int (zi v1))]) [0, 1] rfl ?_
  refine z_iload_n C (pc := 0) d_CX_parse2_0 1 rfl ?_
  refine z_bipush C (pc := 1) d_CX_parse2_1 (by decide) ?_
  obtain ⟨hc1, h⟩ := h
  refine z_icmp_le (tgt := 8) C (pc := 3) d_CX_parse2_3 (by decide) hc1 (by decide) h (fun h => ?_) (fun h => ?_)
  · refine z_aload_n C (pc := 8) d_CX_parse2_8 0 rfl ?_
    refine x_callVi (hkn := ⟨Nat.le_of_ble_eq_true rfl, Nat.le_of_ble_eq_true rfl⟩) (As := []) (st := []) C S fy_DG_next (0, 2) (zids_fix zfix_2) rfl rfl wd_382 (pc := 9) d_CX_parse2_9 ⟨rfl, rfl, Nat.le_of_ble_eq_true rfl, Nat.le_of_ble_eq_true rfl⟩ rfl rfl (Nat.le_of_ble_eq_true rfl) h (c_DG_next (zln E) D g ad _ _) (fun r4 σ2 h => ?_)
    obtain ⟨hE3, h⟩ := h
    have hX := hX.le hE3
    obtain ⟨hc5, h⟩ := h
    by_cases q39 : r4 = 1
    · have h := h.1 q39
      refine z_tableIn (off := 28) (tgt := 40) C (pc := 12) d_CX_parse2_12 hc5 (by omega) (by omega) (by rw [q39]; rfl) (by decide) ?_
      refine z_sub (L' := [(0, .ref (ad (0, 2)))]) [0] rfl ?_
      obtain ⟨hc6, hc7, h⟩ := h
      refine xa_new6a (fun ad => [(0, .ref (ad (0, 2)))]) (fun ad => []) C hA hc6 hc7 wd_386 (pc := 40) d_CX_parse2_40 ⟨Nat.le_of_ble_eq_true rfl, Nat.le_of_ble_eq_true rfl⟩ (fun ad' ha => ⟨by simp only [zo_ag ha zfix_2 (by decide)], rfl⟩) (fun ad hE9 => ?_)
      refine zN h (fun σ8 eσ8 h => ?_)
      rw [← eσ8] at hE9
      have hX := hX.trans hE9
      refine z_dup C (pc := 43) d_CX_parse2_43 (zr_cat _ _ _) ?_
      refine z_aload_n C (pc := 44) d_CX_parse2_44 0 rfl ?_
      refine x_getD C 1 (by decide) wd_77 (pc := 45) d_CX_parse2_45 ?_
      refine x_callINv (hkn := ⟨Nat.le_of_ble_eq_true rfl, Nat.le_of_ble_eq_true rfl⟩) (As := [.int (zi (σ8 62 0))]) (st := [zr ad 6 (σ2 72 0)]) (a := ad (6, (σ2 72 0).toNat)) C S fi_PI_init (by simp [zNs]) (pc := 48) d_CX_parse2_48 ⟨rfl, rfl, Nat.le_of_ble_eq_true rfl, Nat.le_of_ble_eq_true rfl⟩ rfl (by rw [zr_s ad 6 hc7]; rfl) (by simp [zr_cat, kv_cat, cat_i, cat_l, cat_r]) h (c_PI_init (zln E) D g ad _ _ _ _) (fun σ10 h => ?_)
      obtain ⟨hE11, h⟩ := h
      have hX := hX.le hE11
      refine zNz h (fun y12 ey12 h => ?_)
      refine z_astoreZ_n (L' := [(2, zr ad 6 y12), (0, .ref (ad (0, 2)))]) C (pc := 51) d_CX_parse2_51 (by decide) rfl ?_
      refine z_aload_n C (pc := 52) d_CX_parse2_52 1 rfl ?_
      refine z_dup C (pc := 53) d_CX_parse2_53 rfl ?_
      refine x_getD C 1 (by decide) wd_77 (pc := 54) d_CX_parse2_54 ?_
      refine z_iconst C (pc := 57) d_CX_parse2_57 ?_
      refine z_iadd C (pc := 58) d_CX_parse2_58 ?_
      refine x_putD C 1 (by decide) wd_77 (pc := 59) d_CX_parse2_59 ?_
      refine zN h (fun σ13 eσ13 h => ?_)
      have hX := hX.upE eσ13 (by decide) (by decide) (by decide)
      refine z_aloadZ_n C (pc := 62) d_CX_parse2_62 0 rfl ?_
      refine zW.widen (k' := 127) (n' := 254) (by decide) (by decide) ?_
      exact za_aret C R hX (Or.inl ⟨_, rfl⟩) (pc := 63) d_CX_parse2_63 h
    · have h := h.2
      by_cases q40 : r4 = 2
      · have h := h.1 q40
        refine z_tableIn (off := 52) (tgt := 64) C (pc := 12) d_CX_parse2_12 hc5 (by omega) (by omega) (by rw [q40]; rfl) (by decide) ?_
        refine z_aload_n C (pc := 64) d_CX_parse2_64 0 rfl ?_
        refine z_iload_n C (pc := 65) d_CX_parse2_65 1 rfl ?_
        refine z_iconst C (pc := 66) d_CX_parse2_66 ?_
        refine z_iadd C (pc := 67) d_CX_parse2_67 ?_
        refine z_sub (L' := []) [] rfl ?_
        refine xa_callSr (As := [.ref (ad (0, 2)), .int (zi (v1 + 1))]) (fun ad => []) (fun ad => []) C S hA fs_CX_parse wd_379 (pc := 68) d_CX_parse2_68 ⟨rfl, rfl, Nat.le_of_ble_eq_true rfl, Nat.le_of_ble_eq_true rfl⟩ ⟨Nat.le_of_ble_eq_true rfl, Nat.le_of_ble_eq_true rfl⟩ rfl rfl (Nat.le_of_ble_eq_true rfl) (fun ad' ha => ⟨rfl, rfl⟩) h (c_CX_parse3 (zln E) D g ad _ _ _) (fun r16 σ14 ad hE15 h => ?_)
        have hX := hX.trans hE15
        refine z_astoreZ_n (L' := [(2, zr ad 6 r16)]) C (pc := 71) d_CX_parse2_71 (by decide) rfl ?_
        refine z_aloadZ_n C (pc := 72) d_CX_parse2_72 0 rfl ?_
        refine z_ifnonnull (tgt := 80) C (pc := 73) d_CX_parse2_73 (by decide) h (fun h => ?_) (fun h => ?_)
        · obtain ⟨hc17, hc18, hc19, h⟩ := h
          refine xa_new6b (fun ad => [(2, zr ad 6 r16)]) (fun ad => []) C hA hc17 hc18 wd_399 (pc := 80) d_CX_parse2_80 ⟨Nat.le_of_ble_eq_true rfl, Nat.le_of_ble_eq_true rfl⟩ (fun ad' ha => ⟨by simp only [zr_agP (x := r16) ha hc19], rfl⟩) (fun ad hE21 => ?_)
          refine zN h (fun σ20 eσ20 h => ?_)
          rw [← eσ20] at hE21
          have hX := hX.trans hE21
          refine z_dup C (pc := 83) d_CX_parse2_83 (zr_cat _ _ _) ?_
          refine z_aloadZ_n C (pc := 84) d_CX_parse2_84 0 rfl ?_
          refine x_callINv (hkn := ⟨Nat.le_of_ble_eq_true rfl, Nat.le_of_ble_eq_true rfl⟩) (As := [zr ad 6 r16]) (st := [zr ad 6 (σ14 72 0)]) (a := ad (6, (σ14 72 0).toNat)) C S fi_IN_init (by simp [zNs]) (pc := 85) d_CX_parse2_85 ⟨rfl, rfl, Nat.le_of_ble_eq_true rfl, Nat.le_of_ble_eq_true rfl⟩ rfl (by rw [zr_s ad 6 hc18]; rfl) (by simp [zr_cat, kv_cat, cat_i, cat_l, cat_r]) h (c_IN_init (zln E) D g ad _ _ _ _) (fun σ22 h => ?_)
          obtain ⟨hE23, h⟩ := h
          have hX := hX.le hE23
          refine zW.widen (k' := 127) (n' := 254) (by decide) (by decide) ?_
          exact za_aret C R hX (Or.inl ⟨_, rfl⟩) (pc := 88) d_CX_parse2_88 h
        · refine z_nullZ (ad := ad) 6 C (pc := 76) d_CX_parse2_76 ?_
          refine z_goto (tgt := 88) C (pc := 77) d_CX_parse2_77 (by decide) ?_
          refine zW.widen (k' := 127) (n' := 254) (by decide) (by decide) ?_
          exact za_aret C R hX (Or.inl ⟨_, rfl⟩) (pc := 88) d_CX_parse2_88 h
      · have h := h.2
        by_cases q41 : r4 = 3
        · have h := h.1 q41
          refine z_tableIn (off := 77) (tgt := 89) C (pc := 12) d_CX_parse2_12 hc5 (by omega) (by omega) (by rw [q41]; rfl) (by decide) ?_
          refine z_aload_n C (pc := 89) d_CX_parse2_89 0 rfl ?_
          refine z_iload_n C (pc := 90) d_CX_parse2_90 1 rfl ?_
          refine z_iconst C (pc := 91) d_CX_parse2_91 ?_
          refine z_iadd C (pc := 92) d_CX_parse2_92 ?_
          refine xa_callSr (As := [.ref (ad (0, 2)), .int (zi (v1 + 1))]) (fun ad => [(0, .ref (ad (0, 2))), (1, .int (zi v1))]) (fun ad => []) C S hA fs_CX_parse wd_379 (pc := 93) d_CX_parse2_93 ⟨rfl, rfl, Nat.le_of_ble_eq_true rfl, Nat.le_of_ble_eq_true rfl⟩ ⟨Nat.le_of_ble_eq_true rfl, Nat.le_of_ble_eq_true rfl⟩ rfl rfl (Nat.le_of_ble_eq_true rfl) (fun ad' ha => ⟨by simp only [zo_ag ha zfix_2 (by decide)], rfl⟩) h (c_CX_parse3 (zln E) D g ad _ _ _) (fun r26 σ24 ad hE25 h => ?_)
          have hX := hX.trans hE25
          refine z_astoreZ_n (L' := [(2, zr ad 6 r26), (0, .ref (ad (0, 2))), (1, .int (zi v1))]) C (pc := 96) d_CX_parse2_96 (by decide) rfl ?_
          refine z_aloadZ_n C (pc := 97) d_CX_parse2_97 0 rfl ?_
          refine z_ifnonnull (tgt := 105) C (pc := 98) d_CX_parse2_98 (by decide) h (fun h => ?_) (fun h => ?_)
          · refine z_aload_n C (pc := 105) d_CX_parse2_105 1 rfl ?_
            refine z_iload_n C (pc := 106) d_CX_parse2_106 2 rfl ?_
            refine z_iconst C (pc := 107) d_CX_parse2_107 ?_
            refine z_iadd C (pc := 108) d_CX_parse2_108 ?_
            refine z_sub (L' := [(2, zr ad 6 r26)]) [0] rfl ?_
            obtain ⟨hc30, h⟩ := h
            refine xa_callSr (As := [.ref (ad (0, 2)), .int (zi (v1 + 1))]) (fun ad => [(2, zr ad 6 r26)]) (fun ad => []) C S hA fs_CX_parse wd_379 (pc := 109) d_CX_parse2_109 ⟨rfl, rfl, Nat.le_of_ble_eq_true rfl, Nat.le_of_ble_eq_true rfl⟩ ⟨Nat.le_of_ble_eq_true rfl, Nat.le_of_ble_eq_true rfl⟩ rfl rfl (Nat.le_of_ble_eq_true rfl) (fun ad' ha => ⟨by simp only [zr_agP (x := r26) ha hc30], rfl⟩) h (c_CX_parse3 (zln E) D g ad _ _ _) (fun r29 σ27 ad hE28 h => ?_)
            have hX := hX.trans hE28
            exact wk_CX_parse2_112 C R S hA ad _ _ _ hX h
          · refine z_nullZ (ad := ad) 6 C (pc := 101) d_CX_parse2_101 ?_
            refine z_goto (tgt := 112) C (pc := 102) d_CX_parse2_102 (by decide) ?_
            refine zW.widen (k' := 126) (n' := 252) (by decide) (by decide) ?_
            refine z_sub [0] rfl ?_
            exact wk_CX_parse2_112 C R S hA ad _ _ _ hX h
        · have h := h.2
          have h := h (show r4 < 1 ∨ 3 < r4 by omega)
          refine z_tableOut (tgt := 131) C (pc := 12) d_CX_parse2_12 hc5 (show r4 < 1 ∨ 3 < r4 by omega) (by decide) ?_
          refine z_nullZ (ad := ad) 6 C (pc := 131) d_CX_parse2_131 ?_
          refine zW.widen (k' := 127) (n' := 254) (by decide) (by decide) ?_
          exact za_aret C R hX (Or.inl ⟨_, rfl⟩) (pc := 132) d_CX_parse2_132 h
  · refine z_nullZ (ad := ad) 6 C (pc := 6) d_CX_parse2_6 ?_
    refine zW.widen (k' := 127) (n' := 254) (by decide) (by decide) ?_
    exact za_aret C R hX (Or.inl ⟨_, rfl⟩) (pc := 7) d_CX_parse2_7 h
theorem d_CX_parse1_0 : decode b_CX_parse 0 = .ok (.iload_n 1, 1) := by decide +kernel
theorem d_CX_parse1_1 : decode b_CX_parse 1 = .ok (.bipush 7, 2) := by decide +kernel
theorem d_CX_parse1_3 : decode b_CX_parse 3 = .ok (.if_icmp .le 5, 3) := by decide +kernel
theorem d_CX_parse1_6 : decode b_CX_parse 6 = .ok (.aconst_null, 1) := by decide +kernel
theorem d_CX_parse1_7 : decode b_CX_parse 7 = .ok (.areturn, 1) := by decide +kernel
theorem d_CX_parse1_8 : decode b_CX_parse 8 = .ok (.aload_n 0, 1) := by decide +kernel
theorem d_CX_parse1_9 : decode b_CX_parse 9 = .ok (.invokevirtual 1, 3) := by decide +kernel
theorem d_CX_parse1_12 : decode b_CX_parse 12 = .ok (.tableswitch 119 1 3 #[28, 52, 77], 28) := by decide +kernel
theorem d_CX_parse1_40 : decode b_CX_parse 40 = .ok (.new 7, 3) := by decide +kernel
theorem d_CX_parse1_43 : decode b_CX_parse 43 = .ok (.dup, 1) := by decide +kernel
theorem d_CX_parse1_44 : decode b_CX_parse 44 = .ok (.aload_n 0, 1) := by decide +kernel
theorem d_CX_parse1_45 : decode b_CX_parse 45 = .ok (.getfield 9, 3) := by decide +kernel
theorem d_CX_parse1_48 : decode b_CX_parse 48 = .ok (.invokespecial 13, 3) := by decide +kernel
theorem d_CX_parse1_51 : decode b_CX_parse 51 = .ok (.astore_n 2, 1) := by decide +kernel
theorem d_CX_parse1_52 : decode b_CX_parse 52 = .ok (.aload_n 0, 1) := by decide +kernel
theorem d_CX_parse1_53 : decode b_CX_parse 53 = .ok (.dup, 1) := by decide +kernel
theorem d_CX_parse1_54 : decode b_CX_parse 54 = .ok (.getfield 9, 3) := by decide +kernel
theorem d_CX_parse1_57 : decode b_CX_parse 57 = .ok (.iconst 1, 1) := by decide +kernel
theorem d_CX_parse1_58 : decode b_CX_parse 58 = .ok (.iadd, 1) := by decide +kernel
theorem d_CX_parse1_59 : decode b_CX_parse 59 = .ok (.putfield 9, 3) := by decide +kernel
theorem d_CX_parse1_62 : decode b_CX_parse 62 = .ok (.aload_n 2, 1) := by decide +kernel
theorem d_CX_parse1_63 : decode b_CX_parse 63 = .ok (.areturn, 1) := by decide +kernel
theorem d_CX_parse1_64 : decode b_CX_parse 64 = .ok (.aload_n 0, 1) := by decide +kernel
theorem d_CX_parse1_65 : decode b_CX_parse 65 = .ok (.iload_n 1, 1) := by decide +kernel
theorem d_CX_parse1_66 : decode b_CX_parse 66 = .ok (.iconst 1, 1) := by decide +kernel
theorem d_CX_parse1_67 : decode b_CX_parse 67 = .ok (.iadd, 1) := by decide +kernel
theorem d_CX_parse1_68 : decode b_CX_parse 68 = .ok (.invokestatic 17, 3) := by decide +kernel
theorem d_CX_parse1_71 : decode b_CX_parse 71 = .ok (.astore_n 2, 1) := by decide +kernel
theorem d_CX_parse1_72 : decode b_CX_parse 72 = .ok (.aload_n 2, 1) := by decide +kernel
theorem d_CX_parse1_73 : decode b_CX_parse 73 = .ok (.ifnonnull 7, 3) := by decide +kernel
theorem d_CX_parse1_76 : decode b_CX_parse 76 = .ok (.aconst_null, 1) := by decide +kernel
theorem d_CX_parse1_77 : decode b_CX_parse 77 = .ok (.goto 11, 3) := by decide +kernel
theorem d_CX_parse1_80 : decode b_CX_parse 80 = .ok (.new 23, 3) := by decide +kernel
theorem d_CX_parse1_83 : decode b_CX_parse 83 = .ok (.dup, 1) := by decide +kernel
theorem d_CX_parse1_84 : decode b_CX_parse 84 = .ok (.aload_n 2, 1) := by decide +kernel
theorem d_CX_parse1_85 : decode b_CX_parse 85 = .ok (.invokespecial 25, 3) := by decide +kernel
theorem d_CX_parse1_88 : decode b_CX_parse 88 = .ok (.areturn, 1) := by decide +kernel
theorem d_CX_parse1_89 : decode b_CX_parse 89 = .ok (.aload_n 0, 1) := by decide +kernel
theorem d_CX_parse1_90 : decode b_CX_parse 90 = .ok (.iload_n 1, 1) := by decide +kernel
theorem d_CX_parse1_91 : decode b_CX_parse 91 = .ok (.iconst 1, 1) := by decide +kernel
theorem d_CX_parse1_92 : decode b_CX_parse 92 = .ok (.iadd, 1) := by decide +kernel
theorem d_CX_parse1_93 : decode b_CX_parse 93 = .ok (.invokestatic 17, 3) := by decide +kernel
theorem d_CX_parse1_96 : decode b_CX_parse 96 = .ok (.astore_n 2, 1) := by decide +kernel
theorem d_CX_parse1_97 : decode b_CX_parse 97 = .ok (.aload_n 2, 1) := by decide +kernel
theorem d_CX_parse1_98 : decode b_CX_parse 98 = .ok (.ifnonnull 7, 3) := by decide +kernel
theorem d_CX_parse1_101 : decode b_CX_parse 101 = .ok (.aconst_null, 1) := by decide +kernel
theorem d_CX_parse1_102 : decode b_CX_parse 102 = .ok (.goto 10, 3) := by decide +kernel
theorem d_CX_parse1_105 : decode b_CX_parse 105 = .ok (.aload_n 0, 1) := by decide +kernel
theorem d_CX_parse1_106 : decode b_CX_parse 106 = .ok (.iload_n 1, 1) := by decide +kernel
theorem d_CX_parse1_107 : decode b_CX_parse 107 = .ok (.iconst 1, 1) := by decide +kernel
theorem d_CX_parse1_108 : decode b_CX_parse 108 = .ok (.iadd, 1) := by decide +kernel
theorem d_CX_parse1_109 : decode b_CX_parse 109 = .ok (.invokestatic 17, 3) := by decide +kernel
theorem d_CX_parse1_112 : decode b_CX_parse 112 = .ok (.astore_n 3, 1) := by decide +kernel
theorem d_CX_parse1_113 : decode b_CX_parse 113 = .ok (.aload_n 3, 1) := by decide +kernel
theorem d_CX_parse1_114 : decode b_CX_parse 114 = .ok (.ifnonnull 7, 3) := by decide +kernel
theorem d_CX_parse1_117 : decode b_CX_parse 117 = .ok (.aconst_null, 1) := by decide +kernel
theorem d_CX_parse1_118 : decode b_CX_parse 118 = .ok (.goto 12, 3) := by decide +kernel
theorem d_CX_parse1_121 : decode b_CX_parse 121 = .ok (.new 28, 3) := by decide +kernel
theorem d_CX_parse1_124 : decode b_CX_parse 124 = .ok (.dup, 1) := by decide +kernel
theorem d_CX_parse1_125 : decode b_CX_parse 125 = .ok (.aload_n 2, 1) := by decide +kernel
theorem d_CX_parse1_126 : decode b_CX_parse 126 = .ok (.aload_n 3, 1) := by decide +kernel
theorem d_CX_parse1_127 : decode b_CX_parse 127 = .ok (.invokespecial 30, 3) := by decide +kernel
theorem d_CX_parse1_130 : decode b_CX_parse 130 = .ok (.areturn, 1) := by decide +kernel
theorem d_CX_parse1_131 : decode b_CX_parse 131 = .ok (.aconst_null, 1) := by decide +kernel
theorem d_CX_parse1_132 : decode b_CX_parse 132 = .ok (.areturn, 1) := by decide +kernel
def bk_CX_parse1_112 (Q : Int → zS → Prop) (v2 : Int) (z0 : Int) (σ : zS) : Prop :=
  ((z0 < 0 →
    Q (-1) σ) ∧
   (¬ z0 < 0 →
    zWf σ ∧ 0 ≤ σ 72 0 ∧ zvp σ z0 ∧ zvp σ v2 ∧ ∀ σ35, σ35 = znew6 2 σ →
    wp_NA_init (fun σ37 =>
      zle σ35 σ37 ∧
      Q (σ 72 0) σ37) (σ 72 0) v2 z0 σ35))
def wp_CX_parse1 (Q : Int → zS → Prop) (v1 : Int) (σ : zS) : Prop :=
  zc v1 ∧ ((v1 ≤ 7 →
    wp_DG_next (fun r4 σ2 =>
      zle σ σ2 ∧
      zc r4 ∧ ((r4 = 1 →
        zWf σ2 ∧ 0 ≤ σ2 72 0 ∧ ∀ σ8, σ8 = znew6 0 σ2 →
        wp_PI_init (fun σ10 =>
          zle σ8 σ10 ∧
          ∀ y12, y12 = σ2 72 0 →
          ∀ σ13, σ13 = zup σ10 62 0 ((σ10 62 0) + 1) →
          Q y12 σ13) (σ2 72 0) (σ8 62 0) σ8) ∧
       (r4 = 2 →
        wp_CX_parse2 (fun r16 σ14 =>
          ((r16 < 0 →
            Q (-1) σ14) ∧
           (¬ r16 < 0 →
            zWf σ14 ∧ 0 ≤ σ14 72 0 ∧ zvp σ14 r16 ∧ ∀ σ20, σ20 = znew6 1 σ14 →
            wp_IN_init (fun σ22 =>
              zle σ20 σ22 ∧
              Q (σ14 72 0) σ22) (σ14 72 0) r16 σ20))) (v1 + 1) σ2) ∧
       (r4 = 3 →
        wp_CX_parse2 (fun r26 σ24 =>
          ((r26 < 0 →
            bk_CX_parse1_112 Q r26 (-1) σ24) ∧
           (¬ r26 < 0 →
            zvp σ24 r26 ∧ wp_CX_parse2 (fun r29 σ27 =>
              bk_CX_parse1_112 Q r26 r29 σ27) (v1 + 1) σ24))) (v1 + 1) σ2) ∧
       (r4 < 1 ∨ 3 < r4 →
        Q (-1) σ2))) σ) ∧
   (¬ v1 ≤ 7 →
    Q (-1) σ))
set_option maxHeartbeats 4000000 in
set_option maxRecDepth 100000 in
theorem wk_CX_parse1_112 {E : zE} {D : va_G} {g : zG} {A : Nat → Prop} {ad0 : zA} {σ0 : zS} {Q : Int → zS → Prop} (C : zX E b_CX_parse R_CX D g { frames := 10, cells := 255, slots := 510, locals := 223 } 4) (R : zRt E (some (.object "CellMapper$Pattern")) (zJr D g ad0 σ0 6 Q A) 255 510 A) (S : zSt g A (zst E) (zst E).heap) (hA : ∀ q, (zst E).heap.size ≤ q → A q) (ad : zA) (v2 : Int) (z0 : Int) (σ : zS) (hX : zEx ad0 σ0 ad σ) (h : bk_CX_parse1_112 Q v2 z0 σ) : zW E (zOK D A (zst E) g ad) 254 508 112 [(2, zr ad 6 v2)] [zr ad 6 z0] σ := by
  unfold bk_CX_parse1_112 at h
  refine z_astoreZ_n (L' := [(3, zr ad 6 z0), (2, zr ad 6 v2)]) C (pc := 112) d_CX_parse1_112 (by decide) (congrArg (List.cons _) (flt_eq (j := 3) rfl (List.forall_mem_singleton.mpr (zr_cat _ _ _)) rfl)) ?_
  refine z_aloadZ_n C (pc := 113) d_CX_parse1_113 0 rfl ?_
  refine z_ifnonnull (tgt := 121) C (pc := 114) d_CX_parse1_114 (by decide) h (fun h => ?_) (fun h => ?_)
  · obtain ⟨hc31, hc32, hc33, hc34, h⟩ := h
    refine xa_new6c (fun ad => [(3, zr ad 6 z0), (2, zr ad 6 v2)]) (fun ad => []) C hA hc31 hc32 wd_409 (pc := 121) d_CX_parse1_121 ⟨Nat.le_of_ble_eq_true rfl, Nat.le_of_ble_eq_true rfl⟩ (fun ad' ha => ⟨by simp only [zr_agP (x := z0) ha hc33, zr_agP (x := v2) ha hc34], rfl⟩) (fun ad hE36 => ?_)
    refine zN h (fun σ35 eσ35 h => ?_)
    rw [← eσ35] at hE36
    have hX := hX.trans hE36
    refine z_dup C (pc := 124) d_CX_parse1_124 (zr_cat _ _ _) ?_
    refine z_aloadZ_n C (pc := 125) d_CX_parse1_125 1 rfl ?_
    refine z_aloadZ_n C (pc := 126) d_CX_parse1_126 0 rfl ?_
    refine x_callINv (hkn := ⟨Nat.le_of_ble_eq_true rfl, Nat.le_of_ble_eq_true rfl⟩) (As := [zr ad 6 v2, zr ad 6 z0]) (st := [zr ad 6 (σ 72 0)]) (a := ad (6, (σ 72 0).toNat)) C S fi_NA_init (by simp [zNs]) (pc := 127) d_CX_parse1_127 ⟨rfl, rfl, Nat.le_of_ble_eq_true rfl, Nat.le_of_ble_eq_true rfl⟩ rfl (by rw [zr_s ad 6 hc32]; rfl) (by simp [zr_cat, kv_cat, cat_i, cat_l, cat_r]) h (c_NA_init (zln E) D g ad _ _ _ _ _) (fun σ37 h => ?_)
    obtain ⟨hE38, h⟩ := h
    have hX := hX.le hE38
    exact za_aret C R hX (Or.inl ⟨_, rfl⟩) (pc := 130) d_CX_parse1_130 h
  · refine z_nullZ (ad := ad) 6 C (pc := 117) d_CX_parse1_117 ?_
    refine z_goto (tgt := 130) C (pc := 118) d_CX_parse1_118 (by decide) ?_
    refine zW.widen (k' := 255) (n' := 510) (by decide) (by decide) ?_
    exact za_aret C R hX (Or.inl ⟨_, rfl⟩) (pc := 130) d_CX_parse1_130 h
set_option maxHeartbeats 4000000 in
set_option maxRecDepth 100000 in
theorem c_CX_parse1 (l : Launch) (D : va_G) (g : zG) (ad : zA) (v1 : Int) (Q : Int → zS → Prop) (σ : zS) (h : wp_CX_parse1 Q v1 σ) (sz : Nat) : zHr 6 l y_CX_parse b_CX_parse 4 (some (.object "CellMapper$Pattern")) { frames := 10, cells := 255, slots := 510, locals := 223 } D g ad σ [.ref (ad (0, 2)), .int (zi v1)] Q sz 255 510 := by
  unfold wp_CX_parse1 at h
  refine zA_of (by decide) (Nat.le_of_ble_eq_true rfl) (fun E C R S hA => ?_)
  have C : zX E b_CX_parse R_CX D g { frames := 10, cells := 255, slots := 510, locals := 223 } 4 := C
  have hX : zEx ad σ ad σ := zEx.rf
  refine z_sub (L' := [(0, .ref (ad (0, 2))), (1, .int (zi v1))]) [0, 1] rfl ?_
  refine z_iload_n C (pc := 0) d_CX_parse1_0 1 rfl ?_
  refine z_bipush C (pc := 1) d_CX_parse1_1 (by decide) ?_
  obtain ⟨hc1, h⟩ := h
  refine z_icmp_le (tgt := 8) C (pc := 3) d_CX_parse1_3 (by decide) hc1 (by decide) h (fun h => ?_) (fun h => ?_)
  · refine z_aload_n C (pc := 8) d_CX_parse1_8 0 rfl ?_
    refine x_callVi (hkn := ⟨Nat.le_of_ble_eq_true rfl, Nat.le_of_ble_eq_true rfl⟩) (As := []) (st := []) C S fy_DG_next (0, 2) (zids_fix zfix_2) rfl rfl wd_382 (pc := 9) d_CX_parse1_9 ⟨rfl, rfl, Nat.le_of_ble_eq_true rfl, Nat.le_of_ble_eq_true rfl⟩ rfl rfl (Nat.le_of_ble_eq_true rfl) h (c_DG_next (zln E) D g ad _ _) (fun r4 σ2 h => ?_)
    obtain ⟨hE3, h⟩ := h
    have hX := hX.le hE3
    obtain ⟨hc5, h⟩ := h
    by_cases q39 : r4 = 1
    · have h := h.1 q39
      refine z_tableIn (off := 28) (tgt := 40) C (pc := 12) d_CX_parse1_12 hc5 (by omega) (by omega) (by rw [q39]; rfl) (by decide) ?_
      refine z_sub (L' := [(0, .ref (ad (0, 2)))]) [0] rfl ?_
      obtain ⟨hc6, hc7, h⟩ := h
      refine xa_new6a (fun ad => [(0, .ref (ad (0, 2)))]) (fun ad => []) C hA hc6 hc7 wd_386 (pc := 40) d_CX_parse1_40 ⟨Nat.le_of_ble_eq_true rfl, Nat.le_of_ble_eq_true rfl⟩ (fun ad' ha => ⟨by simp only [zo_ag ha zfix_2 (by decide)], rfl⟩) (fun ad hE9 => ?_)
      refine zN h (fun σ8 eσ8 h => ?_)
      rw [← eσ8] at hE9
      have hX := hX.trans hE9
      refine z_dup C (pc := 43) d_CX_parse1_43 (zr_cat _ _ _) ?_
      refine z_aload_n C (pc := 44) d_CX_parse1_44 0 rfl ?_
      refine x_getD C 1 (by decide) wd_77 (pc := 45) d_CX_parse1_45 ?_
      refine x_callINv (hkn := ⟨Nat.le_of_ble_eq_true rfl, Nat.le_of_ble_eq_true rfl⟩) (As := [.int (zi (σ8 62 0))]) (st := [zr ad 6 (σ2 72 0)]) (a := ad (6, (σ2 72 0).toNat)) C S fi_PI_init (by simp [zNs]) (pc := 48) d_CX_parse1_48 ⟨rfl, rfl, Nat.le_of_ble_eq_true rfl, Nat.le_of_ble_eq_true rfl⟩ rfl (by rw [zr_s ad 6 hc7]; rfl) (by simp [zr_cat, kv_cat, cat_i, cat_l, cat_r]) h (c_PI_init (zln E) D g ad _ _ _ _) (fun σ10 h => ?_)
      obtain ⟨hE11, h⟩ := h
      have hX := hX.le hE11
      refine zNz h (fun y12 ey12 h => ?_)
      refine z_astoreZ_n (L' := [(2, zr ad 6 y12), (0, .ref (ad (0, 2)))]) C (pc := 51) d_CX_parse1_51 (by decide) rfl ?_
      refine z_aload_n C (pc := 52) d_CX_parse1_52 1 rfl ?_
      refine z_dup C (pc := 53) d_CX_parse1_53 rfl ?_
      refine x_getD C 1 (by decide) wd_77 (pc := 54) d_CX_parse1_54 ?_
      refine z_iconst C (pc := 57) d_CX_parse1_57 ?_
      refine z_iadd C (pc := 58) d_CX_parse1_58 ?_
      refine x_putD C 1 (by decide) wd_77 (pc := 59) d_CX_parse1_59 ?_
      refine zN h (fun σ13 eσ13 h => ?_)
      have hX := hX.upE eσ13 (by decide) (by decide) (by decide)
      refine z_aloadZ_n C (pc := 62) d_CX_parse1_62 0 rfl ?_
      refine zW.widen (k' := 255) (n' := 510) (by decide) (by decide) ?_
      exact za_aret C R hX (Or.inl ⟨_, rfl⟩) (pc := 63) d_CX_parse1_63 h
    · have h := h.2
      by_cases q40 : r4 = 2
      · have h := h.1 q40
        refine z_tableIn (off := 52) (tgt := 64) C (pc := 12) d_CX_parse1_12 hc5 (by omega) (by omega) (by rw [q40]; rfl) (by decide) ?_
        refine z_aload_n C (pc := 64) d_CX_parse1_64 0 rfl ?_
        refine z_iload_n C (pc := 65) d_CX_parse1_65 1 rfl ?_
        refine z_iconst C (pc := 66) d_CX_parse1_66 ?_
        refine z_iadd C (pc := 67) d_CX_parse1_67 ?_
        refine z_sub (L' := []) [] rfl ?_
        refine xa_callSr (As := [.ref (ad (0, 2)), .int (zi (v1 + 1))]) (fun ad => []) (fun ad => []) C S hA fs_CX_parse wd_379 (pc := 68) d_CX_parse1_68 ⟨rfl, rfl, Nat.le_of_ble_eq_true rfl, Nat.le_of_ble_eq_true rfl⟩ ⟨Nat.le_of_ble_eq_true rfl, Nat.le_of_ble_eq_true rfl⟩ rfl rfl (Nat.le_of_ble_eq_true rfl) (fun ad' ha => ⟨rfl, rfl⟩) h (c_CX_parse2 (zln E) D g ad _ _ _) (fun r16 σ14 ad hE15 h => ?_)
        have hX := hX.trans hE15
        refine z_astoreZ_n (L' := [(2, zr ad 6 r16)]) C (pc := 71) d_CX_parse1_71 (by decide) rfl ?_
        refine z_aloadZ_n C (pc := 72) d_CX_parse1_72 0 rfl ?_
        refine z_ifnonnull (tgt := 80) C (pc := 73) d_CX_parse1_73 (by decide) h (fun h => ?_) (fun h => ?_)
        · obtain ⟨hc17, hc18, hc19, h⟩ := h
          refine xa_new6b (fun ad => [(2, zr ad 6 r16)]) (fun ad => []) C hA hc17 hc18 wd_399 (pc := 80) d_CX_parse1_80 ⟨Nat.le_of_ble_eq_true rfl, Nat.le_of_ble_eq_true rfl⟩ (fun ad' ha => ⟨by simp only [zr_agP (x := r16) ha hc19], rfl⟩) (fun ad hE21 => ?_)
          refine zN h (fun σ20 eσ20 h => ?_)
          rw [← eσ20] at hE21
          have hX := hX.trans hE21
          refine z_dup C (pc := 83) d_CX_parse1_83 (zr_cat _ _ _) ?_
          refine z_aloadZ_n C (pc := 84) d_CX_parse1_84 0 rfl ?_
          refine x_callINv (hkn := ⟨Nat.le_of_ble_eq_true rfl, Nat.le_of_ble_eq_true rfl⟩) (As := [zr ad 6 r16]) (st := [zr ad 6 (σ14 72 0)]) (a := ad (6, (σ14 72 0).toNat)) C S fi_IN_init (by simp [zNs]) (pc := 85) d_CX_parse1_85 ⟨rfl, rfl, Nat.le_of_ble_eq_true rfl, Nat.le_of_ble_eq_true rfl⟩ rfl (by rw [zr_s ad 6 hc18]; rfl) (by simp [zr_cat, kv_cat, cat_i, cat_l, cat_r]) h (c_IN_init (zln E) D g ad _ _ _ _) (fun σ22 h => ?_)
          obtain ⟨hE23, h⟩ := h
          have hX := hX.le hE23
          refine zW.widen (k' := 255) (n' := 510) (by decide) (by decide) ?_
          exact za_aret C R hX (Or.inl ⟨_, rfl⟩) (pc := 88) d_CX_parse1_88 h
        · refine z_nullZ (ad := ad) 6 C (pc := 76) d_CX_parse1_76 ?_
          refine z_goto (tgt := 88) C (pc := 77) d_CX_parse1_77 (by decide) ?_
          refine zW.widen (k' := 255) (n' := 510) (by decide) (by decide) ?_
          exact za_aret C R hX (Or.inl ⟨_, rfl⟩) (pc := 88) d_CX_parse1_88 h
      · have h := h.2
        by_cases q41 : r4 = 3
        · have h := h.1 q41
          refine z_tableIn (off := 77) (tgt := 89) C (pc := 12) d_CX_parse1_12 hc5 (by omega) (by omega) (by rw [q41]; rfl) (by decide) ?_
          refine z_aload_n C (pc := 89) d_CX_parse1_89 0 rfl ?_
          refine z_iload_n C (pc := 90) d_CX_parse1_90 1 rfl ?_
          refine z_iconst C (pc := 91) d_CX_parse1_91 ?_
          refine z_iadd C (pc := 92) d_CX_parse1_92 ?_
          refine xa_callSr (As := [.ref (ad (0, 2)), .int (zi (v1 + 1))]) (fun ad => [(0, .ref (ad (0, 2))), (1, .int (zi v1))]) (fun ad => []) C S hA fs_CX_parse wd_379 (pc := 93) d_CX_parse1_93 ⟨rfl, rfl, Nat.le_of_ble_eq_true rfl, Nat.le_of_ble_eq_true rfl⟩ ⟨Nat.le_of_ble_eq_true rfl, Nat.le_of_ble_eq_true rfl⟩ rfl rfl (Nat.le_of_ble_eq_true rfl) (fun ad' ha => ⟨by simp only [zo_ag ha zfix_2 (by decide)], rfl⟩) h (c_CX_parse2 (zln E) D g ad _ _ _) (fun r26 σ24 ad hE25 h => ?_)
          have hX := hX.trans hE25
          refine z_astoreZ_n (L' := [(2, zr ad 6 r26), (0, .ref (ad (0, 2))), (1, .int (zi v1))]) C (pc := 96) d_CX_parse1_96 (by decide) rfl ?_
          refine z_aloadZ_n C (pc := 97) d_CX_parse1_97 0 rfl ?_
          refine z_ifnonnull (tgt := 105) C (pc := 98) d_CX_parse1_98 (by decide) h (fun h => ?_) (fun h => ?_)
          · refine z_aload_n C (pc := 105) d_CX_parse1_105 1 rfl ?_
            refine z_iload_n C (pc := 106) d_CX_parse1_106 2 rfl ?_
            refine z_iconst C (pc := 107) d_CX_parse1_107 ?_
            refine z_iadd C (pc := 108) d_CX_parse1_108 ?_
            refine z_sub (L' := [(2, zr ad 6 r26)]) [0] rfl ?_
            obtain ⟨hc30, h⟩ := h
            refine xa_callSr (As := [.ref (ad (0, 2)), .int (zi (v1 + 1))]) (fun ad => [(2, zr ad 6 r26)]) (fun ad => []) C S hA fs_CX_parse wd_379 (pc := 109) d_CX_parse1_109 ⟨rfl, rfl, Nat.le_of_ble_eq_true rfl, Nat.le_of_ble_eq_true rfl⟩ ⟨Nat.le_of_ble_eq_true rfl, Nat.le_of_ble_eq_true rfl⟩ rfl rfl (Nat.le_of_ble_eq_true rfl) (fun ad' ha => ⟨by simp only [zr_agP (x := r26) ha hc30], rfl⟩) h (c_CX_parse2 (zln E) D g ad _ _ _) (fun r29 σ27 ad hE28 h => ?_)
            have hX := hX.trans hE28
            exact wk_CX_parse1_112 C R S hA ad _ _ _ hX h
          · refine z_nullZ (ad := ad) 6 C (pc := 101) d_CX_parse1_101 ?_
            refine z_goto (tgt := 112) C (pc := 102) d_CX_parse1_102 (by decide) ?_
            refine zW.widen (k' := 254) (n' := 508) (by decide) (by decide) ?_
            refine z_sub [0] rfl ?_
            exact wk_CX_parse1_112 C R S hA ad _ _ _ hX h
        · have h := h.2
          have h := h (show r4 < 1 ∨ 3 < r4 by omega)
          refine z_tableOut (tgt := 131) C (pc := 12) d_CX_parse1_12 hc5 (show r4 < 1 ∨ 3 < r4 by omega) (by decide) ?_
          refine z_nullZ (ad := ad) 6 C (pc := 131) d_CX_parse1_131 ?_
          refine zW.widen (k' := 255) (n' := 510) (by decide) (by decide) ?_
          exact za_aret C R hX (Or.inl ⟨_, rfl⟩) (pc := 132) d_CX_parse1_132 h
  · refine z_nullZ (ad := ad) 6 C (pc := 6) d_CX_parse1_6 ?_
    refine zW.widen (k' := 255) (n' := 510) (by decide) (by decide) ?_
    exact za_aret C R hX (Or.inl ⟨_, rfl⟩) (pc := 7) d_CX_parse1_7 h
