theorem d_GR_add_0 : decode b_GR_add 0 = .ok (.new 16, 3) := by decide +kernel
theorem d_GR_add_3 : decode b_GR_add 3 = .ok (.dup, 1) := by decide +kernel
theorem d_GR_add_4 : decode b_GR_add 4 = .ok (.aload_n 0, 1) := by decide +kernel
theorem d_GR_add_5 : decode b_GR_add 5 = .ok (.getfield 10, 3) := by decide +kernel
theorem d_GR_add_8 : decode b_GR_add 8 = .ok (.invokevirtual 18, 3) := by decide +kernel
theorem d_GR_add_11 : decode b_GR_add 11 = .ok (.aload_n 1, 1) := by decide +kernel
theorem d_GR_add_12 : decode b_GR_add 12 = .ok (.aload_n 2, 1) := by decide +kernel
theorem d_GR_add_13 : decode b_GR_add 13 = .ok (.aload_n 3, 1) := by decide +kernel
theorem d_GR_add_14 : decode b_GR_add 14 = .ok (.iload 4, 2) := by decide +kernel
theorem d_GR_add_16 : decode b_GR_add 16 = .ok (.invokespecial 22, 3) := by decide +kernel
theorem d_GR_add_19 : decode b_GR_add 19 = .ok (.astore 5, 2) := by decide +kernel
theorem d_GR_add_21 : decode b_GR_add 21 = .ok (.aload_n 0, 1) := by decide +kernel
theorem d_GR_add_22 : decode b_GR_add 22 = .ok (.getfield 10, 3) := by decide +kernel
theorem d_GR_add_25 : decode b_GR_add 25 = .ok (.aload 5, 2) := by decide +kernel
theorem d_GR_add_27 : decode b_GR_add 27 = .ok (.invokevirtual 25, 3) := by decide +kernel
theorem d_GR_add_30 : decode b_GR_add 30 = .ok (.pop, 1) := by decide +kernel
theorem d_GR_add_31 : decode b_GR_add 31 = .ok (.aload 5, 2) := by decide +kernel
theorem d_GR_add_33 : decode b_GR_add 33 = .ok (.areturn, 1) := by decide +kernel
def wp_GR_add (Q : Int → zS → Prop) (v1 : Int) (v2 : Int) (v3 : Int) (v4 : Int) (σ : zS) : Prop :=
  zWf σ ∧ 0 ≤ σ 70 0 ∧ zvn σ v2 ∧ zvn σ v3 ∧ ∀ σ5, σ5 = znew4 σ →
  wp_ND_init (fun σ7 =>
    zle σ5 σ7 ∧
    ∀ y9, y9 = σ 70 0 →
    wp_add 0 (fun σ10 =>
      Q y9 σ10) y9 σ7) (σ 70 0) (σ5 40 0) v1 v2 v3 v4 σ5
set_option maxHeartbeats 4000000 in
set_option maxRecDepth 100000 in
theorem c_GR_add (l : Launch) (D : va_G) (g : zG) (ad : zA) (v1 : Int) (v2 : Int) (v3 : Int) (v4 : Int) (Q : Int → zS → Prop) (σ : zS) (h : wp_GR_add Q v1 v2 v3 v4 σ) (sz : Nat) : zHr 4 l y_GR_add b_GR_add 6 (some (.object "CellMapper$Node")) { frames := 7, cells := 2, slots := 118, locals := 191 } D g ad σ [.ref (ad (0, 1)), kv g v1, zr ad 4 v2, zr ad 4 v3, .int (zi v4)] Q sz 2 118 := by
  unfold wp_GR_add at h
  refine zA_of (by decide) (by simp [lg_sl, zr_cat, kv_cat, cat_i, cat_l, cat_r]) (fun E C R S hA => ?_)
  have C : zX E b_GR_add R_GR D g { frames := 7, cells := 2, slots := 118, locals := 191 } 6 := C
  have hX : zEx ad σ ad σ := zEx.rf
  refine z_sub (L' := [(0, .ref (ad (0, 1))), (1, kv g v1), (2, zr ad 4 v2), (3, zr ad 4 v3), (4, .int (zi v4))]) [0, 1, 2, 3, 4] (by simp [lv_args, lv_pick, zr_cat, kv_cat, cat_i, cat_l, cat_r]) ?_
  obtain ⟨hc1, hc2, hc3, hc4, h⟩ := h
  refine xa_new4 (fun ad => [(0, .ref (ad (0, 1))), (1, kv g v1), (2, zr ad 4 v2), (3, zr ad 4 v3), (4, .int (zi v4))]) (fun ad => []) C hA hc1 hc2 wd_156 (pc := 0) d_GR_add_0 ⟨Nat.le_of_ble_eq_true rfl, Nat.le_of_ble_eq_true rfl⟩ (fun ad' ha => ⟨by simp only [zo_ag ha zfix_1 (by decide), zr_ag (x := v2) ha hc3, zr_ag (x := v3) ha hc4], rfl⟩) (fun ad hE6 => ?_)
  refine zN h (fun σ5 eσ5 h => ?_)
  rw [← eσ5] at hE6
  have hX := hX.trans hE6
  refine z_dup C (pc := 3) d_GR_add_3 (zr_cat _ _ _) ?_
  refine z_aload_n C (pc := 4) d_GR_add_4 0 rfl ?_
  refine x_getG C wd_62 (pc := 5) d_GR_add_5 ?_
  refine x_size (hkn := ⟨Nat.le_of_ble_eq_true rfl, Nat.le_of_ble_eq_true rfl⟩) (P := True) C S 0 (by decide) wd_158 ⟨Nat.le_of_ble_eq_true rfl, Nat.le_of_ble_eq_true rfl⟩ (by simp [zr_cat, kv_cat, cat_i, cat_l, cat_r]) (pc := 8) d_GR_add_8 ?_
  refine z_aloadK_n C (pc := 11) d_GR_add_11 1 rfl ?_
  refine z_aloadZ_n C (pc := 12) d_GR_add_12 2 rfl ?_
  refine z_aloadZ_n C (pc := 13) d_GR_add_13 3 rfl ?_
  refine z_iload C (pc := 14) d_GR_add_14 4 rfl ?_
  refine x_callIv (hkn := ⟨Nat.le_of_ble_eq_true rfl, Nat.le_of_ble_eq_true rfl⟩) (As := [.int (zi (σ5 40 0)), kv g v1, zr ad 4 v2, zr ad 4 v3, .int (zi v4)]) (st := [zr ad 4 (σ 70 0)]) (a := ad (4, (σ 70 0).toNat)) C S fi_ND_init wd_159 (pc := 16) d_GR_add_16 ⟨rfl, rfl, Nat.le_of_ble_eq_true rfl, Nat.le_of_ble_eq_true rfl⟩ rfl (by rw [zr_s ad 4 hc2]; rfl) (by simp [zr_cat, kv_cat, cat_i, cat_l, cat_r]) h (c_ND_init (zln E) D g ad _ _ _ _ _ _ _ _) (fun σ7 h => ?_)
  obtain ⟨hE8, h⟩ := h
  have hX := hX.le hE8
  refine zNz h (fun y9 ey9 h => ?_)
  refine z_astoreZ (L' := [(5, zr ad 4 y9), (0, .ref (ad (0, 1))), (1, kv g v1), (2, zr ad 4 v2), (3, zr ad 4 v3), (4, .int (zi v4))]) C (pc := 19) d_GR_add_19 (by decide) rfl ?_
  refine z_aload_n C (pc := 21) d_GR_add_21 1 rfl ?_
  refine x_getG C wd_62 (pc := 22) d_GR_add_22 ?_
  refine z_aloadZ C (pc := 25) d_GR_add_25 0 rfl ?_
  refine z_sub (L' := [(5, zr ad 4 y9)]) [0] rfl ?_
  refine xa_callVi (As := [zr ad 4 y9]) (fun ad => [(5, zr ad 4 y9)]) (fun ad => []) C S hA fy_AL_add (1, 0) (zids_fix (zfix_l (by decide))) rfl rfl wd_239 (pc := 27) d_GR_add_27 ⟨rfl, rfl, Nat.le_of_ble_eq_true rfl, Nat.le_of_ble_eq_true rfl⟩ ⟨Nat.le_of_ble_eq_true rfl, Nat.le_of_ble_eq_true rfl⟩ rfl rfl (Nat.le_of_ble_eq_true rfl) (fun ad' ha => ⟨by simp only [zr_ag (x := y9) ha (Or.inr ⟨(by rw [ey9]; exact hc2), (by rw [ey9]; exact (Int.lt_of_lt_of_le (by rw [eσ5]; show _ < (znew4 σ) 70 0; simp [znew4]; try omega) hE8.1))⟩)], rfl⟩) h (c_AL_add (zln E) D g ad 0 (by decide) _ _ _) (fun r12 σ10 ad hE11 h => ?_)
  have hX := hX.trans hE11
  refine z_pop C (pc := 30) d_GR_add_30 rfl ?_
  refine z_aloadZ C (pc := 31) d_GR_add_31 0 rfl ?_
  exact za_aret C R hX (Or.inl ⟨_, rfl⟩) (pc := 33) d_GR_add_33 h
theorem d_GR_shared_0 : decode b_GR_shared 0 = .ok (.iconst 0, 1) := by decide +kernel
theorem d_GR_shared_1 : decode b_GR_shared 1 = .ok (.istore 4, 2) := by decide +kernel
theorem d_GR_shared_3 : decode b_GR_shared 3 = .ok (.iload 4, 2) := by decide +kernel
theorem d_GR_shared_5 : decode b_GR_shared 5 = .ok (.aload_n 0, 1) := by decide +kernel
theorem d_GR_shared_6 : decode b_GR_shared 6 = .ok (.getfield 10, 3) := by decide +kernel
theorem d_GR_shared_9 : decode b_GR_shared 9 = .ok (.invokevirtual 18, 3) := by decide +kernel
theorem d_GR_shared_12 : decode b_GR_shared 12 = .ok (.if_icmp .ge 53, 3) := by decide +kernel
theorem d_GR_shared_15 : decode b_GR_shared 15 = .ok (.aload_n 0, 1) := by decide +kernel
theorem d_GR_shared_16 : decode b_GR_shared 16 = .ok (.getfield 10, 3) := by decide +kernel
theorem d_GR_shared_19 : decode b_GR_shared 19 = .ok (.iload 4, 2) := by decide +kernel
theorem d_GR_shared_21 : decode b_GR_shared 21 = .ok (.invokevirtual 29, 3) := by decide +kernel
theorem d_GR_shared_24 : decode b_GR_shared 24 = .ok (.checkcast 16, 3) := by decide +kernel
theorem d_GR_shared_27 : decode b_GR_shared 27 = .ok (.astore 5, 2) := by decide +kernel
theorem d_GR_shared_29 : decode b_GR_shared 29 = .ok (.aload 5, 2) := by decide +kernel
theorem d_GR_shared_31 : decode b_GR_shared 31 = .ok (.getfield 33, 3) := by decide +kernel
theorem d_GR_shared_34 : decode b_GR_shared 34 = .ok (.aload_n 1, 1) := by decide +kernel
theorem d_GR_shared_35 : decode b_GR_shared 35 = .ok (.if_acmp .ne 24, 3) := by decide +kernel
theorem d_GR_shared_38 : decode b_GR_shared 38 = .ok (.aload 5, 2) := by decide +kernel
theorem d_GR_shared_40 : decode b_GR_shared 40 = .ok (.getfield 37, 3) := by decide +kernel
theorem d_GR_shared_43 : decode b_GR_shared 43 = .ok (.aload_n 2, 1) := by decide +kernel
theorem d_GR_shared_44 : decode b_GR_shared 44 = .ok (.if_acmp .ne 15, 3) := by decide +kernel
theorem d_GR_shared_47 : decode b_GR_shared 47 = .ok (.aload 5, 2) := by decide +kernel
theorem d_GR_shared_49 : decode b_GR_shared 49 = .ok (.getfield 41, 3) := by decide +kernel
theorem d_GR_shared_52 : decode b_GR_shared 52 = .ok (.aload_n 3, 1) := by decide +kernel
theorem d_GR_shared_53 : decode b_GR_shared 53 = .ok (.if_acmp .ne 6, 3) := by decide +kernel
theorem d_GR_shared_56 : decode b_GR_shared 56 = .ok (.aload 5, 2) := by decide +kernel
theorem d_GR_shared_58 : decode b_GR_shared 58 = .ok (.areturn, 1) := by decide +kernel
theorem d_GR_shared_59 : decode b_GR_shared 59 = .ok (.iinc 4 1, 3) := by decide +kernel
theorem d_GR_shared_62 : decode b_GR_shared 62 = .ok (.goto (-59), 3) := by decide +kernel
theorem d_GR_shared_65 : decode b_GR_shared 65 = .ok (.aload_n 0, 1) := by decide +kernel
theorem d_GR_shared_66 : decode b_GR_shared 66 = .ok (.aload_n 1, 1) := by decide +kernel
theorem d_GR_shared_67 : decode b_GR_shared 67 = .ok (.aload_n 2, 1) := by decide +kernel
theorem d_GR_shared_68 : decode b_GR_shared 68 = .ok (.aload_n 3, 1) := by decide +kernel
theorem d_GR_shared_69 : decode b_GR_shared 69 = .ok (.iconst 0, 1) := by decide +kernel
theorem d_GR_shared_70 : decode b_GR_shared 70 = .ok (.invokevirtual 44, 3) := by decide +kernel
theorem d_GR_shared_73 : decode b_GR_shared 73 = .ok (.areturn, 1) := by decide +kernel
def lp_GR_shared_3 (Q : Int → zS → Prop) : Nat → Int → Int → Int → Int → zS → Prop
  | 0 => fun _ _ _ _ _ => False
  | n + 1 => fun v1 v2 v3 v4 σ =>
    zc v4 ∧ zc (σ 40 0) ∧ ((σ 40 0 ≤ v4 →
      wp_GR_add (fun r5 σ3 =>
        Q r5 σ3) v1 v2 v3 0 σ) ∧
     (¬ σ 40 0 ≤ v4 →
      0 ≤ v4 ∧ v4 < σ 40 0 ∧ 
      0 ≤ σ 41 v4 ∧ σ 41 v4 < σ 70 0 ∧ 
      ∀ y10, y10 = σ 41 v4 →
      0 ≤ σ 1 y10 ∧ σ 1 y10 < 4 ∧ 0 ≤ v1 ∧ v1 < 4 ∧ ((σ 1 y10 = v1 →
        zvn σ (σ 2 y10) ∧ zvn σ v2 ∧ ((σ 2 y10 = v2 →
          zvn σ (σ 3 y10) ∧ zvn σ v3 ∧ ((σ 3 y10 = v3 →
            Q y10 σ) ∧
           (¬ σ 3 y10 = v3 →
            lp_GR_shared_3 Q n v1 v2 v3 (v4 + 1) σ))) ∧
         (¬ σ 2 y10 = v2 →
          lp_GR_shared_3 Q n v1 v2 v3 (v4 + 1) σ))) ∧
       (¬ σ 1 y10 = v1 →
        lp_GR_shared_3 Q n v1 v2 v3 (v4 + 1) σ))))
def wp_GR_shared (Q : Int → zS → Prop) (v1 : Int) (v2 : Int) (v3 : Int) (σ : zS) : Prop :=
  ∃ u3, lp_GR_shared_3 Q u3 v1 v2 v3 0 σ
set_option maxHeartbeats 4000000 in
set_option maxRecDepth 100000 in
theorem wk_GR_shared_3 {E : zE} {D : va_G} {g : zG} {A : Nat → Prop} {ad0 : zA} {σ0 : zS} {Q : Int → zS → Prop} (C : zX E b_GR_shared R_GR D g { frames := 8, cells := 2, slots := 118, locals := 216 } 6) (R : zRt E (some (.object "CellMapper$Node")) (zJr D g ad0 σ0 4 Q A) 2 118 A) (S : zSt g A (zst E) (zst E).heap) (hA : ∀ q, (zst E).heap.size ≤ q → A q) : ∀ (n : Nat) (ad : zA) (v1 : Int) (v2 : Int) (v3 : Int) (v4 : Int) (σ : zS), zEx ad0 σ0 ad σ → lp_GR_shared_3 Q n v1 v2 v3 v4 σ → zW E (zOK D A (zst E) g ad) 0 0 3 [(0, .ref (ad (0, 1))), (1, kv g v1), (2, zr ad 4 v2), (3, zr ad 4 v3), (4, .int (zi v4))] [] σ := by
  intro n
  induction n with
  | zero =>
    intro ad v1 v2 v3 v4 σ hX h
    exact h.elim
  | succ n ih =>
    intro ad v1 v2 v3 v4 σ hX h
    refine z_iload C (pc := 3) d_GR_shared_3 4 rfl ?_
    refine z_aload_n C (pc := 5) d_GR_shared_5 0 rfl ?_
    refine x_getG C wd_62 (pc := 6) d_GR_shared_6 ?_
    refine x_size (hkn := ⟨Nat.le_of_ble_eq_true rfl, Nat.le_of_ble_eq_true rfl⟩) (P := True) C S 0 (by decide) wd_158 ⟨Nat.le_of_ble_eq_true rfl, Nat.le_of_ble_eq_true rfl⟩ (Nat.le_of_ble_eq_true rfl) (pc := 9) d_GR_shared_9 ?_
    obtain ⟨hc1, hc2, h⟩ := h
    refine z_icmp_ge (tgt := 65) C (pc := 12) d_GR_shared_12 (by decide) hc1 hc2 h (fun h => ?_) (fun h => ?_)
    · refine z_aload_n C (pc := 65) d_GR_shared_65 0 rfl ?_
      refine z_aloadK_n C (pc := 66) d_GR_shared_66 1 rfl ?_
      refine z_aloadZ_n C (pc := 67) d_GR_shared_67 2 rfl ?_
      refine z_aloadZ_n C (pc := 68) d_GR_shared_68 3 rfl ?_
      refine z_iconst C (pc := 69) d_GR_shared_69 ?_
      refine z_sub (L' := []) [] rfl ?_
      refine xa_callVr (As := [kv g v1, zr ad 4 v2, zr ad 4 v3, .int (zi 0)]) (fun ad => []) (fun ad => []) C S hA fy_GR_add (0, 1) (zids_fix zfix_1) rfl rfl wd_347 (pc := 70) d_GR_shared_70 ⟨rfl, rfl, Nat.le_of_ble_eq_true rfl, Nat.le_of_ble_eq_true rfl⟩ ⟨Nat.le_of_ble_eq_true rfl, Nat.le_of_ble_eq_true rfl⟩ rfl rfl (Nat.le_of_ble_eq_true rfl) (fun ad' ha => ⟨rfl, rfl⟩) h (c_GR_add (zln E) D g ad _ _ _ _ _ _) (fun r5 σ3 ad hE4 h => ?_)
      have hX := hX.trans hE4
      exact za_aret C R hX (Or.inl ⟨_, rfl⟩) (pc := 73) d_GR_shared_73 h
    · refine z_aload_n C (pc := 15) d_GR_shared_15 0 rfl ?_
      refine x_getG C wd_62 (pc := 16) d_GR_shared_16 ?_
      refine z_iload C (pc := 19) d_GR_shared_19 4 rfl ?_
      obtain ⟨hc6, hc7, h⟩ := h
      refine x_lget (hkn := ⟨Nat.le_of_ble_eq_true rfl, Nat.le_of_ble_eq_true rfl⟩) C S 0 (by decide) hc6 hc7 wd_346 ⟨Nat.le_of_ble_eq_true rfl, Nat.le_of_ble_eq_true rfl⟩ (Nat.le_of_ble_eq_true rfl) (pc := 21) d_GR_shared_21 ?_
      obtain ⟨hc8, hc9, h⟩ := h
      refine x_castN C wd_156 (Or.inr ⟨hc8, hc9⟩) (pc := 24) d_GR_shared_24 ?_
      refine zNz h (fun y10 ey10 h => ?_)
      refine z_astoreZ (L' := [(5, zr ad 4 y10), (0, .ref (ad (0, 1))), (1, kv g v1), (2, zr ad 4 v2), (3, zr ad 4 v3), (4, .int (zi v4))]) C (pc := 27) d_GR_shared_27 (by decide) rfl ?_
      refine z_aloadZ C (pc := 29) d_GR_shared_29 0 rfl ?_
      refine x_getN (v := kv g (σ 1 y10)) C 1 (by decide) (by rw [ey10]; exact hc8) (by rw [ey10]; exact hc9) rfl wd_170 (pc := 31) d_GR_shared_31 ?_
      refine z_aloadK_n C (pc := 34) d_GR_shared_34 2 rfl ?_
      obtain ⟨hc11, hc12, hc13, hc14, h⟩ := h
      refine x_acmpK_ne (tgt := 59) C S (pc := 35) d_GR_shared_35 (by decide) hc11 hc12 hc13 hc14 h (fun h => ?_) (fun h => ?_)
      · refine z_iinc (L' := [(4, .int (zi (v4 + 1))), (5, zr ad 4 y10), (0, .ref (ad (0, 1))), (1, kv g v1), (2, zr ad 4 v2), (3, zr ad 4 v3)]) C (pc := 59) d_GR_shared_59 5 rfl (by decide) (congrArg (List.cons _) (flt_eq (j := 4) rfl (List.forall_mem_singleton.mpr (zr_cat _ _ _)) rfl)) ?_
        refine z_goto (tgt := 3) C (pc := 62) d_GR_shared_62 (by decide) ?_
        refine z_sub [2, 3, 4, 5, 0] rfl ?_
        exact ih ad _ _ _ _ _ hX h
      · refine z_aloadZ C (pc := 38) d_GR_shared_38 0 rfl ?_
        refine x_getN (v := zr ad 4 (σ 2 y10)) C 2 (by decide) (by rw [ey10]; exact hc8) (by rw [ey10]; exact hc9) rfl wd_176 (pc := 40) d_GR_shared_40 ?_
        refine z_aloadZ_n C (pc := 43) d_GR_shared_43 3 rfl ?_
        obtain ⟨hc15, hc16, h⟩ := h
        refine z_acmp_ne (tgt := 59) C (pc := 44) d_GR_shared_44 (by decide) hc15 hc16 h (fun h => ?_) (fun h => ?_)
        · refine z_iinc (L' := [(4, .int (zi (v4 + 1))), (5, zr ad 4 y10), (0, .ref (ad (0, 1))), (1, kv g v1), (2, zr ad 4 v2), (3, zr ad 4 v3)]) C (pc := 59) d_GR_shared_59 5 rfl (by decide) (congrArg (List.cons _) (flt_eq (j := 4) rfl (List.forall_mem_singleton.mpr (zr_cat _ _ _)) rfl)) ?_
          refine z_goto (tgt := 3) C (pc := 62) d_GR_shared_62 (by decide) ?_
          refine z_sub [2, 3, 4, 5, 0] rfl ?_
          exact ih ad _ _ _ _ _ hX h
        · refine z_aloadZ C (pc := 47) d_GR_shared_47 0 rfl ?_
          refine x_getN (v := zr ad 4 (σ 3 y10)) C 3 (by decide) (by rw [ey10]; exact hc8) (by rw [ey10]; exact hc9) rfl wd_180 (pc := 49) d_GR_shared_49 ?_
          refine z_aloadZ_n C (pc := 52) d_GR_shared_52 4 rfl ?_
          obtain ⟨hc17, hc18, h⟩ := h
          refine z_acmp_ne (tgt := 59) C (pc := 53) d_GR_shared_53 (by decide) hc17 hc18 h (fun h => ?_) (fun h => ?_)
          · refine z_iinc (L' := [(4, .int (zi (v4 + 1))), (5, zr ad 4 y10), (0, .ref (ad (0, 1))), (1, kv g v1), (2, zr ad 4 v2), (3, zr ad 4 v3)]) C (pc := 59) d_GR_shared_59 5 rfl (by decide) (congrArg (List.cons _) (flt_eq (j := 4) rfl (List.forall_mem_singleton.mpr (zr_cat _ _ _)) rfl)) ?_
            refine z_goto (tgt := 3) C (pc := 62) d_GR_shared_62 (by decide) ?_
            refine z_sub [2, 3, 4, 5, 0] rfl ?_
            exact ih ad _ _ _ _ _ hX h
          · refine z_aloadZ C (pc := 56) d_GR_shared_56 0 rfl ?_
            refine zW.widen (k' := 2) (n' := 118) (by decide) (by decide) ?_
            exact za_aret C R hX (Or.inl ⟨_, rfl⟩) (pc := 58) d_GR_shared_58 h
set_option maxHeartbeats 4000000 in
set_option maxRecDepth 100000 in
theorem c_GR_shared (l : Launch) (D : va_G) (g : zG) (ad : zA) (v1 : Int) (v2 : Int) (v3 : Int) (Q : Int → zS → Prop) (σ : zS) (h : wp_GR_shared Q v1 v2 v3 σ) (sz : Nat) : zHr 4 l y_GR_shared b_GR_shared 6 (some (.object "CellMapper$Node")) { frames := 8, cells := 2, slots := 118, locals := 216 } D g ad σ [.ref (ad (0, 1)), kv g v1, zr ad 4 v2, zr ad 4 v3] Q sz 2 118 := by
  unfold wp_GR_shared at h
  refine zA_of (by decide) (by simp [lg_sl, zr_cat, kv_cat, cat_i, cat_l, cat_r]) (fun E C R S hA => ?_)
  have C : zX E b_GR_shared R_GR D g { frames := 8, cells := 2, slots := 118, locals := 216 } 6 := C
  have hX : zEx ad σ ad σ := zEx.rf
  refine z_sub (L' := [(0, .ref (ad (0, 1))), (1, kv g v1), (2, zr ad 4 v2), (3, zr ad 4 v3)]) [0, 1, 2, 3] (by simp [lv_args, lv_pick, zr_cat, kv_cat, cat_i, cat_l, cat_r]) ?_
  refine z_iconst C (pc := 0) d_GR_shared_0 ?_
  refine z_istore (L' := [(4, .int (zi 0)), (0, .ref (ad (0, 1))), (1, kv g v1), (2, zr ad 4 v2), (3, zr ad 4 v3)]) C (pc := 1) d_GR_shared_1 (by decide) (congrArg (List.cons _) (flt_eq (j := 4) rfl (List.forall_mem_singleton.mpr (zr_cat _ _ _)) rfl)) ?_
  refine z_sub [1, 2, 3, 4, 0] rfl ?_
  obtain ⟨n19, h⟩ := h
  exact wk_GR_shared_3 C R S hA n19 ad _ _ _ _ _ hX h
theorem d_GR_inv_0 : decode b_GR_inv 0 = .ok (.aload_n 1, 1) := by decide +kernel
theorem d_GR_inv_1 : decode b_GR_inv 1 = .ok (.getfield 33, 3) := by decide +kernel
theorem d_GR_inv_4 : decode b_GR_inv 4 = .ok (.getstatic 47, 3) := by decide +kernel
theorem d_GR_inv_7 : decode b_GR_inv 7 = .ok (.if_acmp .ne 10, 3) := by decide +kernel
theorem d_GR_inv_10 : decode b_GR_inv 10 = .ok (.aload_n 1, 1) := by decide +kernel
theorem d_GR_inv_11 : decode b_GR_inv 11 = .ok (.getfield 37, 3) := by decide +kernel
theorem d_GR_inv_14 : decode b_GR_inv 14 = .ok (.goto 12, 3) := by decide +kernel
theorem d_GR_inv_17 : decode b_GR_inv 17 = .ok (.aload_n 0, 1) := by decide +kernel
theorem d_GR_inv_18 : decode b_GR_inv 18 = .ok (.getstatic 47, 3) := by decide +kernel
theorem d_GR_inv_21 : decode b_GR_inv 21 = .ok (.aload_n 1, 1) := by decide +kernel
theorem d_GR_inv_22 : decode b_GR_inv 22 = .ok (.aconst_null, 1) := by decide +kernel
theorem d_GR_inv_23 : decode b_GR_inv 23 = .ok (.invokevirtual 52, 3) := by decide +kernel
theorem d_GR_inv_26 : decode b_GR_inv 26 = .ok (.areturn, 1) := by decide +kernel
def wp_GR_inv (Q : Int → zS → Prop) (v1 : Int) (σ : zS) : Prop :=
  0 ≤ v1 ∧ v1 < σ 70 0 ∧ 
  0 ≤ σ 1 v1 ∧ σ 1 v1 < 4 ∧ ((σ 1 v1 = 3 →
    Q (σ 2 v1) σ) ∧
   (¬ σ 1 v1 = 3 →
    wp_GR_shared (fun r7 σ5 =>
      Q r7 σ5) 3 v1 (-1) σ))
set_option maxHeartbeats 4000000 in
set_option maxRecDepth 100000 in
theorem c_GR_inv (l : Launch) (D : va_G) (g : zG) (ad : zA) (v1 : Int) (Q : Int → zS → Prop) (σ : zS) (h : wp_GR_inv Q v1 σ) (sz : Nat) : zHr 4 l y_GR_inv b_GR_inv 2 (some (.object "CellMapper$Node")) { frames := 9, cells := 2, slots := 118, locals := 241 } D g ad σ [.ref (ad (0, 1)), zr ad 4 v1] Q sz 2 118 := by
  unfold wp_GR_inv at h
  refine zA_of (by decide) (by simp [lg_sl, zr_cat, kv_cat, cat_i, cat_l, cat_r]) (fun E C R S hA => ?_)
  have C : zX E b_GR_inv R_GR D g { frames := 9, cells := 2, slots := 118, locals := 241 } 2 := C
  have hX : zEx ad σ ad σ := zEx.rf
  refine z_sub (L' := [(0, .ref (ad (0, 1))), (1, zr ad 4 v1)]) [0, 1] (by simp [lv_args, lv_pick, zr_cat, kv_cat, cat_i, cat_l, cat_r]) ?_
  refine z_aloadZ_n C (pc := 0) d_GR_inv_0 1 rfl ?_
  obtain ⟨hc1, hc2, h⟩ := h
  refine x_getN (v := kv g (σ 1 v1)) C 1 (by decide) hc1 hc2 rfl wd_170 (pc := 1) d_GR_inv_1 ?_
  refine x_gets C S 3 (by decide) (by decide) rfl wd_340 (pc := 4) d_GR_inv_4 ?_
  obtain ⟨hc3, hc4, h⟩ := h
  refine x_acmpK_ne (tgt := 17) C S (pc := 7) d_GR_inv_7 (by decide) hc3 hc4 (by decide) (by decide) h (fun h => ?_) (fun h => ?_)
  · refine z_aload_n C (pc := 17) d_GR_inv_17 0 rfl ?_
    refine x_gets C S 3 (by decide) (by decide) rfl wd_340 (pc := 18) d_GR_inv_18 ?_
    refine z_aloadZ_n C (pc := 21) d_GR_inv_21 1 rfl ?_
    refine z_nullZ (ad := ad) 4 C (pc := 22) d_GR_inv_22 ?_
    refine z_sub (L' := []) [] rfl ?_
    refine xa_callVr (As := [kv g 3, zr ad 4 v1, zr ad 4 (-1)]) (fun ad => []) (fun ad => []) C S hA fy_GR_shared (0, 1) (zids_fix zfix_1) rfl rfl wd_342 (pc := 23) d_GR_inv_23 ⟨rfl, rfl, Nat.le_of_ble_eq_true rfl, Nat.le_of_ble_eq_true rfl⟩ ⟨Nat.le_of_ble_eq_true rfl, Nat.le_of_ble_eq_true rfl⟩ rfl rfl (Nat.le_of_ble_eq_true rfl) (fun ad' ha => ⟨rfl, rfl⟩) h (c_GR_shared (zln E) D g ad _ _ _ _ _) (fun r7 σ5 ad hE6 h => ?_)
    have hX := hX.trans hE6
    exact za_aret C R hX (Or.inl ⟨_, rfl⟩) (pc := 26) d_GR_inv_26 h
  · refine z_aloadZ_n C (pc := 10) d_GR_inv_10 1 rfl ?_
    refine x_getN (v := zr ad 4 (σ 2 v1)) C 2 (by decide) hc1 hc2 rfl wd_176 (pc := 11) d_GR_inv_11 ?_
    refine z_goto (tgt := 26) C (pc := 14) d_GR_inv_14 (by decide) ?_
    refine zW.widen (k' := 2) (n' := 118) (by decide) (by decide) ?_
    exact za_aret C R hX (Or.inl ⟨_, rfl⟩) (pc := 26) d_GR_inv_26 h
theorem d_GR_nand_0 : decode b_GR_nand 0 = .ok (.aload_n 1, 1) := by decide +kernel
theorem d_GR_nand_1 : decode b_GR_nand 1 = .ok (.aload_n 2, 1) := by decide +kernel
theorem d_GR_nand_2 : decode b_GR_nand 2 = .ok (.if_acmp .ne 9, 3) := by decide +kernel
theorem d_GR_nand_5 : decode b_GR_nand 5 = .ok (.aload_n 0, 1) := by decide +kernel
theorem d_GR_nand_6 : decode b_GR_nand 6 = .ok (.aload_n 1, 1) := by decide +kernel
theorem d_GR_nand_7 : decode b_GR_nand 7 = .ok (.invokevirtual 56, 3) := by decide +kernel
theorem d_GR_nand_10 : decode b_GR_nand 10 = .ok (.areturn, 1) := by decide +kernel
theorem d_GR_nand_11 : decode b_GR_nand 11 = .ok (.aload_n 1, 1) := by decide +kernel
theorem d_GR_nand_12 : decode b_GR_nand 12 = .ok (.getfield 60, 3) := by decide +kernel
theorem d_GR_nand_15 : decode b_GR_nand 15 = .ok (.aload_n 2, 1) := by decide +kernel
theorem d_GR_nand_16 : decode b_GR_nand 16 = .ok (.getfield 60, 3) := by decide +kernel
theorem d_GR_nand_19 : decode b_GR_nand 19 = .ok (.if_icmp .ge 15, 3) := by decide +kernel
theorem d_GR_nand_22 : decode b_GR_nand 22 = .ok (.aload_n 0, 1) := by decide +kernel
theorem d_GR_nand_23 : decode b_GR_nand 23 = .ok (.getstatic 64, 3) := by decide +kernel
theorem d_GR_nand_26 : decode b_GR_nand 26 = .ok (.aload_n 1, 1) := by decide +kernel
theorem d_GR_nand_27 : decode b_GR_nand 27 = .ok (.aload_n 2, 1) := by decide +kernel
theorem d_GR_nand_28 : decode b_GR_nand 28 = .ok (.invokevirtual 52, 3) := by decide +kernel
theorem d_GR_nand_31 : decode b_GR_nand 31 = .ok (.goto 12, 3) := by decide +kernel
theorem d_GR_nand_34 : decode b_GR_nand 34 = .ok (.aload_n 0, 1) := by decide +kernel
theorem d_GR_nand_35 : decode b_GR_nand 35 = .ok (.getstatic 64, 3) := by decide +kernel
theorem d_GR_nand_38 : decode b_GR_nand 38 = .ok (.aload_n 2, 1) := by decide +kernel
theorem d_GR_nand_39 : decode b_GR_nand 39 = .ok (.aload_n 1, 1) := by decide +kernel
theorem d_GR_nand_40 : decode b_GR_nand 40 = .ok (.invokevirtual 52, 3) := by decide +kernel
theorem d_GR_nand_43 : decode b_GR_nand 43 = .ok (.areturn, 1) := by decide +kernel
def wp_GR_nand (Q : Int → zS → Prop) (v1 : Int) (v2 : Int) (σ : zS) : Prop :=
  zvn σ v1 ∧ zvn σ v2 ∧ ((v1 = v2 →
    wp_GR_inv (fun r17 σ15 =>
      Q r17 σ15) v1 σ) ∧
   (¬ v1 = v2 →
    0 ≤ v1 ∧ v1 < σ 70 0 ∧ 
    0 ≤ v2 ∧ v2 < σ 70 0 ∧ 
    zc (σ 0 v1) ∧ zc (σ 0 v2) ∧ ((σ 0 v2 ≤ σ 0 v1 →
      wp_GR_shared (fun r11 σ9 =>
        Q r11 σ9) 2 v2 v1 σ) ∧
     (¬ σ 0 v2 ≤ σ 0 v1 →
      wp_GR_shared (fun r14 σ12 =>
        Q r14 σ12) 2 v1 v2 σ))))
set_option maxHeartbeats 4000000 in
set_option maxRecDepth 100000 in
theorem c_GR_nand (l : Launch) (D : va_G) (g : zG) (ad : zA) (v1 : Int) (v2 : Int) (Q : Int → zS → Prop) (σ : zS) (h : wp_GR_nand Q v1 v2 σ) (sz : Nat) : zHr 4 l y_GR_nand b_GR_nand 3 (some (.object "CellMapper$Node")) { frames := 10, cells := 2, slots := 118, locals := 262 } D g ad σ [.ref (ad (0, 1)), zr ad 4 v1, zr ad 4 v2] Q sz 2 118 := by
  unfold wp_GR_nand at h
  refine zA_of (by decide) (by simp [lg_sl, zr_cat, kv_cat, cat_i, cat_l, cat_r]) (fun E C R S hA => ?_)
  have C : zX E b_GR_nand R_GR D g { frames := 10, cells := 2, slots := 118, locals := 262 } 3 := C
  have hX : zEx ad σ ad σ := zEx.rf
  refine z_sub (L' := [(0, .ref (ad (0, 1))), (1, zr ad 4 v1), (2, zr ad 4 v2)]) [0, 1, 2] (by simp [lv_args, lv_pick, zr_cat, kv_cat, cat_i, cat_l, cat_r]) ?_
  refine z_aloadZ_n C (pc := 0) d_GR_nand_0 1 rfl ?_
  refine z_aloadZ_n C (pc := 1) d_GR_nand_1 2 rfl ?_
  obtain ⟨hc1, hc2, h⟩ := h
  refine z_acmp_ne (tgt := 11) C (pc := 2) d_GR_nand_2 (by decide) hc1 hc2 h (fun h => ?_) (fun h => ?_)
  · refine z_aloadZ_n C (pc := 11) d_GR_nand_11 1 rfl ?_
    obtain ⟨hc3, hc4, h⟩ := h
    refine x_getN (v := .int (zi (σ 0 v1))) C 0 (by decide) hc3 hc4 rfl wd_166 (pc := 12) d_GR_nand_12 ?_
    refine z_aloadZ_n C (pc := 15) d_GR_nand_15 2 rfl ?_
    obtain ⟨hc5, hc6, h⟩ := h
    refine x_getN (v := .int (zi (σ 0 v2))) C 0 (by decide) hc5 hc6 rfl wd_166 (pc := 16) d_GR_nand_16 ?_
    obtain ⟨hc7, hc8, h⟩ := h
    refine z_icmp_ge (tgt := 34) C (pc := 19) d_GR_nand_19 (by decide) hc7 hc8 h (fun h => ?_) (fun h => ?_)
    · refine z_aload_n C (pc := 34) d_GR_nand_34 0 rfl ?_
      refine x_gets C S 2 (by decide) (by decide) rfl wd_357 (pc := 35) d_GR_nand_35 ?_
      refine z_aloadZ_n C (pc := 38) d_GR_nand_38 2 rfl ?_
      refine z_aloadZ_n C (pc := 39) d_GR_nand_39 1 rfl ?_
      refine z_sub (L' := []) [] rfl ?_
      refine xa_callVr (As := [kv g 2, zr ad 4 v2, zr ad 4 v1]) (fun ad => []) (fun ad => []) C S hA fy_GR_shared (0, 1) (zids_fix zfix_1) rfl rfl wd_342 (pc := 40) d_GR_nand_40 ⟨rfl, rfl, Nat.le_of_ble_eq_true rfl, Nat.le_of_ble_eq_true rfl⟩ ⟨Nat.le_of_ble_eq_true rfl, Nat.le_of_ble_eq_true rfl⟩ rfl rfl (Nat.le_of_ble_eq_true rfl) (fun ad' ha => ⟨rfl, rfl⟩) h (c_GR_shared (zln E) D g ad _ _ _ _ _) (fun r11 σ9 ad hE10 h => ?_)
      have hX := hX.trans hE10
      exact za_aret C R hX (Or.inl ⟨_, rfl⟩) (pc := 43) d_GR_nand_43 h
    · refine z_aload_n C (pc := 22) d_GR_nand_22 0 rfl ?_
      refine x_gets C S 2 (by decide) (by decide) rfl wd_357 (pc := 23) d_GR_nand_23 ?_
      refine z_aloadZ_n C (pc := 26) d_GR_nand_26 1 rfl ?_
      refine z_aloadZ_n C (pc := 27) d_GR_nand_27 2 rfl ?_
      refine z_sub (L' := []) [] rfl ?_
      refine xa_callVr (As := [kv g 2, zr ad 4 v1, zr ad 4 v2]) (fun ad => []) (fun ad => []) C S hA fy_GR_shared (0, 1) (zids_fix zfix_1) rfl rfl wd_342 (pc := 28) d_GR_nand_28 ⟨rfl, rfl, Nat.le_of_ble_eq_true rfl, Nat.le_of_ble_eq_true rfl⟩ ⟨Nat.le_of_ble_eq_true rfl, Nat.le_of_ble_eq_true rfl⟩ rfl rfl (Nat.le_of_ble_eq_true rfl) (fun ad' ha => ⟨rfl, rfl⟩) h (c_GR_shared (zln E) D g ad _ _ _ _ _) (fun r14 σ12 ad hE13 h => ?_)
      have hX := hX.trans hE13
      refine z_goto (tgt := 43) C (pc := 31) d_GR_nand_31 (by decide) ?_
      exact za_aret C R hX (Or.inl ⟨_, rfl⟩) (pc := 43) d_GR_nand_43 h
  · refine z_aload_n C (pc := 5) d_GR_nand_5 0 rfl ?_
    refine z_aloadZ_n C (pc := 6) d_GR_nand_6 1 rfl ?_
    refine z_sub (L' := []) [] rfl ?_
    refine xa_callVr (As := [zr ad 4 v1]) (fun ad => []) (fun ad => []) C S hA fy_GR_inv (0, 1) (zids_fix zfix_1) rfl rfl wd_356 (pc := 7) d_GR_nand_7 ⟨rfl, rfl, Nat.le_of_ble_eq_true rfl, Nat.le_of_ble_eq_true rfl⟩ ⟨Nat.le_of_ble_eq_true rfl, Nat.le_of_ble_eq_true rfl⟩ rfl rfl (Nat.le_of_ble_eq_true rfl) (fun ad' ha => ⟨rfl, rfl⟩) h (c_GR_inv (zln E) D g ad _ _ _) (fun r17 σ15 ad hE16 h => ?_)
    have hX := hX.trans hE16
    exact za_aret C R hX (Or.inl ⟨_, rfl⟩) (pc := 10) d_GR_nand_10 h
theorem d_GR_gated_0 : decode b_GR_gated 0 = .ok (.iload_n 3, 1) := by decide +kernel
theorem d_GR_gated_1 : decode b_GR_gated 1 = .ok (.ifCond .ne 14, 3) := by decide +kernel
theorem d_GR_gated_4 : decode b_GR_gated 4 = .ok (.aload_n 0, 1) := by decide +kernel
theorem d_GR_gated_5 : decode b_GR_gated 5 = .ok (.aload_n 0, 1) := by decide +kernel
theorem d_GR_gated_6 : decode b_GR_gated 6 = .ok (.aload_n 1, 1) := by decide +kernel
theorem d_GR_gated_7 : decode b_GR_gated 7 = .ok (.aload_n 2, 1) := by decide +kernel
theorem d_GR_gated_8 : decode b_GR_gated 8 = .ok (.invokevirtual 67, 3) := by decide +kernel
theorem d_GR_gated_11 : decode b_GR_gated 11 = .ok (.invokevirtual 56, 3) := by decide +kernel
theorem d_GR_gated_14 : decode b_GR_gated 14 = .ok (.areturn, 1) := by decide +kernel
theorem d_GR_gated_15 : decode b_GR_gated 15 = .ok (.aload_n 0, 1) := by decide +kernel
theorem d_GR_gated_16 : decode b_GR_gated 16 = .ok (.aload_n 2, 1) := by decide +kernel
theorem d_GR_gated_17 : decode b_GR_gated 17 = .ok (.invokevirtual 56, 3) := by decide +kernel
theorem d_GR_gated_20 : decode b_GR_gated 20 = .ok (.astore 4, 2) := by decide +kernel
theorem d_GR_gated_22 : decode b_GR_gated 22 = .ok (.aload_n 0, 1) := by decide +kernel
theorem d_GR_gated_23 : decode b_GR_gated 23 = .ok (.aload_n 1, 1) := by decide +kernel
theorem d_GR_gated_24 : decode b_GR_gated 24 = .ok (.aload 4, 2) := by decide +kernel
theorem d_GR_gated_26 : decode b_GR_gated 26 = .ok (.invokevirtual 67, 3) := by decide +kernel
theorem d_GR_gated_29 : decode b_GR_gated 29 = .ok (.areturn, 1) := by decide +kernel
def wp_GR_gated (Q : Int → zS → Prop) (v1 : Int) (v2 : Int) (v3 : Int) (σ : zS) : Prop :=
  zc v3 ∧ ((v3 = 0 →
    wp_GR_nand (fun r11 σ9 =>
      wp_GR_inv (fun r14 σ12 =>
        Q r14 σ12) r11 σ9) v1 v2 σ) ∧
   (¬ v3 = 0 →
    zvn σ v1 ∧ wp_GR_inv (fun r4 σ2 =>
      wp_GR_nand (fun r8 σ6 =>
        Q r8 σ6) v1 r4 σ2) v2 σ))
set_option maxHeartbeats 4000000 in
set_option maxRecDepth 100000 in
theorem c_GR_gated (l : Launch) (D : va_G) (g : zG) (ad : zA) (v1 : Int) (v2 : Int) (v3 : Int) (Q : Int → zS → Prop) (σ : zS) (h : wp_GR_gated Q v1 v2 v3 σ) (sz : Nat) : zHr 4 l y_GR_gated b_GR_gated 5 (some (.object "CellMapper$Node")) { frames := 11, cells := 4, slots := 236, locals := 284 } D g ad σ [.ref (ad (0, 1)), zr ad 4 v1, zr ad 4 v2, .int (zi v3)] Q sz 4 236 := by
  unfold wp_GR_gated at h
  refine zA_of (by decide) (by simp [lg_sl, zr_cat, kv_cat, cat_i, cat_l, cat_r]) (fun E C R S hA => ?_)
  have C : zX E b_GR_gated R_GR D g { frames := 11, cells := 4, slots := 236, locals := 284 } 5 := C
  have hX : zEx ad σ ad σ := zEx.rf
  refine z_sub (L' := [(0, .ref (ad (0, 1))), (1, zr ad 4 v1), (2, zr ad 4 v2), (3, .int (zi v3))]) [0, 1, 2, 3] (by simp [lv_args, lv_pick, zr_cat, kv_cat, cat_i, cat_l, cat_r]) ?_
  refine z_iload_n C (pc := 0) d_GR_gated_0 3 rfl ?_
  obtain ⟨hc1, h⟩ := h
  refine z_if_ne (tgt := 15) C (pc := 1) d_GR_gated_1 (by decide) hc1 h (fun h => ?_) (fun h => ?_)
  · refine z_aload_n C (pc := 15) d_GR_gated_15 0 rfl ?_
    refine z_aloadZ_n C (pc := 16) d_GR_gated_16 2 rfl ?_
    refine z_sub (L' := [(0, .ref (ad (0, 1))), (1, zr ad 4 v1)]) [0, 1] rfl ?_
    obtain ⟨hc5, h⟩ := h
    refine xa_callVr (As := [zr ad 4 v2]) (fun ad => [(0, .ref (ad (0, 1))), (1, zr ad 4 v1)]) (fun ad => []) C S hA fy_GR_inv (0, 1) (zids_fix zfix_1) rfl rfl wd_356 (pc := 17) d_GR_gated_17 ⟨rfl, rfl, Nat.le_of_ble_eq_true rfl, Nat.le_of_ble_eq_true rfl⟩ ⟨Nat.le_of_ble_eq_true rfl, Nat.le_of_ble_eq_true rfl⟩ rfl rfl (Nat.le_of_ble_eq_true rfl) (fun ad' ha => ⟨by simp only [zo_ag ha zfix_1 (by decide), zr_ag (x := v1) ha hc5], rfl⟩) h (c_GR_inv (zln E) D g ad _ _ _) (fun r4 σ2 ad hE3 h => ?_)
    have hX := hX.trans hE3
    refine z_astoreZ (L' := [(4, zr ad 4 r4), (0, .ref (ad (0, 1))), (1, zr ad 4 v1)]) C (pc := 20) d_GR_gated_20 (by decide) rfl ?_
    refine z_aload_n C (pc := 22) d_GR_gated_22 1 rfl ?_
    refine z_aloadZ_n C (pc := 23) d_GR_gated_23 2 rfl ?_
    refine z_aloadZ C (pc := 24) d_GR_gated_24 0 rfl ?_
    refine z_sub (L' := []) [] rfl ?_
    refine xa_callVr (As := [zr ad 4 v1, zr ad 4 r4]) (fun ad => []) (fun ad => []) C S hA fy_GR_nand (0, 1) (zids_fix zfix_1) rfl rfl wd_352 (pc := 26) d_GR_gated_26 ⟨rfl, rfl, Nat.le_of_ble_eq_true rfl, Nat.le_of_ble_eq_true rfl⟩ ⟨Nat.le_of_ble_eq_true rfl, Nat.le_of_ble_eq_true rfl⟩ rfl rfl (Nat.le_of_ble_eq_true rfl) (fun ad' ha => ⟨rfl, rfl⟩) h (c_GR_nand (zln E) D g ad _ _ _ _) (fun r8 σ6 ad hE7 h => ?_)
    have hX := hX.trans hE7
    exact za_aret C R hX (Or.inl ⟨_, rfl⟩) (pc := 29) d_GR_gated_29 h
  · refine z_aload_n C (pc := 4) d_GR_gated_4 0 rfl ?_
    refine z_aload_n C (pc := 5) d_GR_gated_5 0 rfl ?_
    refine z_aloadZ_n C (pc := 6) d_GR_gated_6 1 rfl ?_
    refine z_aloadZ_n C (pc := 7) d_GR_gated_7 2 rfl ?_
    refine z_sub (L' := []) [] rfl ?_
    refine xa_callVr (As := [zr ad 4 v1, zr ad 4 v2]) (fun ad => []) (fun ad => [.ref (ad (0, 1))]) C S hA fy_GR_nand (0, 1) (zids_fix zfix_1) rfl rfl wd_352 (pc := 8) d_GR_gated_8 ⟨rfl, rfl, Nat.le_of_ble_eq_true rfl, Nat.le_of_ble_eq_true rfl⟩ ⟨Nat.le_of_ble_eq_true rfl, Nat.le_of_ble_eq_true rfl⟩ rfl rfl (Nat.le_of_ble_eq_true rfl) (fun ad' ha => ⟨rfl, by simp only [zo_ag ha zfix_1 (by decide)]⟩) h (c_GR_nand (zln E) D g ad _ _ _ _) (fun r11 σ9 ad hE10 h => ?_)
    have hX := hX.trans hE10
    refine xa_callVr (As := [zr ad 4 r11]) (fun ad => []) (fun ad => []) C S hA fy_GR_inv (0, 1) (zids_fix zfix_1) rfl rfl wd_356 (pc := 11) d_GR_gated_11 ⟨rfl, rfl, Nat.le_of_ble_eq_true rfl, Nat.le_of_ble_eq_true rfl⟩ ⟨Nat.le_of_ble_eq_true rfl, Nat.le_of_ble_eq_true rfl⟩ rfl rfl (Nat.le_of_ble_eq_true rfl) (fun ad' ha => ⟨rfl, rfl⟩) h (c_GR_inv (zln E) D g ad _ _ _) (fun r14 σ12 ad hE13 h => ?_)
    have hX := hX.trans hE13
    exact za_aret C R hX (Or.inl ⟨_, rfl⟩) (pc := 14) d_GR_gated_14 h
